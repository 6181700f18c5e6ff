set_option maxRecDepth 100000
/-! PeerSearchModel.behindLookup(I)V -/
theorem dX16_behindLookup_0 : decode cX16_behindLookup 0 = .ok (.aload_n 0, 1) := by decide +kernel
theorem dX16_behindLookup_1 : decode cX16_behindLookup 1 = .ok (.getfield 228, 3) := by decide +kernel
theorem dX16_behindLookup_4 : decode cX16_behindLookup 4 = .ok (.iload_n 1, 1) := by decide +kernel
theorem dX16_behindLookup_5 : decode cX16_behindLookup 5 = .ok (.iaload, 1) := by decide +kernel
theorem dX16_behindLookup_6 : decode cX16_behindLookup 6 = .ok (.istore_n 2, 1) := by decide +kernel
theorem dX16_behindLookup_7 : decode cX16_behindLookup 7 = .ok (.iload_n 2, 1) := by decide +kernel
theorem dX16_behindLookup_8 : decode cX16_behindLookup 8 = .ok (.ifCond .ne 20, 3) := by decide +kernel
theorem dX16_behindLookup_11 : decode cX16_behindLookup 11 = .ok (.aload_n 0, 1) := by decide +kernel
theorem dX16_behindLookup_12 : decode cX16_behindLookup 12 = .ok (.getfield 273, 3) := by decide +kernel
theorem dX16_behindLookup_15 : decode cX16_behindLookup 15 = .ok (.iload_n 1, 1) := by decide +kernel
theorem dX16_behindLookup_16 : decode cX16_behindLookup 16 = .ok (.iaload, 1) := by decide +kernel
theorem dX16_behindLookup_17 : decode cX16_behindLookup 17 = .ok (.ifCond .ge 11, 3) := by decide +kernel
theorem dX16_behindLookup_20 : decode cX16_behindLookup 20 = .ok (.aload_n 0, 1) := by decide +kernel
theorem dX16_behindLookup_21 : decode cX16_behindLookup 21 = .ok (.iload_n 1, 1) := by decide +kernel
theorem dX16_behindLookup_22 : decode cX16_behindLookup 22 = .ok (.invokevirtual 653, 3) := by decide +kernel
theorem dX16_behindLookup_25 : decode cX16_behindLookup 25 = .ok (.goto 158, 3) := by decide +kernel
theorem dX16_behindLookup_28 : decode cX16_behindLookup 28 = .ok (.iload_n 2, 1) := by decide +kernel
theorem dX16_behindLookup_29 : decode cX16_behindLookup 29 = .ok (.ifCond .eq 8, 3) := by decide +kernel
theorem dX16_behindLookup_32 : decode cX16_behindLookup 32 = .ok (.iload_n 2, 1) := by decide +kernel
theorem dX16_behindLookup_33 : decode cX16_behindLookup 33 = .ok (.iconst 4, 1) := by decide +kernel
theorem dX16_behindLookup_34 : decode cX16_behindLookup 34 = .ok (.if_icmp .ne 21, 3) := by decide +kernel
theorem dX16_behindLookup_37 : decode cX16_behindLookup 37 = .ok (.aload_n 0, 1) := by decide +kernel
theorem dX16_behindLookup_38 : decode cX16_behindLookup 38 = .ok (.getfield 273, 3) := by decide +kernel
theorem dX16_behindLookup_41 : decode cX16_behindLookup 41 = .ok (.iload_n 1, 1) := by decide +kernel
theorem dX16_behindLookup_42 : decode cX16_behindLookup 42 = .ok (.dup2, 1) := by decide +kernel
theorem dX16_behindLookup_43 : decode cX16_behindLookup 43 = .ok (.iaload, 1) := by decide +kernel
theorem dX16_behindLookup_44 : decode cX16_behindLookup 44 = .ok (.iconst 1, 1) := by decide +kernel
theorem dX16_behindLookup_45 : decode cX16_behindLookup 45 = .ok (.iadd, 1) := by decide +kernel
theorem dX16_behindLookup_46 : decode cX16_behindLookup 46 = .ok (.iastore, 1) := by decide +kernel
theorem dX16_behindLookup_47 : decode cX16_behindLookup 47 = .ok (.aload_n 0, 1) := by decide +kernel
theorem dX16_behindLookup_48 : decode cX16_behindLookup 48 = .ok (.iload_n 1, 1) := by decide +kernel
theorem dX16_behindLookup_49 : decode cX16_behindLookup 49 = .ok (.invokevirtual 656, 3) := by decide +kernel
theorem dX16_behindLookup_52 : decode cX16_behindLookup 52 = .ok (.goto 131, 3) := by decide +kernel
theorem dX16_behindLookup_55 : decode cX16_behindLookup 55 = .ok (.iload_n 2, 1) := by decide +kernel
theorem dX16_behindLookup_56 : decode cX16_behindLookup 56 = .ok (.iconst 1, 1) := by decide +kernel
theorem dX16_behindLookup_57 : decode cX16_behindLookup 57 = .ok (.if_icmp .ne 108, 3) := by decide +kernel
theorem dX16_behindLookup_60 : decode cX16_behindLookup 60 = .ok (.aload_n 0, 1) := by decide +kernel
theorem dX16_behindLookup_61 : decode cX16_behindLookup 61 = .ok (.getfield 234, 3) := by decide +kernel
theorem dX16_behindLookup_64 : decode cX16_behindLookup 64 = .ok (.iload_n 1, 1) := by decide +kernel
theorem dX16_behindLookup_65 : decode cX16_behindLookup 65 = .ok (.iaload, 1) := by decide +kernel
theorem dX16_behindLookup_66 : decode cX16_behindLookup 66 = .ok (.istore_n 3, 1) := by decide +kernel
theorem dX16_behindLookup_67 : decode cX16_behindLookup 67 = .ok (.aload_n 0, 1) := by decide +kernel
theorem dX16_behindLookup_68 : decode cX16_behindLookup 68 = .ok (.getfield 354, 3) := by decide +kernel
theorem dX16_behindLookup_71 : decode cX16_behindLookup 71 = .ok (.iload_n 3, 1) := by decide +kernel
theorem dX16_behindLookup_72 : decode cX16_behindLookup 72 = .ok (.aload_n 0, 1) := by decide +kernel
theorem dX16_behindLookup_73 : decode cX16_behindLookup 73 = .ok (.getfield 628, 3) := by decide +kernel
theorem dX16_behindLookup_76 : decode cX16_behindLookup 76 = .ok (.iastore, 1) := by decide +kernel
theorem dX16_behindLookup_77 : decode cX16_behindLookup 77 = .ok (.iconst 0, 1) := by decide +kernel
theorem dX16_behindLookup_78 : decode cX16_behindLookup 78 = .ok (.istore 4, 2) := by decide +kernel
theorem dX16_behindLookup_80 : decode cX16_behindLookup 80 = .ok (.iload 4, 2) := by decide +kernel
theorem dX16_behindLookup_82 : decode cX16_behindLookup 82 = .ok (.aload_n 0, 1) := by decide +kernel
theorem dX16_behindLookup_83 : decode cX16_behindLookup 83 = .ok (.getfield 628, 3) := by decide +kernel
theorem dX16_behindLookup_86 : decode cX16_behindLookup 86 = .ok (.if_icmp .ge 70, 3) := by decide +kernel
theorem dX16_behindLookup_89 : decode cX16_behindLookup 89 = .ok (.aload_n 0, 1) := by decide +kernel
theorem dX16_behindLookup_90 : decode cX16_behindLookup 90 = .ok (.getfield 358, 3) := by decide +kernel
theorem dX16_behindLookup_93 : decode cX16_behindLookup 93 = .ok (.sipush 180, 3) := by decide +kernel
theorem dX16_behindLookup_96 : decode cX16_behindLookup 96 = .ok (.iload_n 3, 1) := by decide +kernel
theorem dX16_behindLookup_97 : decode cX16_behindLookup 97 = .ok (.imul, 1) := by decide +kernel
theorem dX16_behindLookup_98 : decode cX16_behindLookup 98 = .ok (.bipush 6, 2) := by decide +kernel
theorem dX16_behindLookup_100 : decode cX16_behindLookup 100 = .ok (.iload 4, 2) := by decide +kernel
theorem dX16_behindLookup_102 : decode cX16_behindLookup 102 = .ok (.imul, 1) := by decide +kernel
theorem dX16_behindLookup_103 : decode cX16_behindLookup 103 = .ok (.iadd, 1) := by decide +kernel
theorem dX16_behindLookup_104 : decode cX16_behindLookup 104 = .ok (.aload_n 0, 1) := by decide +kernel
theorem dX16_behindLookup_105 : decode cX16_behindLookup 105 = .ok (.getfield 255, 3) := by decide +kernel
theorem dX16_behindLookup_108 : decode cX16_behindLookup 108 = .ok (.aload_n 0, 1) := by decide +kernel
theorem dX16_behindLookup_109 : decode cX16_behindLookup 109 = .ok (.getfield 267, 3) := by decide +kernel
theorem dX16_behindLookup_112 : decode cX16_behindLookup 112 = .ok (.iload 4, 2) := by decide +kernel
theorem dX16_behindLookup_114 : decode cX16_behindLookup 114 = .ok (.iaload, 1) := by decide +kernel
theorem dX16_behindLookup_115 : decode cX16_behindLookup 115 = .ok (.iaload, 1) := by decide +kernel
theorem dX16_behindLookup_116 : decode cX16_behindLookup 116 = .ok (.iastore, 1) := by decide +kernel
theorem dX16_behindLookup_117 : decode cX16_behindLookup 117 = .ok (.aload_n 0, 1) := by decide +kernel
theorem dX16_behindLookup_118 : decode cX16_behindLookup 118 = .ok (.getfield 358, 3) := by decide +kernel
theorem dX16_behindLookup_121 : decode cX16_behindLookup 121 = .ok (.sipush 180, 3) := by decide +kernel
theorem dX16_behindLookup_124 : decode cX16_behindLookup 124 = .ok (.iload_n 3, 1) := by decide +kernel
theorem dX16_behindLookup_125 : decode cX16_behindLookup 125 = .ok (.imul, 1) := by decide +kernel
theorem dX16_behindLookup_126 : decode cX16_behindLookup 126 = .ok (.bipush 6, 2) := by decide +kernel
theorem dX16_behindLookup_128 : decode cX16_behindLookup 128 = .ok (.iload 4, 2) := by decide +kernel
theorem dX16_behindLookup_130 : decode cX16_behindLookup 130 = .ok (.imul, 1) := by decide +kernel
theorem dX16_behindLookup_131 : decode cX16_behindLookup 131 = .ok (.iadd, 1) := by decide +kernel
theorem dX16_behindLookup_132 : decode cX16_behindLookup 132 = .ok (.iconst 1, 1) := by decide +kernel
theorem dX16_behindLookup_133 : decode cX16_behindLookup 133 = .ok (.iadd, 1) := by decide +kernel
theorem dX16_behindLookup_134 : decode cX16_behindLookup 134 = .ok (.aload_n 0, 1) := by decide +kernel
theorem dX16_behindLookup_135 : decode cX16_behindLookup 135 = .ok (.getfield 252, 3) := by decide +kernel
theorem dX16_behindLookup_138 : decode cX16_behindLookup 138 = .ok (.iconst 5, 1) := by decide +kernel
theorem dX16_behindLookup_139 : decode cX16_behindLookup 139 = .ok (.aload_n 0, 1) := by decide +kernel
theorem dX16_behindLookup_140 : decode cX16_behindLookup 140 = .ok (.getfield 267, 3) := by decide +kernel
theorem dX16_behindLookup_143 : decode cX16_behindLookup 143 = .ok (.iload 4, 2) := by decide +kernel
theorem dX16_behindLookup_145 : decode cX16_behindLookup 145 = .ok (.iaload, 1) := by decide +kernel
theorem dX16_behindLookup_146 : decode cX16_behindLookup 146 = .ok (.imul, 1) := by decide +kernel
theorem dX16_behindLookup_147 : decode cX16_behindLookup 147 = .ok (.invokestatic 438, 3) := by decide +kernel
theorem dX16_behindLookup_150 : decode cX16_behindLookup 150 = .ok (.iinc 4 1, 3) := by decide +kernel
theorem dX16_behindLookup_153 : decode cX16_behindLookup 153 = .ok (.goto (-73), 3) := by decide +kernel
theorem dX16_behindLookup_156 : decode cX16_behindLookup 156 = .ok (.aload_n 0, 1) := by decide +kernel
theorem dX16_behindLookup_157 : decode cX16_behindLookup 157 = .ok (.iload_n 1, 1) := by decide +kernel
theorem dX16_behindLookup_158 : decode cX16_behindLookup 158 = .ok (.iconst 1, 1) := by decide +kernel
theorem dX16_behindLookup_159 : decode cX16_behindLookup 159 = .ok (.invokevirtual 659, 3) := by decide +kernel
theorem dX16_behindLookup_162 : decode cX16_behindLookup 162 = .ok (.goto 21, 3) := by decide +kernel
theorem dX16_behindLookup_165 : decode cX16_behindLookup 165 = .ok (.iload_n 2, 1) := by decide +kernel
theorem dX16_behindLookup_166 : decode cX16_behindLookup 166 = .ok (.iconst 2, 1) := by decide +kernel
theorem dX16_behindLookup_167 : decode cX16_behindLookup 167 = .ok (.if_icmp .ne 11, 3) := by decide +kernel
theorem dX16_behindLookup_170 : decode cX16_behindLookup 170 = .ok (.aload_n 0, 1) := by decide +kernel
theorem dX16_behindLookup_171 : decode cX16_behindLookup 171 = .ok (.iload_n 1, 1) := by decide +kernel
theorem dX16_behindLookup_172 : decode cX16_behindLookup 172 = .ok (.invokevirtual 662, 3) := by decide +kernel
theorem dX16_behindLookup_175 : decode cX16_behindLookup 175 = .ok (.goto 8, 3) := by decide +kernel
theorem dX16_behindLookup_178 : decode cX16_behindLookup 178 = .ok (.aload_n 0, 1) := by decide +kernel
theorem dX16_behindLookup_179 : decode cX16_behindLookup 179 = .ok (.iload_n 1, 1) := by decide +kernel
theorem dX16_behindLookup_180 : decode cX16_behindLookup 180 = .ok (.invokevirtual 665, 3) := by decide +kernel
theorem dX16_behindLookup_183 : decode cX16_behindLookup 183 = .ok (.return_, 1) := by decide +kernel
def j_X16_behindLookup_183 (V : VV) : Option (VV) :=
  some V
def j_X16_behindLookup_156 (x1 : Int) (V : VV) : Option (VV) :=
  (f_X16_close x1 1 V).bind fun V1 =>
  j_X16_behindLookup_183 V1
def b_X16_behindLookup_80 (x1 x3 x4 : Int) (V : VV) : Option ((Int × VV) ⊕ (VV)) :=
  if w32 x4 < w32 (w32 (V 156 106)) then
    (l2 240 21 x4 V).bind fun v1 =>
    (l2 236 2860 v1 V).bind fun v2 =>
    (s2 270 46080 ((180 * x3) + (6 * x4)) v2 V).bind fun V1 =>
    (l2 240 21 x4 V1).bind fun v3 =>
    (f_X16_put 270 (((180 * x3) + (6 * x4)) + 1) 235 (5 * v3) V1).bind fun V2 =>
    cnt (x4 + 1, V2)
  else
    xit (j_X16_behindLookup_156 x1 V)
def l_X16_behindLookup_80 (x1 x3 x4 : Int) (V : VV) : Option (VV) := lpN (fun s : Int × VV => b_X16_behindLookup_80 x1 x3 s.1 s.2) FU (x4, V)
def j_X16_behindLookup_37 (x1 : Int) (V : VV) : Option (VV) :=
  (l2 242 44 x1 V).bind fun v1 =>
  (s2 242 44 x1 (v1 + 1) V).bind fun V1 =>
  (f_X16_refreshOn x1 V1).bind fun V2 =>
  j_X16_behindLookup_183 V2
def j_X16_behindLookup_28 (x1 x2 : Int) (V : VV) : Option (VV) :=
  if w32 x2 = 0 then
    j_X16_behindLookup_37 x1 V
  else
    if w32 x2 = w32 4 then
      j_X16_behindLookup_37 x1 V
    else
      if w32 x2 = w32 1 then
        (l2 229 44 x1 V).bind fun v1 =>
        (s2 269 256 v1 (w32 (V 156 106)) V).bind fun V3 =>
        l_X16_behindLookup_80 x1 v1 0 V3
      else
        if w32 x2 = w32 2 then
          (f_X16_storeAll x1 V).bind fun V2 =>
          j_X16_behindLookup_183 V2
        else
          (f_X16_holder x1 V).bind fun V1 =>
          j_X16_behindLookup_183 V1
def f_X16_behindLookup (x1 : Int) (V : VV) : Option (VV) :=
  (l2 227 44 x1 V).bind fun v1 =>
  if w32 v1 = 0 then
    (l2 242 44 x1 V).bind fun v2 =>
    if w32 v2 < 0 then
      (f_X16_beginRefresh x1 V).bind fun V1 =>
      j_X16_behindLookup_183 V1
    else
      j_X16_behindLookup_28 x1 v1 V
  else
    j_X16_behindLookup_28 x1 v1 V
theorem s_X16_behindLookup_183 {g : GG} {d : Nat} (hD : 7 ≤ d) {M : MM} (hM : LM M) {V : VV} {o : AV × MM} {P : (VV) → Prop} (r0 : ∀ r : VV, P r → o = ((9, 0), (wr M r))) {z : VV} (h : j_X16_behindLookup_183 V = some z) (hz : P z) : Sem g d YX16_behindLookup 183 [(9, 0), (9, 0), (9, 0), (9, 0), (9, 0)] [] (wr M V) o := by
  delta j_X16_behindLookup_183 at h
  obtain rfl := r0 _ (some_P (P := fun r => P r) h hz)
  exact S_return dX16_behindLookup_183 rfl
theorem s_X16_behindLookup_156 {g : GG} {d : Nat} (hD : 7 ≤ d) {x1 : Int} {M : MM} (hM : LM M) {V : VV} {o : AV × MM} {P : (VV) → Prop} (r0 : ∀ r : VV, P r → o = ((9, 0), (wr M r))) {z : VV} (h : j_X16_behindLookup_156 x1 V = some z) (hz : P z) : Sem g d YX16_behindLookup 156 [(1, 156), (0, x1), (9, 0), (9, 0), (9, 0)] [] (wr M V) o := by
  delta j_X16_behindLookup_156 at h
  refine S_aload_n (i := 0) dX16_behindLookup_156 rfl rfl ?_
  refine S_iload_n (i := 1) dX16_behindLookup_157 rfl rfl ?_
  refine S_iconst dX16_behindLookup_158 rfl ?_
  refine P2_invVm hM [(0, x1), (0, 1)] [] CVX16_close MLX16_659 dX16_behindLookup_159 rfl rfl rfl rfl (by omega) h (fun r h => F_X16_close (by omega) hM h) (fun V1 h => ?_)
  refine S_goto (tgt := 183) dX16_behindLookup_162 rfl ?_
  refine S_weak (ls' := [(9, 0), (9, 0), (9, 0), (9, 0), (9, 0)]) ⟨Or.inl rfl, ⟨Or.inl rfl, ⟨Or.inl rfl, ⟨Or.inl rfl, ⟨Or.inl rfl, trivial⟩⟩⟩⟩⟩ ?_
  exact s_X16_behindLookup_183 hD hM r0 h hz
theorem s_X16_behindLookup_80 {g : GG} {d : Nat} (hD : 7 ≤ d) {x1 x3 x4 : Int} {M : MM} (hM : LM M) {V : VV} {o : AV × MM} {P : ((Int × VV) ⊕ (VV)) → Prop} (c0 : ∀ s : Int × VV, P (.inl s) → Sem g d YX16_behindLookup 80 [(1, 156), (0, x1), (9, 0), (0, x3), (0, s.1)] [] (wr M s.2) o) (r0 : ∀ r : VV, P (.inr r) → o = ((9, 0), (wr M r))) {z : (Int × VV) ⊕ (VV)} (h : b_X16_behindLookup_80 x1 x3 x4 V = some z) (hz : P z) : Sem g d YX16_behindLookup 80 [(1, 156), (0, x1), (9, 0), (0, x3), (0, x4)] [] (wr M V) o := by
  delta b_X16_behindLookup_80 at h
  refine S_iload dX16_behindLookup_80 rfl ?_
  refine S_aload_n (i := 0) dX16_behindLookup_82 rfl rfl ?_
  refine P2_gfi hM FLX16_628 rfl dX16_behindLookup_83 ?_
  refine P_icmp_ge (tgt := 156) dX16_behindLookup_86 rfl h (fun h => ?_) (fun h => ?_)
  · refine S_weak (ls' := [(1, 156), (0, x1), (9, 0), (9, 0), (9, 0)]) ⟨Or.inr rfl, ⟨Or.inr rfl, ⟨Or.inl rfl, ⟨Or.inl rfl, ⟨Or.inl rfl, trivial⟩⟩⟩⟩⟩ ?_
    obtain ⟨z0, h, hz⟩ := xit_some' (P := fun r => P r) h hz
    exact s_X16_behindLookup_156 hD hM (P := fun r => P (.inr r)) r0 h hz
  · refine S_aload_n (i := 0) dX16_behindLookup_89 rfl rfl ?_
    refine P2_gfr hM (a := 270) FLX16_358 rfl ⟨rfl, rfl⟩ dX16_behindLookup_90 ?_
    refine S_sipush (z := 180) dX16_behindLookup_93 rfl ?_
    refine S_iload_n (i := 3) dX16_behindLookup_96 rfl rfl ?_
    refine S_imul dX16_behindLookup_97 ?_
    refine S_bipush (z := 6) dX16_behindLookup_98 rfl ?_
    refine S_iload dX16_behindLookup_100 rfl ?_
    refine S_imul dX16_behindLookup_102 ?_
    refine S_iadd dX16_behindLookup_103 ?_
    refine S_aload_n (i := 0) dX16_behindLookup_104 rfl rfl ?_
    refine P2_gfr hM (a := 236) FLX16_255 rfl ⟨rfl, rfl⟩ dX16_behindLookup_105 ?_
    refine S_aload_n (i := 0) dX16_behindLookup_108 rfl rfl ?_
    refine P2_gfr hM (a := 240) FLX16_267 rfl ⟨rfl, rfl⟩ dX16_behindLookup_109 ?_
    refine S_iload dX16_behindLookup_112 rfl ?_
    refine P2_lai hM (a := 240) (n := 21) rfl dX16_behindLookup_114 h (fun v1 h => ?_)
    refine P2_lai hM (a := 236) (n := 2860) rfl dX16_behindLookup_115 h (fun v2 h => ?_)
    refine P2_sai hM (a := 270) (n := 46080) rfl dX16_behindLookup_116 h (fun V1 h => ?_)
    refine S_aload_n (i := 0) dX16_behindLookup_117 rfl rfl ?_
    refine P2_gfr hM (a := 270) FLX16_358 rfl ⟨rfl, rfl⟩ dX16_behindLookup_118 ?_
    refine S_sipush (z := 180) dX16_behindLookup_121 rfl ?_
    refine S_iload_n (i := 3) dX16_behindLookup_124 rfl rfl ?_
    refine S_imul dX16_behindLookup_125 ?_
    refine S_bipush (z := 6) dX16_behindLookup_126 rfl ?_
    refine S_iload dX16_behindLookup_128 rfl ?_
    refine S_imul dX16_behindLookup_130 ?_
    refine S_iadd dX16_behindLookup_131 ?_
    refine S_iconst dX16_behindLookup_132 rfl ?_
    refine S_iadd dX16_behindLookup_133 ?_
    refine S_aload_n (i := 0) dX16_behindLookup_134 rfl rfl ?_
    refine P2_gfr hM (a := 235) FLX16_252 rfl ⟨rfl, rfl⟩ dX16_behindLookup_135 ?_
    refine S_iconst dX16_behindLookup_138 rfl ?_
    refine S_aload_n (i := 0) dX16_behindLookup_139 rfl rfl ?_
    refine P2_gfr hM (a := 240) FLX16_267 rfl ⟨rfl, rfl⟩ dX16_behindLookup_140 ?_
    refine S_iload dX16_behindLookup_143 rfl ?_
    refine P2_lai hM (a := 240) (n := 21) rfl dX16_behindLookup_145 h (fun v3 h => ?_)
    refine S_imul dX16_behindLookup_146 ?_
    refine P2_invSm hM [(1, 270), (0, ((180 * x3) + (6 * x4)) + 1), (1, 235), (0, 5 * v3)] [] CSX16_put MLX16_438 dX16_behindLookup_147 rfl rfl rfl rfl (by omega) h (fun r h => F_X16_put (by omega) hM h) (fun V2 h => ?_)
    refine S_iinc dX16_behindLookup_150 rfl rfl rfl ?_
    change Sem g d YX16_behindLookup 153 [(1, 156), (0, x1), (9, 0), (0, x3), (0, x4 + 1)] [] (wr M V2) o
    refine S_goto (tgt := 80) dX16_behindLookup_153 rfl ?_
    exact c0 (x4 + 1, V2) (some_P (P := fun r => P r) h hz)
theorem sl_X16_behindLookup_80 {g : GG} {d : Nat} (hD : 7 ≤ d) {x1 x3 x4 : Int} {M : MM} (hM : LM M) {V : VV} {o : AV × MM} {P : (VV) → Prop} (r0 : ∀ r : VV, P r → o = ((9, 0), (wr M r))) {z : VV} (h : l_X16_behindLookup_80 x1 x3 x4 V = some z) (hz : P z) : Sem g d YX16_behindLookup 80 [(1, 156), (0, x1), (9, 0), (0, x3), (0, x4)] [] (wr M V) o := by
  refine lp_sound (S := fun s : Int × VV => Sem g d YX16_behindLookup 80 [(1, 156), (0, x1), (9, 0), (0, x3), (0, s.1)] [] (wr M s.2) o) (P := P) ?_ FU (x4, V) z h hz
  intro s x hx hP
  exact s_X16_behindLookup_80 hD hM (P := Sum.elim (fun s : Int × VV => Sem g d YX16_behindLookup 80 [(1, 156), (0, x1), (9, 0), (0, x3), (0, s.1)] [] (wr M s.2) o) P) (fun s h => h) (fun s h => r0 s h) hx hP
theorem s_X16_behindLookup_37 {g : GG} {d : Nat} (hD : 7 ≤ d) {x1 : Int} {M : MM} (hM : LM M) {V : VV} {o : AV × MM} {P : (VV) → Prop} (r0 : ∀ r : VV, P r → o = ((9, 0), (wr M r))) {z : VV} (h : j_X16_behindLookup_37 x1 V = some z) (hz : P z) : Sem g d YX16_behindLookup 37 [(1, 156), (0, x1), (9, 0), (9, 0), (9, 0)] [] (wr M V) o := by
  delta j_X16_behindLookup_37 at h
  refine S_aload_n (i := 0) dX16_behindLookup_37 rfl rfl ?_
  refine P2_gfr hM (a := 242) FLX16_273 rfl ⟨rfl, rfl⟩ dX16_behindLookup_38 ?_
  refine S_iload_n (i := 1) dX16_behindLookup_41 rfl rfl ?_
  refine S_dup2 dX16_behindLookup_42 (Nat.le_of_ble_eq_true rfl) (Nat.le_of_ble_eq_true rfl) ?_
  refine P2_lai hM (a := 242) (n := 44) rfl dX16_behindLookup_43 h (fun v1 h => ?_)
  refine S_iconst dX16_behindLookup_44 rfl ?_
  refine S_iadd dX16_behindLookup_45 ?_
  refine P2_sai hM (a := 242) (n := 44) rfl dX16_behindLookup_46 h (fun V1 h => ?_)
  refine S_aload_n (i := 0) dX16_behindLookup_47 rfl rfl ?_
  refine S_iload_n (i := 1) dX16_behindLookup_48 rfl rfl ?_
  refine P2_invVm hM [(0, x1)] [] CVX16_refreshOn MLX16_656 dX16_behindLookup_49 rfl rfl rfl rfl (by omega) h (fun r h => F_X16_refreshOn (by omega) hM h) (fun V2 h => ?_)
  refine S_goto (tgt := 183) dX16_behindLookup_52 rfl ?_
  refine S_weak (ls' := [(9, 0), (9, 0), (9, 0), (9, 0), (9, 0)]) ⟨Or.inl rfl, ⟨Or.inl rfl, ⟨Or.inl rfl, ⟨Or.inl rfl, ⟨Or.inl rfl, trivial⟩⟩⟩⟩⟩ ?_
  exact s_X16_behindLookup_183 hD hM r0 h hz
theorem s_X16_behindLookup_28 {g : GG} {d : Nat} (hD : 7 ≤ d) {x1 x2 : Int} {M : MM} (hM : LM M) {V : VV} {o : AV × MM} {P : (VV) → Prop} (r0 : ∀ r : VV, P r → o = ((9, 0), (wr M r))) {z : VV} (h : j_X16_behindLookup_28 x1 x2 V = some z) (hz : P z) : Sem g d YX16_behindLookup 28 [(1, 156), (0, x1), (0, x2), (9, 0), (9, 0)] [] (wr M V) o := by
  delta j_X16_behindLookup_28 at h
  refine S_iload_n (i := 2) dX16_behindLookup_28 rfl rfl ?_
  refine P_if_eq (tgt := 37) dX16_behindLookup_29 rfl h (fun h => ?_) (fun h => ?_)
  · refine S_weak (ls' := [(1, 156), (0, x1), (9, 0), (9, 0), (9, 0)]) ⟨Or.inr rfl, ⟨Or.inr rfl, ⟨Or.inl rfl, ⟨Or.inl rfl, ⟨Or.inl rfl, trivial⟩⟩⟩⟩⟩ ?_
    exact s_X16_behindLookup_37 hD hM r0 h hz
  · refine S_iload_n (i := 2) dX16_behindLookup_32 rfl rfl ?_
    refine S_iconst dX16_behindLookup_33 rfl ?_
    refine P_icmp_ne (tgt := 55) dX16_behindLookup_34 rfl h (fun h => ?_) (fun h => ?_)
    · refine S_iload_n (i := 2) dX16_behindLookup_55 rfl rfl ?_
      refine S_iconst dX16_behindLookup_56 rfl ?_
      refine P_icmp_ne (tgt := 165) dX16_behindLookup_57 rfl h (fun h => ?_) (fun h => ?_)
      · refine S_iload_n (i := 2) dX16_behindLookup_165 rfl rfl ?_
        refine S_iconst dX16_behindLookup_166 rfl ?_
        refine P_icmp_ne (tgt := 178) dX16_behindLookup_167 rfl h (fun h => ?_) (fun h => ?_)
        · refine S_aload_n (i := 0) dX16_behindLookup_178 rfl rfl ?_
          refine S_iload_n (i := 1) dX16_behindLookup_179 rfl rfl ?_
          refine P2_invVm hM [(0, x1)] [] CVX16_holder MLX16_665 dX16_behindLookup_180 rfl rfl rfl rfl (by omega) h (fun r h => F_X16_holder (by omega) hM h) (fun V1 h => ?_)
          refine S_weak (ls' := [(9, 0), (9, 0), (9, 0), (9, 0), (9, 0)]) ⟨Or.inl rfl, ⟨Or.inl rfl, ⟨Or.inl rfl, ⟨Or.inl rfl, ⟨Or.inl rfl, trivial⟩⟩⟩⟩⟩ ?_
          exact s_X16_behindLookup_183 hD hM r0 h hz
        · refine S_aload_n (i := 0) dX16_behindLookup_170 rfl rfl ?_
          refine S_iload_n (i := 1) dX16_behindLookup_171 rfl rfl ?_
          refine P2_invVm hM [(0, x1)] [] CVX16_storeAll MLX16_662 dX16_behindLookup_172 rfl rfl rfl rfl (by omega) h (fun r h => F_X16_storeAll (by omega) hM h) (fun V2 h => ?_)
          refine S_goto (tgt := 183) dX16_behindLookup_175 rfl ?_
          refine S_weak (ls' := [(9, 0), (9, 0), (9, 0), (9, 0), (9, 0)]) ⟨Or.inl rfl, ⟨Or.inl rfl, ⟨Or.inl rfl, ⟨Or.inl rfl, ⟨Or.inl rfl, trivial⟩⟩⟩⟩⟩ ?_
          exact s_X16_behindLookup_183 hD hM r0 h hz
      · refine S_aload_n (i := 0) dX16_behindLookup_60 rfl rfl ?_
        refine P2_gfr hM (a := 229) FLX16_234 rfl ⟨rfl, rfl⟩ dX16_behindLookup_61 ?_
        refine S_iload_n (i := 1) dX16_behindLookup_64 rfl rfl ?_
        refine P2_lai hM (a := 229) (n := 44) rfl dX16_behindLookup_65 h (fun v1 h => ?_)
        refine S_istore_n (i := 3) dX16_behindLookup_66 rfl (Nat.le_of_ble_eq_true rfl) rfl rfl ?_
        change Sem g d YX16_behindLookup 67 [(1, 156), (0, x1), (0, x2), (0, v1), (9, 0)] [] (wr M V) o
        refine S_aload_n (i := 0) dX16_behindLookup_67 rfl rfl ?_
        refine P2_gfr hM (a := 269) FLX16_354 rfl ⟨rfl, rfl⟩ dX16_behindLookup_68 ?_
        refine S_iload_n (i := 3) dX16_behindLookup_71 rfl rfl ?_
        refine S_aload_n (i := 0) dX16_behindLookup_72 rfl rfl ?_
        refine P2_gfi hM FLX16_628 rfl dX16_behindLookup_73 ?_
        refine P2_sai hM (a := 269) (n := 256) rfl dX16_behindLookup_76 h (fun V3 h => ?_)
        refine S_iconst dX16_behindLookup_77 rfl ?_
        refine S_istore dX16_behindLookup_78 (Nat.le_of_ble_eq_true rfl) rfl rfl ?_
        change Sem g d YX16_behindLookup 80 [(1, 156), (0, x1), (0, x2), (0, v1), (0, 0)] [] (wr M V3) o
        refine S_weak (ls' := [(1, 156), (0, x1), (9, 0), (0, v1), (0, 0)]) ⟨Or.inr rfl, ⟨Or.inr rfl, ⟨Or.inl rfl, ⟨Or.inr rfl, ⟨Or.inr rfl, trivial⟩⟩⟩⟩⟩ ?_
        exact sl_X16_behindLookup_80 hD hM r0 h hz
    · refine S_weak (ls' := [(1, 156), (0, x1), (9, 0), (9, 0), (9, 0)]) ⟨Or.inr rfl, ⟨Or.inr rfl, ⟨Or.inl rfl, ⟨Or.inl rfl, ⟨Or.inl rfl, trivial⟩⟩⟩⟩⟩ ?_
      exact s_X16_behindLookup_37 hD hM r0 h hz
theorem s_X16_behindLookup_0 {g : GG} {d : Nat} (hD : 7 ≤ d) {x1 : Int} {M : MM} (hM : LM M) {V : VV} {o : AV × MM} {P : (VV) → Prop} (r0 : ∀ r : VV, P r → o = ((9, 0), (wr M r))) {z : VV} (h : f_X16_behindLookup x1 V = some z) (hz : P z) : Sem g d YX16_behindLookup 0 [(1, 156), (0, x1), (9, 0), (9, 0), (9, 0)] [] (wr M V) o := by
  delta f_X16_behindLookup at h
  refine S_aload_n (i := 0) dX16_behindLookup_0 rfl rfl ?_
  refine P2_gfr hM (a := 227) FLX16_228 rfl ⟨rfl, rfl⟩ dX16_behindLookup_1 ?_
  refine S_iload_n (i := 1) dX16_behindLookup_4 rfl rfl ?_
  refine P2_lai hM (a := 227) (n := 44) rfl dX16_behindLookup_5 h (fun v1 h => ?_)
  refine S_istore_n (i := 2) dX16_behindLookup_6 rfl (Nat.le_of_ble_eq_true rfl) rfl rfl ?_
  change Sem g d YX16_behindLookup 7 [(1, 156), (0, x1), (0, v1), (9, 0), (9, 0)] [] (wr M V) o
  refine S_iload_n (i := 2) dX16_behindLookup_7 rfl rfl ?_
  refine P_if_ne (tgt := 28) dX16_behindLookup_8 rfl h (fun h => ?_) (fun h => ?_)
  · exact s_X16_behindLookup_28 hD hM r0 h hz
  · refine S_aload_n (i := 0) dX16_behindLookup_11 rfl rfl ?_
    refine P2_gfr hM (a := 242) FLX16_273 rfl ⟨rfl, rfl⟩ dX16_behindLookup_12 ?_
    refine S_iload_n (i := 1) dX16_behindLookup_15 rfl rfl ?_
    refine P2_lai hM (a := 242) (n := 44) rfl dX16_behindLookup_16 h (fun v2 h => ?_)
    refine P_if_ge (tgt := 28) dX16_behindLookup_17 rfl h (fun h => ?_) (fun h => ?_)
    · exact s_X16_behindLookup_28 hD hM r0 h hz
    · refine S_aload_n (i := 0) dX16_behindLookup_20 rfl rfl ?_
      refine S_iload_n (i := 1) dX16_behindLookup_21 rfl rfl ?_
      refine P2_invVm hM [(0, x1)] [] CVX16_beginRefresh MLX16_653 dX16_behindLookup_22 rfl rfl rfl rfl (by omega) h (fun r h => F_X16_beginRefresh (by omega) hM h) (fun V1 h => ?_)
      refine S_goto (tgt := 183) dX16_behindLookup_25 rfl ?_
      refine S_weak (ls' := [(9, 0), (9, 0), (9, 0), (9, 0), (9, 0)]) ⟨Or.inl rfl, ⟨Or.inl rfl, ⟨Or.inl rfl, ⟨Or.inl rfl, ⟨Or.inl rfl, trivial⟩⟩⟩⟩⟩ ?_
      exact s_X16_behindLookup_183 hD hM r0 h hz
theorem F_X16_behindLookup {g : GG} {d : Nat} (hD : 7 ≤ d) {x1 : Int} {M : MM} (hM : LM M) {V : VV} {r : VV} (h : f_X16_behindLookup x1 V = some r) : Sem g d YX16_behindLookup 0 (ini YX16_behindLookup [(1, 156), (0, x1)]) [] (wr M V) ((9, 0), (wr M r)) := by
  change Sem g d YX16_behindLookup 0 [(1, 156), (0, x1), (9, 0), (9, 0), (9, 0)] [] (wr M V) ((9, 0), (wr M r))
  exact s_X16_behindLookup_0 hD hM (P := fun x => x = r) (fun q e => by rw [e]) h rfl
/-! PeerSearchModel.makeFront(I)V -/
theorem dX16_makeFront_0 : decode cX16_makeFront 0 = .ok (.aload_n 0, 1) := by decide +kernel
theorem dX16_makeFront_1 : decode cX16_makeFront 1 = .ok (.iconst 0, 1) := by decide +kernel
theorem dX16_makeFront_2 : decode cX16_makeFront 2 = .ok (.putfield 628, 3) := by decide +kernel
theorem dX16_makeFront_5 : decode cX16_makeFront 5 = .ok (.bipush 65, 2) := by decide +kernel
theorem dX16_makeFront_7 : decode cX16_makeFront 7 = .ok (.iload_n 1, 1) := by decide +kernel
theorem dX16_makeFront_8 : decode cX16_makeFront 8 = .ok (.imul, 1) := by decide +kernel
theorem dX16_makeFront_9 : decode cX16_makeFront 9 = .ok (.istore_n 2, 1) := by decide +kernel
theorem dX16_makeFront_10 : decode cX16_makeFront 10 = .ok (.iload_n 2, 1) := by decide +kernel
theorem dX16_makeFront_11 : decode cX16_makeFront 11 = .ok (.bipush 65, 2) := by decide +kernel
theorem dX16_makeFront_13 : decode cX16_makeFront 13 = .ok (.iload_n 1, 1) := by decide +kernel
theorem dX16_makeFront_14 : decode cX16_makeFront 14 = .ok (.imul, 1) := by decide +kernel
theorem dX16_makeFront_15 : decode cX16_makeFront 15 = .ok (.aload_n 0, 1) := by decide +kernel
theorem dX16_makeFront_16 : decode cX16_makeFront 16 = .ok (.getfield 249, 3) := by decide +kernel
theorem dX16_makeFront_19 : decode cX16_makeFront 19 = .ok (.iload_n 1, 1) := by decide +kernel
theorem dX16_makeFront_20 : decode cX16_makeFront 20 = .ok (.iaload, 1) := by decide +kernel
theorem dX16_makeFront_21 : decode cX16_makeFront 21 = .ok (.iadd, 1) := by decide +kernel
theorem dX16_makeFront_22 : decode cX16_makeFront 22 = .ok (.if_icmp .ge 128, 3) := by decide +kernel
theorem dX16_makeFront_25 : decode cX16_makeFront 25 = .ok (.aload_n 0, 1) := by decide +kernel
theorem dX16_makeFront_26 : decode cX16_makeFront 26 = .ok (.getfield 258, 3) := by decide +kernel
theorem dX16_makeFront_29 : decode cX16_makeFront 29 = .ok (.iload_n 2, 1) := by decide +kernel
theorem dX16_makeFront_30 : decode cX16_makeFront 30 = .ok (.iaload, 1) := by decide +kernel
theorem dX16_makeFront_31 : decode cX16_makeFront 31 = .ok (.iconst 3, 1) := by decide +kernel
theorem dX16_makeFront_32 : decode cX16_makeFront 32 = .ok (.if_icmp .ne 6, 3) := by decide +kernel
theorem dX16_makeFront_35 : decode cX16_makeFront 35 = .ok (.goto 109, 3) := by decide +kernel
theorem dX16_makeFront_38 : decode cX16_makeFront 38 = .ok (.aload_n 0, 1) := by decide +kernel
theorem dX16_makeFront_39 : decode cX16_makeFront 39 = .ok (.getfield 628, 3) := by decide +kernel
theorem dX16_makeFront_42 : decode cX16_makeFront 42 = .ok (.istore_n 3, 1) := by decide +kernel
theorem dX16_makeFront_43 : decode cX16_makeFront 43 = .ok (.iload_n 3, 1) := by decide +kernel
theorem dX16_makeFront_44 : decode cX16_makeFront 44 = .ok (.ifCond .le 65, 3) := by decide +kernel
theorem dX16_makeFront_47 : decode cX16_makeFront 47 = .ok (.aload_n 0, 1) := by decide +kernel
theorem dX16_makeFront_48 : decode cX16_makeFront 48 = .ok (.getfield 252, 3) := by decide +kernel
theorem dX16_makeFront_51 : decode cX16_makeFront 51 = .ok (.iconst 5, 1) := by decide +kernel
theorem dX16_makeFront_52 : decode cX16_makeFront 52 = .ok (.iload_n 2, 1) := by decide +kernel
theorem dX16_makeFront_53 : decode cX16_makeFront 53 = .ok (.imul, 1) := by decide +kernel
theorem dX16_makeFront_54 : decode cX16_makeFront 54 = .ok (.aload_n 0, 1) := by decide +kernel
theorem dX16_makeFront_55 : decode cX16_makeFront 55 = .ok (.getfield 252, 3) := by decide +kernel
theorem dX16_makeFront_58 : decode cX16_makeFront 58 = .ok (.iconst 5, 1) := by decide +kernel
theorem dX16_makeFront_59 : decode cX16_makeFront 59 = .ok (.aload_n 0, 1) := by decide +kernel
theorem dX16_makeFront_60 : decode cX16_makeFront 60 = .ok (.getfield 267, 3) := by decide +kernel
theorem dX16_makeFront_63 : decode cX16_makeFront 63 = .ok (.iload_n 3, 1) := by decide +kernel
theorem dX16_makeFront_64 : decode cX16_makeFront 64 = .ok (.ifCond .le 9, 3) := by decide +kernel
theorem dX16_makeFront_67 : decode cX16_makeFront 67 = .ok (.iload_n 3, 1) := by decide +kernel
theorem dX16_makeFront_68 : decode cX16_makeFront 68 = .ok (.iconst 1, 1) := by decide +kernel
theorem dX16_makeFront_69 : decode cX16_makeFront 69 = .ok (.isub, 1) := by decide +kernel
theorem dX16_makeFront_70 : decode cX16_makeFront 70 = .ok (.goto 4, 3) := by decide +kernel
theorem dX16_makeFront_73 : decode cX16_makeFront 73 = .ok (.iconst 0, 1) := by decide +kernel
theorem dX16_makeFront_74 : decode cX16_makeFront 74 = .ok (.iaload, 1) := by decide +kernel
theorem dX16_makeFront_75 : decode cX16_makeFront 75 = .ok (.imul, 1) := by decide +kernel
theorem dX16_makeFront_76 : decode cX16_makeFront 76 = .ok (.aload_n 0, 1) := by decide +kernel
theorem dX16_makeFront_77 : decode cX16_makeFront 77 = .ok (.getfield 243, 3) := by decide +kernel
theorem dX16_makeFront_80 : decode cX16_makeFront 80 = .ok (.iconst 5, 1) := by decide +kernel
theorem dX16_makeFront_81 : decode cX16_makeFront 81 = .ok (.iload_n 1, 1) := by decide +kernel
theorem dX16_makeFront_82 : decode cX16_makeFront 82 = .ok (.imul, 1) := by decide +kernel
theorem dX16_makeFront_83 : decode cX16_makeFront 83 = .ok (.invokestatic 540, 3) := by decide +kernel
theorem dX16_makeFront_86 : decode cX16_makeFront 86 = .ok (.ifCond .eq 23, 3) := by decide +kernel
theorem dX16_makeFront_89 : decode cX16_makeFront 89 = .ok (.aload_n 0, 1) := by decide +kernel
theorem dX16_makeFront_90 : decode cX16_makeFront 90 = .ok (.getfield 267, 3) := by decide +kernel
theorem dX16_makeFront_93 : decode cX16_makeFront 93 = .ok (.iload_n 3, 1) := by decide +kernel
theorem dX16_makeFront_94 : decode cX16_makeFront 94 = .ok (.aload_n 0, 1) := by decide +kernel
theorem dX16_makeFront_95 : decode cX16_makeFront 95 = .ok (.getfield 267, 3) := by decide +kernel
theorem dX16_makeFront_98 : decode cX16_makeFront 98 = .ok (.iload_n 3, 1) := by decide +kernel
theorem dX16_makeFront_99 : decode cX16_makeFront 99 = .ok (.iconst 1, 1) := by decide +kernel
theorem dX16_makeFront_100 : decode cX16_makeFront 100 = .ok (.isub, 1) := by decide +kernel
theorem dX16_makeFront_101 : decode cX16_makeFront 101 = .ok (.iaload, 1) := by decide +kernel
theorem dX16_makeFront_102 : decode cX16_makeFront 102 = .ok (.iastore, 1) := by decide +kernel
theorem dX16_makeFront_103 : decode cX16_makeFront 103 = .ok (.iinc 3 (-1), 3) := by decide +kernel
theorem dX16_makeFront_106 : decode cX16_makeFront 106 = .ok (.goto (-63), 3) := by decide +kernel
theorem dX16_makeFront_109 : decode cX16_makeFront 109 = .ok (.aload_n 0, 1) := by decide +kernel
theorem dX16_makeFront_110 : decode cX16_makeFront 110 = .ok (.getfield 267, 3) := by decide +kernel
theorem dX16_makeFront_113 : decode cX16_makeFront 113 = .ok (.iload_n 3, 1) := by decide +kernel
theorem dX16_makeFront_114 : decode cX16_makeFront 114 = .ok (.iload_n 2, 1) := by decide +kernel
theorem dX16_makeFront_115 : decode cX16_makeFront 115 = .ok (.iastore, 1) := by decide +kernel
theorem dX16_makeFront_116 : decode cX16_makeFront 116 = .ok (.aload_n 0, 1) := by decide +kernel
theorem dX16_makeFront_117 : decode cX16_makeFront 117 = .ok (.aload_n 0, 1) := by decide +kernel
theorem dX16_makeFront_118 : decode cX16_makeFront 118 = .ok (.getfield 628, 3) := by decide +kernel
theorem dX16_makeFront_121 : decode cX16_makeFront 121 = .ok (.aload_n 0, 1) := by decide +kernel
theorem dX16_makeFront_122 : decode cX16_makeFront 122 = .ok (.getfield 376, 3) := by decide +kernel
theorem dX16_makeFront_125 : decode cX16_makeFront 125 = .ok (.if_icmp .ge 12, 3) := by decide +kernel
theorem dX16_makeFront_128 : decode cX16_makeFront 128 = .ok (.aload_n 0, 1) := by decide +kernel
theorem dX16_makeFront_129 : decode cX16_makeFront 129 = .ok (.getfield 628, 3) := by decide +kernel
theorem dX16_makeFront_132 : decode cX16_makeFront 132 = .ok (.iconst 1, 1) := by decide +kernel
theorem dX16_makeFront_133 : decode cX16_makeFront 133 = .ok (.iadd, 1) := by decide +kernel
theorem dX16_makeFront_134 : decode cX16_makeFront 134 = .ok (.goto 7, 3) := by decide +kernel
theorem dX16_makeFront_137 : decode cX16_makeFront 137 = .ok (.aload_n 0, 1) := by decide +kernel
theorem dX16_makeFront_138 : decode cX16_makeFront 138 = .ok (.getfield 376, 3) := by decide +kernel
theorem dX16_makeFront_141 : decode cX16_makeFront 141 = .ok (.putfield 628, 3) := by decide +kernel
theorem dX16_makeFront_144 : decode cX16_makeFront 144 = .ok (.iinc 2 1, 3) := by decide +kernel
theorem dX16_makeFront_147 : decode cX16_makeFront 147 = .ok (.goto (-137), 3) := by decide +kernel
theorem dX16_makeFront_150 : decode cX16_makeFront 150 = .ok (.return_, 1) := by decide +kernel
def j_X16_makeFront_144 (x1 x2 : Int) (V : VV) : Option ((Int × VV) ⊕ (VV)) :=
  cnt (x2 + 1, V)
def j_X16_makeFront_141 (x1 x2 y1 : Int) (V : VV) : Option ((Int × VV) ⊕ (VV)) :=
  (p2 106 y1 V).bind fun V1 =>
  j_X16_makeFront_144 x1 x2 V1
def j_X16_makeFront_109 (x1 x2 x3 : Int) (V : VV) : Option ((Int × VV) ⊕ (VV)) :=
  (s2 240 21 x3 x2 V).bind fun V1 =>
  if w32 (w32 (V1 156 106)) < w32 (w32 (V1 156 0)) then
    j_X16_makeFront_141 x1 x2 ((w32 (V1 156 106)) + 1) V1
  else
    j_X16_makeFront_141 x1 x2 (w32 (V1 156 0)) V1
def j_X16_makeFront_74 (x1 x2 x3 y1 y3 y5 : Int) (V : VV) : Option ((Int × VV) ⊕ ((Int × VV) ⊕ (VV))) :=
  (l2 240 21 y5 V).bind fun v1 =>
  (f_X16_nearer 235 y1 235 (y3 * v1) 232 (5 * x1) V).bind fun v2 =>
  if w32 v2 = 0 then
    xit (j_X16_makeFront_109 x1 x2 x3 V)
  else
    (l2 240 21 (x3 - 1) V).bind fun v3 =>
    (s2 240 21 x3 v3 V).bind fun V1 =>
    cnt (x3 + (-1), V1)
def b_X16_makeFront_43 (x1 x2 x3 : Int) (V : VV) : Option ((Int × VV) ⊕ ((Int × VV) ⊕ (VV))) :=
  if 0 < w32 x3 then
    if 0 < w32 x3 then
      j_X16_makeFront_74 x1 x2 x3 (5 * x2) 5 (x3 - 1) V
    else
      j_X16_makeFront_74 x1 x2 x3 (5 * x2) 5 0 V
  else
    xit (j_X16_makeFront_109 x1 x2 x3 V)
def l_X16_makeFront_43 (x1 x2 x3 : Int) (V : VV) : Option ((Int × VV) ⊕ (VV)) := lpN (fun s : Int × VV => b_X16_makeFront_43 x1 x2 s.1 s.2) FU (x3, V)
def b_X16_makeFront_10 (x1 x2 : Int) (V : VV) : Option ((Int × VV) ⊕ (VV)) :=
  (l2 234 44 x1 V).bind fun v1 =>
  if w32 x2 < w32 ((65 * x1) + v1) then
    (l2 237 2860 x2 V).bind fun v2 =>
    if w32 v2 = w32 3 then
      j_X16_makeFront_144 x1 x2 V
    else
      l_X16_makeFront_43 x1 x2 (w32 (V 156 106)) V
  else
    xit (some V)
def l_X16_makeFront_10 (x1 x2 : Int) (V : VV) : Option (VV) := lpN (fun s : Int × VV => b_X16_makeFront_10 x1 s.1 s.2) FU (x2, V)
def f_X16_makeFront (x1 : Int) (V : VV) : Option (VV) :=
  (p2 106 0 V).bind fun V1 =>
  l_X16_makeFront_10 x1 (65 * x1) V1
theorem s_X16_makeFront_144 {g : GG} {d : Nat} (hD : 3 ≤ d) {x1 x2 : Int} {M : MM} (hM : LM M) {V : VV} {o : AV × MM} {P : ((Int × VV) ⊕ (VV)) → Prop} (c0 : ∀ s : Int × VV, P (.inl s) → Sem g d YX16_makeFront 10 [(1, 156), (0, x1), (0, s.1), (9, 0)] [] (wr M s.2) o) (r0 : ∀ r : VV, P (.inr r) → o = ((9, 0), (wr M r))) {z : (Int × VV) ⊕ (VV)} (h : j_X16_makeFront_144 x1 x2 V = some z) (hz : P z) : Sem g d YX16_makeFront 144 [(1, 156), (0, x1), (0, x2), (9, 0)] [] (wr M V) o := by
  delta j_X16_makeFront_144 at h
  refine S_iinc dX16_makeFront_144 rfl rfl rfl ?_
  change Sem g d YX16_makeFront 147 [(1, 156), (0, x1), (0, x2 + 1), (9, 0)] [] (wr M V) o
  refine S_goto (tgt := 10) dX16_makeFront_147 rfl ?_
  exact c0 (x2 + 1, V) (some_P (P := fun r => P r) h hz)
theorem s_X16_makeFront_141 {g : GG} {d : Nat} (hD : 3 ≤ d) {x1 x2 y1 : Int} {M : MM} (hM : LM M) {V : VV} {o : AV × MM} {P : ((Int × VV) ⊕ (VV)) → Prop} (c0 : ∀ s : Int × VV, P (.inl s) → Sem g d YX16_makeFront 10 [(1, 156), (0, x1), (0, s.1), (9, 0)] [] (wr M s.2) o) (r0 : ∀ r : VV, P (.inr r) → o = ((9, 0), (wr M r))) {z : (Int × VV) ⊕ (VV)} (h : j_X16_makeFront_141 x1 x2 y1 V = some z) (hz : P z) : Sem g d YX16_makeFront 141 [(1, 156), (0, x1), (0, x2), (9, 0)] [(0, y1), (1, 156)] (wr M V) o := by
  delta j_X16_makeFront_141 at h
  refine P2_pfi hM FLX16_628 FPX16_628 rfl dX16_makeFront_141 h (fun V1 h => ?_)
  exact s_X16_makeFront_144 hD hM c0 r0 h hz
theorem s_X16_makeFront_109 {g : GG} {d : Nat} (hD : 3 ≤ d) {x1 x2 x3 : Int} {M : MM} (hM : LM M) {V : VV} {o : AV × MM} {P : ((Int × VV) ⊕ (VV)) → Prop} (c0 : ∀ s : Int × VV, P (.inl s) → Sem g d YX16_makeFront 10 [(1, 156), (0, x1), (0, s.1), (9, 0)] [] (wr M s.2) o) (r0 : ∀ r : VV, P (.inr r) → o = ((9, 0), (wr M r))) {z : (Int × VV) ⊕ (VV)} (h : j_X16_makeFront_109 x1 x2 x3 V = some z) (hz : P z) : Sem g d YX16_makeFront 109 [(1, 156), (0, x1), (0, x2), (0, x3)] [] (wr M V) o := by
  delta j_X16_makeFront_109 at h
  refine S_aload_n (i := 0) dX16_makeFront_109 rfl rfl ?_
  refine P2_gfr hM (a := 240) FLX16_267 rfl ⟨rfl, rfl⟩ dX16_makeFront_110 ?_
  refine S_iload_n (i := 3) dX16_makeFront_113 rfl rfl ?_
  refine S_iload_n (i := 2) dX16_makeFront_114 rfl rfl ?_
  refine P2_sai hM (a := 240) (n := 21) rfl dX16_makeFront_115 h (fun V1 h => ?_)
  refine S_aload_n (i := 0) dX16_makeFront_116 rfl rfl ?_
  refine S_aload_n (i := 0) dX16_makeFront_117 rfl rfl ?_
  refine P2_gfi hM FLX16_628 rfl dX16_makeFront_118 ?_
  refine S_aload_n (i := 0) dX16_makeFront_121 rfl rfl ?_
  refine P2_gfi hM FLX16_376 rfl dX16_makeFront_122 ?_
  refine P_icmp_ge (tgt := 137) dX16_makeFront_125 rfl h (fun h => ?_) (fun h => ?_)
  · refine S_aload_n (i := 0) dX16_makeFront_137 rfl rfl ?_
    refine P2_gfi hM FLX16_376 rfl dX16_makeFront_138 ?_
    refine S_weak (ls' := [(1, 156), (0, x1), (0, x2), (9, 0)]) ⟨Or.inr rfl, ⟨Or.inr rfl, ⟨Or.inr rfl, ⟨Or.inl rfl, trivial⟩⟩⟩⟩ ?_
    exact s_X16_makeFront_141 hD hM c0 r0 h hz
  · refine S_aload_n (i := 0) dX16_makeFront_128 rfl rfl ?_
    refine P2_gfi hM FLX16_628 rfl dX16_makeFront_129 ?_
    refine S_iconst dX16_makeFront_132 rfl ?_
    refine S_iadd dX16_makeFront_133 ?_
    refine S_goto (tgt := 141) dX16_makeFront_134 rfl ?_
    refine S_weak (ls' := [(1, 156), (0, x1), (0, x2), (9, 0)]) ⟨Or.inr rfl, ⟨Or.inr rfl, ⟨Or.inr rfl, ⟨Or.inl rfl, trivial⟩⟩⟩⟩ ?_
    exact s_X16_makeFront_141 hD hM c0 r0 h hz
theorem s_X16_makeFront_74 {g : GG} {d : Nat} (hD : 3 ≤ d) {x1 x2 x3 y1 y3 y5 : Int} {M : MM} (hM : LM M) {V : VV} {o : AV × MM} {P : ((Int × VV) ⊕ ((Int × VV) ⊕ (VV))) → Prop} (c1 : ∀ s : Int × VV, P (.inl s) → Sem g d YX16_makeFront 43 [(1, 156), (0, x1), (0, x2), (0, s.1)] [] (wr M s.2) o) (c0 : ∀ s : Int × VV, P (.inr (.inl s)) → Sem g d YX16_makeFront 10 [(1, 156), (0, x1), (0, s.1), (9, 0)] [] (wr M s.2) o) (r0 : ∀ r : VV, P (.inr (.inr r)) → o = ((9, 0), (wr M r))) {z : (Int × VV) ⊕ ((Int × VV) ⊕ (VV))} (h : j_X16_makeFront_74 x1 x2 x3 y1 y3 y5 V = some z) (hz : P z) : Sem g d YX16_makeFront 74 [(1, 156), (0, x1), (0, x2), (0, x3)] [(0, y5), (1, 240), (0, y3), (1, 235), (0, y1), (1, 235)] (wr M V) o := by
  delta j_X16_makeFront_74 at h
  refine P2_lai hM (a := 240) (n := 21) rfl dX16_makeFront_74 h (fun v1 h => ?_)
  refine S_imul dX16_makeFront_75 ?_
  refine S_aload_n (i := 0) dX16_makeFront_76 rfl rfl ?_
  refine P2_gfr hM (a := 232) FLX16_243 rfl ⟨rfl, rfl⟩ dX16_makeFront_77 ?_
  refine S_iconst dX16_makeFront_80 rfl ?_
  refine S_iload_n (i := 1) dX16_makeFront_81 rfl rfl ?_
  refine S_imul dX16_makeFront_82 ?_
  refine P_invSp 0 [(1, 235), (0, y1), (1, 235), (0, y3 * v1), (1, 232), (0, 5 * x1)] [] CSX16_nearer MLX16_540 dX16_makeFront_83 rfl rfl rfl rfl rfl (by omega) h (fun r h => F_X16_nearer (by omega) hM h) (fun v2 h => ?_)
  refine P_if_eq (tgt := 109) dX16_makeFront_86 rfl h (fun h => ?_) (fun h => ?_)
  · obtain ⟨z0, h, hz⟩ := xit_some' (P := fun r => P r) h hz
    exact s_X16_makeFront_109 hD hM (P := fun r => P (.inr r)) c0 r0 h hz
  · refine S_aload_n (i := 0) dX16_makeFront_89 rfl rfl ?_
    refine P2_gfr hM (a := 240) FLX16_267 rfl ⟨rfl, rfl⟩ dX16_makeFront_90 ?_
    refine S_iload_n (i := 3) dX16_makeFront_93 rfl rfl ?_
    refine S_aload_n (i := 0) dX16_makeFront_94 rfl rfl ?_
    refine P2_gfr hM (a := 240) FLX16_267 rfl ⟨rfl, rfl⟩ dX16_makeFront_95 ?_
    refine S_iload_n (i := 3) dX16_makeFront_98 rfl rfl ?_
    refine S_iconst dX16_makeFront_99 rfl ?_
    refine S_isub dX16_makeFront_100 ?_
    refine P2_lai hM (a := 240) (n := 21) rfl dX16_makeFront_101 h (fun v3 h => ?_)
    refine P2_sai hM (a := 240) (n := 21) rfl dX16_makeFront_102 h (fun V1 h => ?_)
    refine S_iinc dX16_makeFront_103 rfl rfl rfl ?_
    change Sem g d YX16_makeFront 106 [(1, 156), (0, x1), (0, x2), (0, x3 + (-1))] [] (wr M V1) o
    refine S_goto (tgt := 43) dX16_makeFront_106 rfl ?_
    exact c1 (x3 + (-1), V1) (some_P (P := fun r => P r) h hz)
theorem s_X16_makeFront_43 {g : GG} {d : Nat} (hD : 3 ≤ d) {x1 x2 x3 : Int} {M : MM} (hM : LM M) {V : VV} {o : AV × MM} {P : ((Int × VV) ⊕ ((Int × VV) ⊕ (VV))) → Prop} (c1 : ∀ s : Int × VV, P (.inl s) → Sem g d YX16_makeFront 43 [(1, 156), (0, x1), (0, x2), (0, s.1)] [] (wr M s.2) o) (c0 : ∀ s : Int × VV, P (.inr (.inl s)) → Sem g d YX16_makeFront 10 [(1, 156), (0, x1), (0, s.1), (9, 0)] [] (wr M s.2) o) (r0 : ∀ r : VV, P (.inr (.inr r)) → o = ((9, 0), (wr M r))) {z : (Int × VV) ⊕ ((Int × VV) ⊕ (VV))} (h : b_X16_makeFront_43 x1 x2 x3 V = some z) (hz : P z) : Sem g d YX16_makeFront 43 [(1, 156), (0, x1), (0, x2), (0, x3)] [] (wr M V) o := by
  delta b_X16_makeFront_43 at h
  refine S_iload_n (i := 3) dX16_makeFront_43 rfl rfl ?_
  refine P_if_le (tgt := 109) dX16_makeFront_44 rfl h (fun h => ?_) (fun h => ?_)
  · obtain ⟨z0, h, hz⟩ := xit_some' (P := fun r => P r) h hz
    exact s_X16_makeFront_109 hD hM (P := fun r => P (.inr r)) c0 r0 h hz
  · refine S_aload_n (i := 0) dX16_makeFront_47 rfl rfl ?_
    refine P2_gfr hM (a := 235) FLX16_252 rfl ⟨rfl, rfl⟩ dX16_makeFront_48 ?_
    refine S_iconst dX16_makeFront_51 rfl ?_
    refine S_iload_n (i := 2) dX16_makeFront_52 rfl rfl ?_
    refine S_imul dX16_makeFront_53 ?_
    refine S_aload_n (i := 0) dX16_makeFront_54 rfl rfl ?_
    refine P2_gfr hM (a := 235) FLX16_252 rfl ⟨rfl, rfl⟩ dX16_makeFront_55 ?_
    refine S_iconst dX16_makeFront_58 rfl ?_
    refine S_aload_n (i := 0) dX16_makeFront_59 rfl rfl ?_
    refine P2_gfr hM (a := 240) FLX16_267 rfl ⟨rfl, rfl⟩ dX16_makeFront_60 ?_
    refine S_iload_n (i := 3) dX16_makeFront_63 rfl rfl ?_
    refine P_if_le (tgt := 73) dX16_makeFront_64 rfl h (fun h => ?_) (fun h => ?_)
    · refine S_iconst dX16_makeFront_73 rfl ?_
      exact s_X16_makeFront_74 hD hM c1 c0 r0 h hz
    · refine S_iload_n (i := 3) dX16_makeFront_67 rfl rfl ?_
      refine S_iconst dX16_makeFront_68 rfl ?_
      refine S_isub dX16_makeFront_69 ?_
      refine S_goto (tgt := 74) dX16_makeFront_70 rfl ?_
      exact s_X16_makeFront_74 hD hM c1 c0 r0 h hz
theorem sl_X16_makeFront_43 {g : GG} {d : Nat} (hD : 3 ≤ d) {x1 x2 x3 : Int} {M : MM} (hM : LM M) {V : VV} {o : AV × MM} {P : ((Int × VV) ⊕ (VV)) → Prop} (c0 : ∀ s : Int × VV, P (.inl s) → Sem g d YX16_makeFront 10 [(1, 156), (0, x1), (0, s.1), (9, 0)] [] (wr M s.2) o) (r0 : ∀ r : VV, P (.inr r) → o = ((9, 0), (wr M r))) {z : (Int × VV) ⊕ (VV)} (h : l_X16_makeFront_43 x1 x2 x3 V = some z) (hz : P z) : Sem g d YX16_makeFront 43 [(1, 156), (0, x1), (0, x2), (0, x3)] [] (wr M V) o := by
  refine lp_sound (S := fun s : Int × VV => Sem g d YX16_makeFront 43 [(1, 156), (0, x1), (0, x2), (0, s.1)] [] (wr M s.2) o) (P := P) ?_ FU (x3, V) z h hz
  intro s x hx hP
  exact s_X16_makeFront_43 hD hM (P := Sum.elim (fun s : Int × VV => Sem g d YX16_makeFront 43 [(1, 156), (0, x1), (0, x2), (0, s.1)] [] (wr M s.2) o) P) (fun s h => h) (fun s h => c0 s h) (fun s h => r0 s h) hx hP
theorem s_X16_makeFront_10 {g : GG} {d : Nat} (hD : 3 ≤ d) {x1 x2 : Int} {M : MM} (hM : LM M) {V : VV} {o : AV × MM} {P : ((Int × VV) ⊕ (VV)) → Prop} (c0 : ∀ s : Int × VV, P (.inl s) → Sem g d YX16_makeFront 10 [(1, 156), (0, x1), (0, s.1), (9, 0)] [] (wr M s.2) o) (r0 : ∀ r : VV, P (.inr r) → o = ((9, 0), (wr M r))) {z : (Int × VV) ⊕ (VV)} (h : b_X16_makeFront_10 x1 x2 V = some z) (hz : P z) : Sem g d YX16_makeFront 10 [(1, 156), (0, x1), (0, x2), (9, 0)] [] (wr M V) o := by
  delta b_X16_makeFront_10 at h
  refine S_iload_n (i := 2) dX16_makeFront_10 rfl rfl ?_
  refine S_bipush (z := 65) dX16_makeFront_11 rfl ?_
  refine S_iload_n (i := 1) dX16_makeFront_13 rfl rfl ?_
  refine S_imul dX16_makeFront_14 ?_
  refine S_aload_n (i := 0) dX16_makeFront_15 rfl rfl ?_
  refine P2_gfr hM (a := 234) FLX16_249 rfl ⟨rfl, rfl⟩ dX16_makeFront_16 ?_
  refine S_iload_n (i := 1) dX16_makeFront_19 rfl rfl ?_
  refine P2_lai hM (a := 234) (n := 44) rfl dX16_makeFront_20 h (fun v1 h => ?_)
  refine S_iadd dX16_makeFront_21 ?_
  refine P_icmp_ge (tgt := 150) dX16_makeFront_22 rfl h (fun h => ?_) (fun h => ?_)
  · obtain ⟨z0, h, hz⟩ := xit_some' (P := fun r => P r) h hz
    obtain rfl := r0 _ (some_P (P := fun r => P (.inr r)) h hz)
    exact S_return dX16_makeFront_150 rfl
  · refine S_aload_n (i := 0) dX16_makeFront_25 rfl rfl ?_
    refine P2_gfr hM (a := 237) FLX16_258 rfl ⟨rfl, rfl⟩ dX16_makeFront_26 ?_
    refine S_iload_n (i := 2) dX16_makeFront_29 rfl rfl ?_
    refine P2_lai hM (a := 237) (n := 2860) rfl dX16_makeFront_30 h (fun v2 h => ?_)
    refine S_iconst dX16_makeFront_31 rfl ?_
    refine P_icmp_ne (tgt := 38) dX16_makeFront_32 rfl h (fun h => ?_) (fun h => ?_)
    · refine S_aload_n (i := 0) dX16_makeFront_38 rfl rfl ?_
      refine P2_gfi hM FLX16_628 rfl dX16_makeFront_39 ?_
      refine S_istore_n (i := 3) dX16_makeFront_42 rfl (Nat.le_of_ble_eq_true rfl) rfl rfl ?_
      change Sem g d YX16_makeFront 43 [(1, 156), (0, x1), (0, x2), (0, w32 (V 156 106))] [] (wr M V) o
      exact sl_X16_makeFront_43 hD hM c0 r0 h hz
    · refine S_goto (tgt := 144) dX16_makeFront_35 rfl ?_
      exact s_X16_makeFront_144 hD hM c0 r0 h hz
theorem sl_X16_makeFront_10 {g : GG} {d : Nat} (hD : 3 ≤ d) {x1 x2 : Int} {M : MM} (hM : LM M) {V : VV} {o : AV × MM} {P : (VV) → Prop} (r0 : ∀ r : VV, P r → o = ((9, 0), (wr M r))) {z : VV} (h : l_X16_makeFront_10 x1 x2 V = some z) (hz : P z) : Sem g d YX16_makeFront 10 [(1, 156), (0, x1), (0, x2), (9, 0)] [] (wr M V) o := by
  refine lp_sound (S := fun s : Int × VV => Sem g d YX16_makeFront 10 [(1, 156), (0, x1), (0, s.1), (9, 0)] [] (wr M s.2) o) (P := P) ?_ FU (x2, V) z h hz
  intro s x hx hP
  exact s_X16_makeFront_10 hD hM (P := Sum.elim (fun s : Int × VV => Sem g d YX16_makeFront 10 [(1, 156), (0, x1), (0, s.1), (9, 0)] [] (wr M s.2) o) P) (fun s h => h) (fun s h => r0 s h) hx hP
theorem s_X16_makeFront_0 {g : GG} {d : Nat} (hD : 3 ≤ d) {x1 : Int} {M : MM} (hM : LM M) {V : VV} {o : AV × MM} {P : (VV) → Prop} (r0 : ∀ r : VV, P r → o = ((9, 0), (wr M r))) {z : VV} (h : f_X16_makeFront x1 V = some z) (hz : P z) : Sem g d YX16_makeFront 0 [(1, 156), (0, x1), (9, 0), (9, 0)] [] (wr M V) o := by
  delta f_X16_makeFront at h
  refine S_aload_n (i := 0) dX16_makeFront_0 rfl rfl ?_
  refine S_iconst dX16_makeFront_1 rfl ?_
  refine P2_pfi hM FLX16_628 FPX16_628 rfl dX16_makeFront_2 h (fun V1 h => ?_)
  refine S_bipush (z := 65) dX16_makeFront_5 rfl ?_
  refine S_iload_n (i := 1) dX16_makeFront_7 rfl rfl ?_
  refine S_imul dX16_makeFront_8 ?_
  refine S_istore_n (i := 2) dX16_makeFront_9 rfl (Nat.le_of_ble_eq_true rfl) rfl rfl ?_
  change Sem g d YX16_makeFront 10 [(1, 156), (0, x1), (0, 65 * x1), (9, 0)] [] (wr M V1) o
  exact sl_X16_makeFront_10 hD hM r0 h hz
theorem F_X16_makeFront {g : GG} {d : Nat} (hD : 3 ≤ d) {x1 : Int} {M : MM} (hM : LM M) {V : VV} {r : VV} (h : f_X16_makeFront x1 V = some r) : Sem g d YX16_makeFront 0 (ini YX16_makeFront [(1, 156), (0, x1)]) [] (wr M V) ((9, 0), (wr M r)) := by
  change Sem g d YX16_makeFront 0 [(1, 156), (0, x1), (9, 0), (9, 0)] [] (wr M V) ((9, 0), (wr M r))
  exact s_X16_makeFront_0 hD hM (P := fun x => x = r) (fun q e => by rw [e]) h rfl
/-! PeerSearchModel.lookOn(I)Z -/
theorem dX16_lookOn_0 : decode cX16_lookOn 0 = .ok (.aload_n 0, 1) := by decide +kernel
theorem dX16_lookOn_1 : decode cX16_lookOn 1 = .ok (.iload_n 1, 1) := by decide +kernel
theorem dX16_lookOn_2 : decode cX16_lookOn 2 = .ok (.invokevirtual 631, 3) := by decide +kernel
theorem dX16_lookOn_5 : decode cX16_lookOn 5 = .ok (.iconst (-1), 1) := by decide +kernel
theorem dX16_lookOn_6 : decode cX16_lookOn 6 = .ok (.istore_n 2, 1) := by decide +kernel
theorem dX16_lookOn_7 : decode cX16_lookOn 7 = .ok (.iconst 1, 1) := by decide +kernel
theorem dX16_lookOn_8 : decode cX16_lookOn 8 = .ok (.istore_n 3, 1) := by decide +kernel
theorem dX16_lookOn_9 : decode cX16_lookOn 9 = .ok (.aload_n 0, 1) := by decide +kernel
theorem dX16_lookOn_10 : decode cX16_lookOn 10 = .ok (.getfield 628, 3) := by decide +kernel
theorem dX16_lookOn_13 : decode cX16_lookOn 13 = .ok (.iconst 1, 1) := by decide +kernel
theorem dX16_lookOn_14 : decode cX16_lookOn 14 = .ok (.isub, 1) := by decide +kernel
theorem dX16_lookOn_15 : decode cX16_lookOn 15 = .ok (.istore 4, 2) := by decide +kernel
theorem dX16_lookOn_17 : decode cX16_lookOn 17 = .ok (.iload 4, 2) := by decide +kernel
theorem dX16_lookOn_19 : decode cX16_lookOn 19 = .ok (.ifCond .lt 62, 3) := by decide +kernel
theorem dX16_lookOn_22 : decode cX16_lookOn 22 = .ok (.aload_n 0, 1) := by decide +kernel
theorem dX16_lookOn_23 : decode cX16_lookOn 23 = .ok (.getfield 258, 3) := by decide +kernel
theorem dX16_lookOn_26 : decode cX16_lookOn 26 = .ok (.aload_n 0, 1) := by decide +kernel
theorem dX16_lookOn_27 : decode cX16_lookOn 27 = .ok (.getfield 267, 3) := by decide +kernel
theorem dX16_lookOn_30 : decode cX16_lookOn 30 = .ok (.iload 4, 2) := by decide +kernel
theorem dX16_lookOn_32 : decode cX16_lookOn 32 = .ok (.iaload, 1) := by decide +kernel
theorem dX16_lookOn_33 : decode cX16_lookOn 33 = .ok (.iaload, 1) := by decide +kernel
theorem dX16_lookOn_34 : decode cX16_lookOn 34 = .ok (.ifCond .ne 13, 3) := by decide +kernel
theorem dX16_lookOn_37 : decode cX16_lookOn 37 = .ok (.aload_n 0, 1) := by decide +kernel
theorem dX16_lookOn_38 : decode cX16_lookOn 38 = .ok (.getfield 267, 3) := by decide +kernel
theorem dX16_lookOn_41 : decode cX16_lookOn 41 = .ok (.iload 4, 2) := by decide +kernel
theorem dX16_lookOn_43 : decode cX16_lookOn 43 = .ok (.iaload, 1) := by decide +kernel
theorem dX16_lookOn_44 : decode cX16_lookOn 44 = .ok (.goto 4, 3) := by decide +kernel
theorem dX16_lookOn_47 : decode cX16_lookOn 47 = .ok (.iload_n 2, 1) := by decide +kernel
theorem dX16_lookOn_48 : decode cX16_lookOn 48 = .ok (.istore_n 2, 1) := by decide +kernel
theorem dX16_lookOn_49 : decode cX16_lookOn 49 = .ok (.iload_n 3, 1) := by decide +kernel
theorem dX16_lookOn_50 : decode cX16_lookOn 50 = .ok (.ifCond .eq 23, 3) := by decide +kernel
theorem dX16_lookOn_53 : decode cX16_lookOn 53 = .ok (.aload_n 0, 1) := by decide +kernel
theorem dX16_lookOn_54 : decode cX16_lookOn 54 = .ok (.getfield 258, 3) := by decide +kernel
theorem dX16_lookOn_57 : decode cX16_lookOn 57 = .ok (.aload_n 0, 1) := by decide +kernel
theorem dX16_lookOn_58 : decode cX16_lookOn 58 = .ok (.getfield 267, 3) := by decide +kernel
theorem dX16_lookOn_61 : decode cX16_lookOn 61 = .ok (.iload 4, 2) := by decide +kernel
theorem dX16_lookOn_63 : decode cX16_lookOn 63 = .ok (.iaload, 1) := by decide +kernel
theorem dX16_lookOn_64 : decode cX16_lookOn 64 = .ok (.iaload, 1) := by decide +kernel
theorem dX16_lookOn_65 : decode cX16_lookOn 65 = .ok (.iconst 2, 1) := by decide +kernel
theorem dX16_lookOn_66 : decode cX16_lookOn 66 = .ok (.if_icmp .ne 7, 3) := by decide +kernel
theorem dX16_lookOn_69 : decode cX16_lookOn 69 = .ok (.iconst 1, 1) := by decide +kernel
theorem dX16_lookOn_70 : decode cX16_lookOn 70 = .ok (.goto 4, 3) := by decide +kernel
theorem dX16_lookOn_73 : decode cX16_lookOn 73 = .ok (.iconst 0, 1) := by decide +kernel
theorem dX16_lookOn_74 : decode cX16_lookOn 74 = .ok (.istore_n 3, 1) := by decide +kernel
theorem dX16_lookOn_75 : decode cX16_lookOn 75 = .ok (.iinc 4 (-1), 3) := by decide +kernel
theorem dX16_lookOn_78 : decode cX16_lookOn 78 = .ok (.goto (-61), 3) := by decide +kernel
theorem dX16_lookOn_81 : decode cX16_lookOn 81 = .ok (.iload_n 3, 1) := by decide +kernel
theorem dX16_lookOn_82 : decode cX16_lookOn 82 = .ok (.ifCond .eq 5, 3) := by decide +kernel
theorem dX16_lookOn_85 : decode cX16_lookOn 85 = .ok (.iconst 1, 1) := by decide +kernel
theorem dX16_lookOn_86 : decode cX16_lookOn 86 = .ok (.ireturn, 1) := by decide +kernel
theorem dX16_lookOn_87 : decode cX16_lookOn 87 = .ok (.iload_n 2, 1) := by decide +kernel
theorem dX16_lookOn_88 : decode cX16_lookOn 88 = .ok (.ifCond .lt 16, 3) := by decide +kernel
theorem dX16_lookOn_91 : decode cX16_lookOn 91 = .ok (.aload_n 0, 1) := by decide +kernel
theorem dX16_lookOn_92 : decode cX16_lookOn 92 = .ok (.getfield 264, 3) := by decide +kernel
theorem dX16_lookOn_95 : decode cX16_lookOn 95 = .ok (.iload_n 1, 1) := by decide +kernel
theorem dX16_lookOn_96 : decode cX16_lookOn 96 = .ok (.iaload, 1) := by decide +kernel
theorem dX16_lookOn_97 : decode cX16_lookOn 97 = .ok (.aload_n 0, 1) := by decide +kernel
theorem dX16_lookOn_98 : decode cX16_lookOn 98 = .ok (.getfield 380, 3) := by decide +kernel
theorem dX16_lookOn_101 : decode cX16_lookOn 101 = .ok (.if_icmp .lt 5, 3) := by decide +kernel
theorem dX16_lookOn_104 : decode cX16_lookOn 104 = .ok (.iconst 0, 1) := by decide +kernel
theorem dX16_lookOn_105 : decode cX16_lookOn 105 = .ok (.ireturn, 1) := by decide +kernel
theorem dX16_lookOn_106 : decode cX16_lookOn 106 = .ok (.aload_n 0, 1) := by decide +kernel
theorem dX16_lookOn_107 : decode cX16_lookOn 107 = .ok (.aload_n 0, 1) := by decide +kernel
theorem dX16_lookOn_108 : decode cX16_lookOn 108 = .ok (.getfield 243, 3) := by decide +kernel
theorem dX16_lookOn_111 : decode cX16_lookOn 111 = .ok (.iconst 5, 1) := by decide +kernel
theorem dX16_lookOn_112 : decode cX16_lookOn 112 = .ok (.iload_n 1, 1) := by decide +kernel
theorem dX16_lookOn_113 : decode cX16_lookOn 113 = .ok (.imul, 1) := by decide +kernel
theorem dX16_lookOn_114 : decode cX16_lookOn 114 = .ok (.invokevirtual 634, 3) := by decide +kernel
theorem dX16_lookOn_117 : decode cX16_lookOn 117 = .ok (.aload_n 0, 1) := by decide +kernel
theorem dX16_lookOn_118 : decode cX16_lookOn 118 = .ok (.iload_n 1, 1) := by decide +kernel
theorem dX16_lookOn_119 : decode cX16_lookOn 119 = .ok (.aload_n 0, 1) := by decide +kernel
theorem dX16_lookOn_120 : decode cX16_lookOn 120 = .ok (.getfield 255, 3) := by decide +kernel
theorem dX16_lookOn_123 : decode cX16_lookOn 123 = .ok (.iload_n 2, 1) := by decide +kernel
theorem dX16_lookOn_124 : decode cX16_lookOn 124 = .ok (.iaload, 1) := by decide +kernel
theorem dX16_lookOn_125 : decode cX16_lookOn 125 = .ok (.aload_n 0, 1) := by decide +kernel
theorem dX16_lookOn_126 : decode cX16_lookOn 126 = .ok (.getfield 252, 3) := by decide +kernel
theorem dX16_lookOn_129 : decode cX16_lookOn 129 = .ok (.iconst 5, 1) := by decide +kernel
theorem dX16_lookOn_130 : decode cX16_lookOn 130 = .ok (.iload_n 2, 1) := by decide +kernel
theorem dX16_lookOn_131 : decode cX16_lookOn 131 = .ok (.imul, 1) := by decide +kernel
theorem dX16_lookOn_132 : decode cX16_lookOn 132 = .ok (.aload_n 0, 1) := by decide +kernel
theorem dX16_lookOn_133 : decode cX16_lookOn 133 = .ok (.getfield 246, 3) := by decide +kernel
theorem dX16_lookOn_136 : decode cX16_lookOn 136 = .ok (.iload_n 1, 1) := by decide +kernel
theorem dX16_lookOn_137 : decode cX16_lookOn 137 = .ok (.baload, 1) := by decide +kernel
theorem dX16_lookOn_138 : decode cX16_lookOn 138 = .ok (.ifCond .eq 7, 3) := by decide +kernel
theorem dX16_lookOn_141 : decode cX16_lookOn 141 = .ok (.iconst 5, 1) := by decide +kernel
theorem dX16_lookOn_142 : decode cX16_lookOn 142 = .ok (.goto 4, 3) := by decide +kernel
theorem dX16_lookOn_145 : decode cX16_lookOn 145 = .ok (.iconst 3, 1) := by decide +kernel
theorem dX16_lookOn_146 : decode cX16_lookOn 146 = .ok (.invokevirtual 637, 3) := by decide +kernel
theorem dX16_lookOn_149 : decode cX16_lookOn 149 = .ok (.ifCond .eq 23, 3) := by decide +kernel
theorem dX16_lookOn_152 : decode cX16_lookOn 152 = .ok (.aload_n 0, 1) := by decide +kernel
theorem dX16_lookOn_153 : decode cX16_lookOn 153 = .ok (.getfield 258, 3) := by decide +kernel
theorem dX16_lookOn_156 : decode cX16_lookOn 156 = .ok (.iload_n 2, 1) := by decide +kernel
theorem dX16_lookOn_157 : decode cX16_lookOn 157 = .ok (.iconst 1, 1) := by decide +kernel
theorem dX16_lookOn_158 : decode cX16_lookOn 158 = .ok (.iastore, 1) := by decide +kernel
theorem dX16_lookOn_159 : decode cX16_lookOn 159 = .ok (.aload_n 0, 1) := by decide +kernel
theorem dX16_lookOn_160 : decode cX16_lookOn 160 = .ok (.getfield 264, 3) := by decide +kernel
theorem dX16_lookOn_163 : decode cX16_lookOn 163 = .ok (.iload_n 1, 1) := by decide +kernel
theorem dX16_lookOn_164 : decode cX16_lookOn 164 = .ok (.dup2, 1) := by decide +kernel
theorem dX16_lookOn_165 : decode cX16_lookOn 165 = .ok (.iaload, 1) := by decide +kernel
theorem dX16_lookOn_166 : decode cX16_lookOn 166 = .ok (.iconst 1, 1) := by decide +kernel
theorem dX16_lookOn_167 : decode cX16_lookOn 167 = .ok (.iadd, 1) := by decide +kernel
theorem dX16_lookOn_168 : decode cX16_lookOn 168 = .ok (.iastore, 1) := by decide +kernel
theorem dX16_lookOn_169 : decode cX16_lookOn 169 = .ok (.goto 10, 3) := by decide +kernel
theorem dX16_lookOn_172 : decode cX16_lookOn 172 = .ok (.aload_n 0, 1) := by decide +kernel
theorem dX16_lookOn_173 : decode cX16_lookOn 173 = .ok (.getfield 258, 3) := by decide +kernel
theorem dX16_lookOn_176 : decode cX16_lookOn 176 = .ok (.iload_n 2, 1) := by decide +kernel
theorem dX16_lookOn_177 : decode cX16_lookOn 177 = .ok (.iconst 3, 1) := by decide +kernel
theorem dX16_lookOn_178 : decode cX16_lookOn 178 = .ok (.iastore, 1) := by decide +kernel
theorem dX16_lookOn_179 : decode cX16_lookOn 179 = .ok (.goto (-179), 3) := by decide +kernel
def j_X16_lookOn_179 (x1 : Int) (V : VV) : Option ((VV) ⊕ (Int × VV)) :=
  cnt V
def j_X16_lookOn_146 (x1 x2 y1 y2 y4 y5 : Int) (V : VV) : Option ((VV) ⊕ (Int × VV)) :=
  (f_X16_askFor y1 y2 235 y4 y5 V).bind fun r1 =>
  if w32 r1.1 = 0 then
    (s2 237 2860 x2 3 r1.2).bind fun V1 =>
    j_X16_lookOn_179 x1 V1
  else
    (s2 237 2860 x2 1 r1.2).bind fun V2 =>
    (l2 239 44 x1 V2).bind fun v1 =>
    (s2 239 44 x1 (v1 + 1) V2).bind fun V3 =>
    j_X16_lookOn_179 x1 V3
def j_X16_lookOn_104 (V : VV) : Option (Int × VV) :=
  some (0, V)
def j_X16_lookOn_81 (x1 x2 x3 : Int) (V : VV) : Option ((VV) ⊕ (Int × VV)) :=
  if w32 x3 = 0 then
    if w32 x2 < 0 then
      xit (j_X16_lookOn_104 V)
    else
      (l2 239 44 x1 V).bind fun v1 =>
      if w32 v1 < w32 (w32 (V 156 1)) then
        (f_X16_bodyKey 232 (5 * x1) V).bind fun V1 =>
        (l2 236 2860 x2 V1).bind fun v2 =>
        (l2 233 44 x1 V1).bind fun v3 =>
        if w32 v3 = 0 then
          j_X16_lookOn_146 x1 x2 x1 v2 (5 * x2) 3 V1
        else
          j_X16_lookOn_146 x1 x2 x1 v2 (5 * x2) 5 V1
      else
        xit (j_X16_lookOn_104 V)
  else
    xit (some (1, V))
def j_X16_lookOn_74 (x1 x2 x4 y0 : Int) (V : VV) : Option ((Int × Int × Int) ⊕ ((VV) ⊕ (Int × VV))) :=
  cnt (x2, y0, x4 + (-1))
def j_X16_lookOn_73 (x1 x2 x4 : Int) (V : VV) : Option ((Int × Int × Int) ⊕ ((VV) ⊕ (Int × VV))) :=
  j_X16_lookOn_74 x1 x2 x4 0 V
def j_X16_lookOn_48 (x1 x3 x4 y0 : Int) (V : VV) : Option ((Int × Int × Int) ⊕ ((VV) ⊕ (Int × VV))) :=
  if w32 x3 = 0 then
    j_X16_lookOn_73 x1 y0 x4 V
  else
    (l2 240 21 x4 V).bind fun v1 =>
    (l2 237 2860 v1 V).bind fun v2 =>
    if w32 v2 = w32 2 then
      j_X16_lookOn_74 x1 y0 x4 1 V
    else
      j_X16_lookOn_73 x1 y0 x4 V
def b_X16_lookOn_17 (x1 x2 x3 x4 : Int) (V : VV) : Option ((Int × Int × Int) ⊕ ((VV) ⊕ (Int × VV))) :=
  if w32 x4 < 0 then
    xit (j_X16_lookOn_81 x1 x2 x3 V)
  else
    (l2 240 21 x4 V).bind fun v1 =>
    (l2 237 2860 v1 V).bind fun v2 =>
    if w32 v2 = 0 then
      (l2 240 21 x4 V).bind fun v3 =>
      j_X16_lookOn_48 x1 x3 x4 v3 V
    else
      j_X16_lookOn_48 x1 x3 x4 x2 V
def l_X16_lookOn_17 (x1 x2 x3 x4 : Int) (V : VV) : Option ((VV) ⊕ (Int × VV)) := lpN (fun s : Int × Int × Int => b_X16_lookOn_17 x1 s.1 s.2.1 s.2.2 V) FU (x2, x3, x4)
def b_X16_lookOn_0 (x1 : Int) (V : VV) : Option ((VV) ⊕ (Int × VV)) :=
  (f_X16_makeFront x1 V).bind fun V1 =>
  l_X16_lookOn_17 x1 (-1) 1 ((w32 (V1 156 106)) - 1) V1
def l_X16_lookOn_0 (x1 : Int) (V : VV) : Option (Int × VV) := lpN (fun s : VV => b_X16_lookOn_0 x1 s) FU V
def f_X16_lookOn (x1 : Int) (V : VV) : Option (Int × VV) := l_X16_lookOn_0 x1 V
theorem s_X16_lookOn_179 {g : GG} {d : Nat} (hD : 6 ≤ d) {x1 : Int} {M : MM} (hM : LM M) {V : VV} {o : AV × MM} {P : ((VV) ⊕ (Int × VV)) → Prop} (c0 : ∀ s : VV, P (.inl s) → Sem g d YX16_lookOn 0 [(1, 156), (0, x1), (9, 0), (9, 0), (9, 0)] [] (wr M s) o) (r0 : ∀ r : Int × VV, P (.inr r) → o = ((0, r.1), (wr M r.2))) {z : (VV) ⊕ (Int × VV)} (h : j_X16_lookOn_179 x1 V = some z) (hz : P z) : Sem g d YX16_lookOn 179 [(1, 156), (0, x1), (9, 0), (9, 0), (9, 0)] [] (wr M V) o := by
  delta j_X16_lookOn_179 at h
  refine S_goto (tgt := 0) dX16_lookOn_179 rfl ?_
  exact c0 V (some_P (P := fun r => P r) h hz)
theorem s_X16_lookOn_146 {g : GG} {d : Nat} (hD : 6 ≤ d) {x1 x2 y1 y2 y4 y5 : Int} {M : MM} (hM : LM M) {V : VV} {o : AV × MM} {P : ((VV) ⊕ (Int × VV)) → Prop} (c0 : ∀ s : VV, P (.inl s) → Sem g d YX16_lookOn 0 [(1, 156), (0, x1), (9, 0), (9, 0), (9, 0)] [] (wr M s) o) (r0 : ∀ r : Int × VV, P (.inr r) → o = ((0, r.1), (wr M r.2))) {z : (VV) ⊕ (Int × VV)} (h : j_X16_lookOn_146 x1 x2 y1 y2 y4 y5 V = some z) (hz : P z) : Sem g d YX16_lookOn 146 [(1, 156), (0, x1), (0, x2), (9, 0), (9, 0)] [(0, y5), (0, y4), (1, 235), (0, y2), (0, y1), (1, 156)] (wr M V) o := by
  delta j_X16_lookOn_146 at h
  refine P2_invVe hM 0 [(0, y1), (0, y2), (1, 235), (0, y4), (0, y5)] [] CVX16_askFor MLX16_637 dX16_lookOn_146 rfl rfl rfl rfl rfl (by omega) h (fun r h => F_X16_askFor (by omega) hM h) (fun r1 h => ?_)
  refine P_if_eq (tgt := 172) dX16_lookOn_149 rfl h (fun h => ?_) (fun h => ?_)
  · refine S_aload_n (i := 0) dX16_lookOn_172 rfl rfl ?_
    refine P2_gfr hM (a := 237) FLX16_258 rfl ⟨rfl, rfl⟩ dX16_lookOn_173 ?_
    refine S_iload_n (i := 2) dX16_lookOn_176 rfl rfl ?_
    refine S_iconst dX16_lookOn_177 rfl ?_
    refine P2_sai hM (a := 237) (n := 2860) rfl dX16_lookOn_178 h (fun V1 h => ?_)
    refine S_weak (ls' := [(1, 156), (0, x1), (9, 0), (9, 0), (9, 0)]) ⟨Or.inr rfl, ⟨Or.inr rfl, ⟨Or.inl rfl, ⟨Or.inl rfl, ⟨Or.inl rfl, trivial⟩⟩⟩⟩⟩ ?_
    exact s_X16_lookOn_179 hD hM c0 r0 h hz
  · refine S_aload_n (i := 0) dX16_lookOn_152 rfl rfl ?_
    refine P2_gfr hM (a := 237) FLX16_258 rfl ⟨rfl, rfl⟩ dX16_lookOn_153 ?_
    refine S_iload_n (i := 2) dX16_lookOn_156 rfl rfl ?_
    refine S_iconst dX16_lookOn_157 rfl ?_
    refine P2_sai hM (a := 237) (n := 2860) rfl dX16_lookOn_158 h (fun V2 h => ?_)
    refine S_aload_n (i := 0) dX16_lookOn_159 rfl rfl ?_
    refine P2_gfr hM (a := 239) FLX16_264 rfl ⟨rfl, rfl⟩ dX16_lookOn_160 ?_
    refine S_iload_n (i := 1) dX16_lookOn_163 rfl rfl ?_
    refine S_dup2 dX16_lookOn_164 (Nat.le_of_ble_eq_true rfl) (Nat.le_of_ble_eq_true rfl) ?_
    refine P2_lai hM (a := 239) (n := 44) rfl dX16_lookOn_165 h (fun v1 h => ?_)
    refine S_iconst dX16_lookOn_166 rfl ?_
    refine S_iadd dX16_lookOn_167 ?_
    refine P2_sai hM (a := 239) (n := 44) rfl dX16_lookOn_168 h (fun V3 h => ?_)
    refine S_goto (tgt := 179) dX16_lookOn_169 rfl ?_
    refine S_weak (ls' := [(1, 156), (0, x1), (9, 0), (9, 0), (9, 0)]) ⟨Or.inr rfl, ⟨Or.inr rfl, ⟨Or.inl rfl, ⟨Or.inl rfl, ⟨Or.inl rfl, trivial⟩⟩⟩⟩⟩ ?_
    exact s_X16_lookOn_179 hD hM c0 r0 h hz
theorem s_X16_lookOn_104 {g : GG} {d : Nat} (hD : 6 ≤ d) {M : MM} (hM : LM M) {V : VV} {o : AV × MM} {P : (Int × VV) → Prop} (r0 : ∀ r : Int × VV, P r → o = ((0, r.1), (wr M r.2))) {z : Int × VV} (h : j_X16_lookOn_104 V = some z) (hz : P z) : Sem g d YX16_lookOn 104 [(9, 0), (9, 0), (9, 0), (9, 0), (9, 0)] [] (wr M V) o := by
  delta j_X16_lookOn_104 at h
  refine S_iconst dX16_lookOn_104 rfl ?_
  obtain rfl := r0 _ (some_P (P := fun r => P r) h hz)
  exact P_ret dX16_lookOn_105 rfl (Or.inr ⟨rfl, Or.inl rfl⟩)
theorem s_X16_lookOn_81 {g : GG} {d : Nat} (hD : 6 ≤ d) {x1 x2 x3 : Int} {M : MM} (hM : LM M) {V : VV} {o : AV × MM} {P : ((VV) ⊕ (Int × VV)) → Prop} (c0 : ∀ s : VV, P (.inl s) → Sem g d YX16_lookOn 0 [(1, 156), (0, x1), (9, 0), (9, 0), (9, 0)] [] (wr M s) o) (r0 : ∀ r : Int × VV, P (.inr r) → o = ((0, r.1), (wr M r.2))) {z : (VV) ⊕ (Int × VV)} (h : j_X16_lookOn_81 x1 x2 x3 V = some z) (hz : P z) : Sem g d YX16_lookOn 81 [(1, 156), (0, x1), (0, x2), (0, x3), (9, 0)] [] (wr M V) o := by
  delta j_X16_lookOn_81 at h
  refine S_iload_n (i := 3) dX16_lookOn_81 rfl rfl ?_
  refine P_if_eq (tgt := 87) dX16_lookOn_82 rfl h (fun h => ?_) (fun h => ?_)
  · refine S_iload_n (i := 2) dX16_lookOn_87 rfl rfl ?_
    refine P_if_lt (tgt := 104) dX16_lookOn_88 rfl h (fun h => ?_) (fun h => ?_)
    · refine S_weak (ls' := [(9, 0), (9, 0), (9, 0), (9, 0), (9, 0)]) ⟨Or.inl rfl, ⟨Or.inl rfl, ⟨Or.inl rfl, ⟨Or.inl rfl, ⟨Or.inl rfl, trivial⟩⟩⟩⟩⟩ ?_
      obtain ⟨z0, h, hz⟩ := xit_some' (P := fun r => P r) h hz
      exact s_X16_lookOn_104 hD hM (P := fun r => P (.inr r)) r0 h hz
    · refine S_aload_n (i := 0) dX16_lookOn_91 rfl rfl ?_
      refine P2_gfr hM (a := 239) FLX16_264 rfl ⟨rfl, rfl⟩ dX16_lookOn_92 ?_
      refine S_iload_n (i := 1) dX16_lookOn_95 rfl rfl ?_
      refine P2_lai hM (a := 239) (n := 44) rfl dX16_lookOn_96 h (fun v1 h => ?_)
      refine S_aload_n (i := 0) dX16_lookOn_97 rfl rfl ?_
      refine P2_gfi hM FLX16_380 rfl dX16_lookOn_98 ?_
      refine P_icmp_lt (tgt := 106) dX16_lookOn_101 rfl h (fun h => ?_) (fun h => ?_)
      · refine S_aload_n (i := 0) dX16_lookOn_106 rfl rfl ?_
        refine S_aload_n (i := 0) dX16_lookOn_107 rfl rfl ?_
        refine P2_gfr hM (a := 232) FLX16_243 rfl ⟨rfl, rfl⟩ dX16_lookOn_108 ?_
        refine S_iconst dX16_lookOn_111 rfl ?_
        refine S_iload_n (i := 1) dX16_lookOn_112 rfl rfl ?_
        refine S_imul dX16_lookOn_113 ?_
        refine P2_invVm hM [(1, 232), (0, 5 * x1)] [] CVX16_bodyKey MLX16_634 dX16_lookOn_114 rfl rfl rfl rfl (by omega) h (fun r h => F_X16_bodyKey (by omega) hM h) (fun V1 h => ?_)
        refine S_aload_n (i := 0) dX16_lookOn_117 rfl rfl ?_
        refine S_iload_n (i := 1) dX16_lookOn_118 rfl rfl ?_
        refine S_aload_n (i := 0) dX16_lookOn_119 rfl rfl ?_
        refine P2_gfr hM (a := 236) FLX16_255 rfl ⟨rfl, rfl⟩ dX16_lookOn_120 ?_
        refine S_iload_n (i := 2) dX16_lookOn_123 rfl rfl ?_
        refine P2_lai hM (a := 236) (n := 2860) rfl dX16_lookOn_124 h (fun v2 h => ?_)
        refine S_aload_n (i := 0) dX16_lookOn_125 rfl rfl ?_
        refine P2_gfr hM (a := 235) FLX16_252 rfl ⟨rfl, rfl⟩ dX16_lookOn_126 ?_
        refine S_iconst dX16_lookOn_129 rfl ?_
        refine S_iload_n (i := 2) dX16_lookOn_130 rfl rfl ?_
        refine S_imul dX16_lookOn_131 ?_
        refine S_aload_n (i := 0) dX16_lookOn_132 rfl rfl ?_
        refine P2_gfr hM (a := 233) FLX16_246 rfl ⟨rfl, rfl⟩ dX16_lookOn_133 ?_
        refine S_iload_n (i := 1) dX16_lookOn_136 rfl rfl ?_
        refine P2_laz hM (a := 233) (n := 44) rfl dX16_lookOn_137 h (fun v3 h => ?_)
        refine P_if_eq (tgt := 145) dX16_lookOn_138 rfl h (fun h => ?_) (fun h => ?_)
        · refine S_iconst dX16_lookOn_145 rfl ?_
          refine S_weak (ls' := [(1, 156), (0, x1), (0, x2), (9, 0), (9, 0)]) ⟨Or.inr rfl, ⟨Or.inr rfl, ⟨Or.inr rfl, ⟨Or.inl rfl, ⟨Or.inl rfl, trivial⟩⟩⟩⟩⟩ ?_
          exact s_X16_lookOn_146 hD hM c0 r0 h hz
        · refine S_iconst dX16_lookOn_141 rfl ?_
          refine S_goto (tgt := 146) dX16_lookOn_142 rfl ?_
          refine S_weak (ls' := [(1, 156), (0, x1), (0, x2), (9, 0), (9, 0)]) ⟨Or.inr rfl, ⟨Or.inr rfl, ⟨Or.inr rfl, ⟨Or.inl rfl, ⟨Or.inl rfl, trivial⟩⟩⟩⟩⟩ ?_
          exact s_X16_lookOn_146 hD hM c0 r0 h hz
      · refine S_weak (ls' := [(9, 0), (9, 0), (9, 0), (9, 0), (9, 0)]) ⟨Or.inl rfl, ⟨Or.inl rfl, ⟨Or.inl rfl, ⟨Or.inl rfl, ⟨Or.inl rfl, trivial⟩⟩⟩⟩⟩ ?_
        obtain ⟨z0, h, hz⟩ := xit_some' (P := fun r => P r) h hz
        exact s_X16_lookOn_104 hD hM (P := fun r => P (.inr r)) r0 h hz
  · obtain ⟨z0, h, hz⟩ := xit_some' (P := fun r => P r) h hz
    refine S_iconst dX16_lookOn_85 rfl ?_
    obtain rfl := r0 _ (some_P (P := fun r => P (.inr r)) h hz)
    exact P_ret dX16_lookOn_86 rfl (Or.inr ⟨rfl, Or.inr rfl⟩)
theorem s_X16_lookOn_74 {g : GG} {d : Nat} (hD : 6 ≤ d) {x1 x2 x4 y0 : Int} {M : MM} (hM : LM M) {V : VV} {o : AV × MM} {P : ((Int × Int × Int) ⊕ ((VV) ⊕ (Int × VV))) → Prop} (c1 : ∀ s : Int × Int × Int, P (.inl s) → Sem g d YX16_lookOn 17 [(1, 156), (0, x1), (0, s.1), (0, s.2.1), (0, s.2.2)] [] (wr M V) o) (c0 : ∀ s : VV, P (.inr (.inl s)) → Sem g d YX16_lookOn 0 [(1, 156), (0, x1), (9, 0), (9, 0), (9, 0)] [] (wr M s) o) (r0 : ∀ r : Int × VV, P (.inr (.inr r)) → o = ((0, r.1), (wr M r.2))) {z : (Int × Int × Int) ⊕ ((VV) ⊕ (Int × VV))} (h : j_X16_lookOn_74 x1 x2 x4 y0 V = some z) (hz : P z) : Sem g d YX16_lookOn 74 [(1, 156), (0, x1), (0, x2), (9, 0), (0, x4)] [(0, y0)] (wr M V) o := by
  delta j_X16_lookOn_74 at h
  refine S_istore_n (i := 3) dX16_lookOn_74 rfl (Nat.le_of_ble_eq_true rfl) rfl rfl ?_
  change Sem g d YX16_lookOn 75 [(1, 156), (0, x1), (0, x2), (0, y0), (0, x4)] [] (wr M V) o
  refine S_iinc dX16_lookOn_75 rfl rfl rfl ?_
  change Sem g d YX16_lookOn 78 [(1, 156), (0, x1), (0, x2), (0, y0), (0, x4 + (-1))] [] (wr M V) o
  refine S_goto (tgt := 17) dX16_lookOn_78 rfl ?_
  exact c1 (x2, y0, x4 + (-1)) (some_P (P := fun r => P r) h hz)
theorem s_X16_lookOn_73 {g : GG} {d : Nat} (hD : 6 ≤ d) {x1 x2 x4 : Int} {M : MM} (hM : LM M) {V : VV} {o : AV × MM} {P : ((Int × Int × Int) ⊕ ((VV) ⊕ (Int × VV))) → Prop} (c1 : ∀ s : Int × Int × Int, P (.inl s) → Sem g d YX16_lookOn 17 [(1, 156), (0, x1), (0, s.1), (0, s.2.1), (0, s.2.2)] [] (wr M V) o) (c0 : ∀ s : VV, P (.inr (.inl s)) → Sem g d YX16_lookOn 0 [(1, 156), (0, x1), (9, 0), (9, 0), (9, 0)] [] (wr M s) o) (r0 : ∀ r : Int × VV, P (.inr (.inr r)) → o = ((0, r.1), (wr M r.2))) {z : (Int × Int × Int) ⊕ ((VV) ⊕ (Int × VV))} (h : j_X16_lookOn_73 x1 x2 x4 V = some z) (hz : P z) : Sem g d YX16_lookOn 73 [(1, 156), (0, x1), (0, x2), (9, 0), (0, x4)] [] (wr M V) o := by
  delta j_X16_lookOn_73 at h
  refine S_iconst dX16_lookOn_73 rfl ?_
  exact s_X16_lookOn_74 hD hM c1 c0 r0 h hz
theorem s_X16_lookOn_48 {g : GG} {d : Nat} (hD : 6 ≤ d) {x1 x3 x4 y0 : Int} {M : MM} (hM : LM M) {V : VV} {o : AV × MM} {P : ((Int × Int × Int) ⊕ ((VV) ⊕ (Int × VV))) → Prop} (c1 : ∀ s : Int × Int × Int, P (.inl s) → Sem g d YX16_lookOn 17 [(1, 156), (0, x1), (0, s.1), (0, s.2.1), (0, s.2.2)] [] (wr M V) o) (c0 : ∀ s : VV, P (.inr (.inl s)) → Sem g d YX16_lookOn 0 [(1, 156), (0, x1), (9, 0), (9, 0), (9, 0)] [] (wr M s) o) (r0 : ∀ r : Int × VV, P (.inr (.inr r)) → o = ((0, r.1), (wr M r.2))) {z : (Int × Int × Int) ⊕ ((VV) ⊕ (Int × VV))} (h : j_X16_lookOn_48 x1 x3 x4 y0 V = some z) (hz : P z) : Sem g d YX16_lookOn 48 [(1, 156), (0, x1), (9, 0), (0, x3), (0, x4)] [(0, y0)] (wr M V) o := by
  delta j_X16_lookOn_48 at h
  refine S_istore_n (i := 2) dX16_lookOn_48 rfl (Nat.le_of_ble_eq_true rfl) rfl rfl ?_
  change Sem g d YX16_lookOn 49 [(1, 156), (0, x1), (0, y0), (0, x3), (0, x4)] [] (wr M V) o
  refine S_iload_n (i := 3) dX16_lookOn_49 rfl rfl ?_
  refine P_if_eq (tgt := 73) dX16_lookOn_50 rfl h (fun h => ?_) (fun h => ?_)
  · refine S_weak (ls' := [(1, 156), (0, x1), (0, y0), (9, 0), (0, x4)]) ⟨Or.inr rfl, ⟨Or.inr rfl, ⟨Or.inr rfl, ⟨Or.inl rfl, ⟨Or.inr rfl, trivial⟩⟩⟩⟩⟩ ?_
    exact s_X16_lookOn_73 hD hM c1 c0 r0 h hz
  · refine S_aload_n (i := 0) dX16_lookOn_53 rfl rfl ?_
    refine P2_gfr hM (a := 237) FLX16_258 rfl ⟨rfl, rfl⟩ dX16_lookOn_54 ?_
    refine S_aload_n (i := 0) dX16_lookOn_57 rfl rfl ?_
    refine P2_gfr hM (a := 240) FLX16_267 rfl ⟨rfl, rfl⟩ dX16_lookOn_58 ?_
    refine S_iload dX16_lookOn_61 rfl ?_
    refine P2_lai hM (a := 240) (n := 21) rfl dX16_lookOn_63 h (fun v1 h => ?_)
    refine P2_lai hM (a := 237) (n := 2860) rfl dX16_lookOn_64 h (fun v2 h => ?_)
    refine S_iconst dX16_lookOn_65 rfl ?_
    refine P_icmp_ne (tgt := 73) dX16_lookOn_66 rfl h (fun h => ?_) (fun h => ?_)
    · refine S_weak (ls' := [(1, 156), (0, x1), (0, y0), (9, 0), (0, x4)]) ⟨Or.inr rfl, ⟨Or.inr rfl, ⟨Or.inr rfl, ⟨Or.inl rfl, ⟨Or.inr rfl, trivial⟩⟩⟩⟩⟩ ?_
      exact s_X16_lookOn_73 hD hM c1 c0 r0 h hz
    · refine S_iconst dX16_lookOn_69 rfl ?_
      refine S_goto (tgt := 74) dX16_lookOn_70 rfl ?_
      refine S_weak (ls' := [(1, 156), (0, x1), (0, y0), (9, 0), (0, x4)]) ⟨Or.inr rfl, ⟨Or.inr rfl, ⟨Or.inr rfl, ⟨Or.inl rfl, ⟨Or.inr rfl, trivial⟩⟩⟩⟩⟩ ?_
      exact s_X16_lookOn_74 hD hM c1 c0 r0 h hz
theorem s_X16_lookOn_17 {g : GG} {d : Nat} (hD : 6 ≤ d) {x1 x2 x3 x4 : Int} {M : MM} (hM : LM M) {V : VV} {o : AV × MM} {P : ((Int × Int × Int) ⊕ ((VV) ⊕ (Int × VV))) → Prop} (c1 : ∀ s : Int × Int × Int, P (.inl s) → Sem g d YX16_lookOn 17 [(1, 156), (0, x1), (0, s.1), (0, s.2.1), (0, s.2.2)] [] (wr M V) o) (c0 : ∀ s : VV, P (.inr (.inl s)) → Sem g d YX16_lookOn 0 [(1, 156), (0, x1), (9, 0), (9, 0), (9, 0)] [] (wr M s) o) (r0 : ∀ r : Int × VV, P (.inr (.inr r)) → o = ((0, r.1), (wr M r.2))) {z : (Int × Int × Int) ⊕ ((VV) ⊕ (Int × VV))} (h : b_X16_lookOn_17 x1 x2 x3 x4 V = some z) (hz : P z) : Sem g d YX16_lookOn 17 [(1, 156), (0, x1), (0, x2), (0, x3), (0, x4)] [] (wr M V) o := by
  delta b_X16_lookOn_17 at h
  refine S_iload dX16_lookOn_17 rfl ?_
  refine P_if_lt (tgt := 81) dX16_lookOn_19 rfl h (fun h => ?_) (fun h => ?_)
  · refine S_weak (ls' := [(1, 156), (0, x1), (0, x2), (0, x3), (9, 0)]) ⟨Or.inr rfl, ⟨Or.inr rfl, ⟨Or.inr rfl, ⟨Or.inr rfl, ⟨Or.inl rfl, trivial⟩⟩⟩⟩⟩ ?_
    obtain ⟨z0, h, hz⟩ := xit_some' (P := fun r => P r) h hz
    exact s_X16_lookOn_81 hD hM (P := fun r => P (.inr r)) c0 r0 h hz
  · refine S_aload_n (i := 0) dX16_lookOn_22 rfl rfl ?_
    refine P2_gfr hM (a := 237) FLX16_258 rfl ⟨rfl, rfl⟩ dX16_lookOn_23 ?_
    refine S_aload_n (i := 0) dX16_lookOn_26 rfl rfl ?_
    refine P2_gfr hM (a := 240) FLX16_267 rfl ⟨rfl, rfl⟩ dX16_lookOn_27 ?_
    refine S_iload dX16_lookOn_30 rfl ?_
    refine P2_lai hM (a := 240) (n := 21) rfl dX16_lookOn_32 h (fun v1 h => ?_)
    refine P2_lai hM (a := 237) (n := 2860) rfl dX16_lookOn_33 h (fun v2 h => ?_)
    refine P_if_ne (tgt := 47) dX16_lookOn_34 rfl h (fun h => ?_) (fun h => ?_)
    · refine S_iload_n (i := 2) dX16_lookOn_47 rfl rfl ?_
      refine S_weak (ls' := [(1, 156), (0, x1), (9, 0), (0, x3), (0, x4)]) ⟨Or.inr rfl, ⟨Or.inr rfl, ⟨Or.inl rfl, ⟨Or.inr rfl, ⟨Or.inr rfl, trivial⟩⟩⟩⟩⟩ ?_
      exact s_X16_lookOn_48 hD hM c1 c0 r0 h hz
    · refine S_aload_n (i := 0) dX16_lookOn_37 rfl rfl ?_
      refine P2_gfr hM (a := 240) FLX16_267 rfl ⟨rfl, rfl⟩ dX16_lookOn_38 ?_
      refine S_iload dX16_lookOn_41 rfl ?_
      refine P2_lai hM (a := 240) (n := 21) rfl dX16_lookOn_43 h (fun v3 h => ?_)
      refine S_goto (tgt := 48) dX16_lookOn_44 rfl ?_
      refine S_weak (ls' := [(1, 156), (0, x1), (9, 0), (0, x3), (0, x4)]) ⟨Or.inr rfl, ⟨Or.inr rfl, ⟨Or.inl rfl, ⟨Or.inr rfl, ⟨Or.inr rfl, trivial⟩⟩⟩⟩⟩ ?_
      exact s_X16_lookOn_48 hD hM c1 c0 r0 h hz
theorem sl_X16_lookOn_17 {g : GG} {d : Nat} (hD : 6 ≤ d) {x1 x2 x3 x4 : Int} {M : MM} (hM : LM M) {V : VV} {o : AV × MM} {P : ((VV) ⊕ (Int × VV)) → Prop} (c0 : ∀ s : VV, P (.inl s) → Sem g d YX16_lookOn 0 [(1, 156), (0, x1), (9, 0), (9, 0), (9, 0)] [] (wr M s) o) (r0 : ∀ r : Int × VV, P (.inr r) → o = ((0, r.1), (wr M r.2))) {z : (VV) ⊕ (Int × VV)} (h : l_X16_lookOn_17 x1 x2 x3 x4 V = some z) (hz : P z) : Sem g d YX16_lookOn 17 [(1, 156), (0, x1), (0, x2), (0, x3), (0, x4)] [] (wr M V) o := by
  refine lp_sound (S := fun s : Int × Int × Int => Sem g d YX16_lookOn 17 [(1, 156), (0, x1), (0, s.1), (0, s.2.1), (0, s.2.2)] [] (wr M V) o) (P := P) ?_ FU (x2, x3, x4) z h hz
  intro s x hx hP
  exact s_X16_lookOn_17 hD hM (P := Sum.elim (fun s : Int × Int × Int => Sem g d YX16_lookOn 17 [(1, 156), (0, x1), (0, s.1), (0, s.2.1), (0, s.2.2)] [] (wr M V) o) P) (fun s h => h) (fun s h => c0 s h) (fun s h => r0 s h) hx hP
theorem s_X16_lookOn_0 {g : GG} {d : Nat} (hD : 6 ≤ d) {x1 : Int} {M : MM} (hM : LM M) {V : VV} {o : AV × MM} {P : ((VV) ⊕ (Int × VV)) → Prop} (c0 : ∀ s : VV, P (.inl s) → Sem g d YX16_lookOn 0 [(1, 156), (0, x1), (9, 0), (9, 0), (9, 0)] [] (wr M s) o) (r0 : ∀ r : Int × VV, P (.inr r) → o = ((0, r.1), (wr M r.2))) {z : (VV) ⊕ (Int × VV)} (h : b_X16_lookOn_0 x1 V = some z) (hz : P z) : Sem g d YX16_lookOn 0 [(1, 156), (0, x1), (9, 0), (9, 0), (9, 0)] [] (wr M V) o := by
  delta b_X16_lookOn_0 at h
  refine S_aload_n (i := 0) dX16_lookOn_0 rfl rfl ?_
  refine S_iload_n (i := 1) dX16_lookOn_1 rfl rfl ?_
  refine P2_invVm hM [(0, x1)] [] CVX16_makeFront MLX16_631 dX16_lookOn_2 rfl rfl rfl rfl (by omega) h (fun r h => F_X16_makeFront (by omega) hM h) (fun V1 h => ?_)
  refine S_iconst dX16_lookOn_5 rfl ?_
  refine S_istore_n (i := 2) dX16_lookOn_6 rfl (Nat.le_of_ble_eq_true rfl) rfl rfl ?_
  change Sem g d YX16_lookOn 7 [(1, 156), (0, x1), (0, (-1)), (9, 0), (9, 0)] [] (wr M V1) o
  refine S_iconst dX16_lookOn_7 rfl ?_
  refine S_istore_n (i := 3) dX16_lookOn_8 rfl (Nat.le_of_ble_eq_true rfl) rfl rfl ?_
  change Sem g d YX16_lookOn 9 [(1, 156), (0, x1), (0, (-1)), (0, 1), (9, 0)] [] (wr M V1) o
  refine S_aload_n (i := 0) dX16_lookOn_9 rfl rfl ?_
  refine P2_gfi hM FLX16_628 rfl dX16_lookOn_10 ?_
  refine S_iconst dX16_lookOn_13 rfl ?_
  refine S_isub dX16_lookOn_14 ?_
  refine S_istore dX16_lookOn_15 (Nat.le_of_ble_eq_true rfl) rfl rfl ?_
  change Sem g d YX16_lookOn 17 [(1, 156), (0, x1), (0, (-1)), (0, 1), (0, (w32 (V1 156 106)) - 1)] [] (wr M V1) o
  exact sl_X16_lookOn_17 hD hM c0 r0 h hz
theorem sl_X16_lookOn_0 {g : GG} {d : Nat} (hD : 6 ≤ d) {x1 : Int} {M : MM} (hM : LM M) {V : VV} {o : AV × MM} {P : (Int × VV) → Prop} (r0 : ∀ r : Int × VV, P r → o = ((0, r.1), (wr M r.2))) {z : Int × VV} (h : l_X16_lookOn_0 x1 V = some z) (hz : P z) : Sem g d YX16_lookOn 0 [(1, 156), (0, x1), (9, 0), (9, 0), (9, 0)] [] (wr M V) o := by
  refine lp_sound (S := fun s : VV => Sem g d YX16_lookOn 0 [(1, 156), (0, x1), (9, 0), (9, 0), (9, 0)] [] (wr M s) o) (P := P) ?_ FU V z h hz
  intro s x hx hP
  exact s_X16_lookOn_0 hD hM (P := Sum.elim (fun s : VV => Sem g d YX16_lookOn 0 [(1, 156), (0, x1), (9, 0), (9, 0), (9, 0)] [] (wr M s) o) P) (fun s h => h) (fun s h => r0 s h) hx hP
theorem F_X16_lookOn {g : GG} {d : Nat} (hD : 6 ≤ d) {x1 : Int} {M : MM} (hM : LM M) {V : VV} {r : Int × VV} (h : f_X16_lookOn x1 V = some r) : Sem g d YX16_lookOn 0 (ini YX16_lookOn [(1, 156), (0, x1)]) [] (wr M V) ((0, r.1), (wr M r.2)) := by
  change Sem g d YX16_lookOn 0 [(1, 156), (0, x1), (9, 0), (9, 0), (9, 0)] [] (wr M V) ((0, r.1), (wr M r.2))
  exact sl_X16_lookOn_0 hD hM (P := fun x => x = r) (fun q e => by rw [e]) h rfl
/-! PeerSearchModel.hasTerm(II)Z -/
theorem dX16_hasTerm_0 : decode cX16_hasTerm 0 = .ok (.iconst 0, 1) := by decide +kernel
theorem dX16_hasTerm_1 : decode cX16_hasTerm 1 = .ok (.istore_n 3, 1) := by decide +kernel
theorem dX16_hasTerm_2 : decode cX16_hasTerm 2 = .ok (.iconst 0, 1) := by decide +kernel
theorem dX16_hasTerm_3 : decode cX16_hasTerm 3 = .ok (.istore 4, 2) := by decide +kernel
theorem dX16_hasTerm_5 : decode cX16_hasTerm 5 = .ok (.iload 4, 2) := by decide +kernel
theorem dX16_hasTerm_7 : decode cX16_hasTerm 7 = .ok (.aload_n 0, 1) := by decide +kernel
theorem dX16_hasTerm_8 : decode cX16_hasTerm 8 = .ok (.getfield 276, 3) := by decide +kernel
theorem dX16_hasTerm_11 : decode cX16_hasTerm 11 = .ok (.iload_n 1, 1) := by decide +kernel
theorem dX16_hasTerm_12 : decode cX16_hasTerm 12 = .ok (.iaload, 1) := by decide +kernel
theorem dX16_hasTerm_13 : decode cX16_hasTerm 13 = .ok (.if_icmp .ge 45, 3) := by decide +kernel
theorem dX16_hasTerm_16 : decode cX16_hasTerm 16 = .ok (.iload_n 3, 1) := by decide +kernel
theorem dX16_hasTerm_17 : decode cX16_hasTerm 17 = .ok (.ifCond .ne 29, 3) := by decide +kernel
theorem dX16_hasTerm_20 : decode cX16_hasTerm 20 = .ok (.aload_n 0, 1) := by decide +kernel
theorem dX16_hasTerm_21 : decode cX16_hasTerm 21 = .ok (.getfield 76, 3) := by decide +kernel
theorem dX16_hasTerm_24 : decode cX16_hasTerm 24 = .ok (.sipush 1024, 3) := by decide +kernel
theorem dX16_hasTerm_27 : decode cX16_hasTerm 27 = .ok (.aload_n 0, 1) := by decide +kernel
theorem dX16_hasTerm_28 : decode cX16_hasTerm 28 = .ok (.getfield 231, 3) := by decide +kernel
theorem dX16_hasTerm_31 : decode cX16_hasTerm 31 = .ok (.iload_n 1, 1) := by decide +kernel
theorem dX16_hasTerm_32 : decode cX16_hasTerm 32 = .ok (.iaload, 1) := by decide +kernel
theorem dX16_hasTerm_33 : decode cX16_hasTerm 33 = .ok (.imul, 1) := by decide +kernel
theorem dX16_hasTerm_34 : decode cX16_hasTerm 34 = .ok (.bipush 64, 2) := by decide +kernel
theorem dX16_hasTerm_36 : decode cX16_hasTerm 36 = .ok (.iload 4, 2) := by decide +kernel
theorem dX16_hasTerm_38 : decode cX16_hasTerm 38 = .ok (.imul, 1) := by decide +kernel
theorem dX16_hasTerm_39 : decode cX16_hasTerm 39 = .ok (.iadd, 1) := by decide +kernel
theorem dX16_hasTerm_40 : decode cX16_hasTerm 40 = .ok (.iload_n 2, 1) := by decide +kernel
theorem dX16_hasTerm_41 : decode cX16_hasTerm 41 = .ok (.iadd, 1) := by decide +kernel
theorem dX16_hasTerm_42 : decode cX16_hasTerm 42 = .ok (.iaload, 1) := by decide +kernel
theorem dX16_hasTerm_43 : decode cX16_hasTerm 43 = .ok (.ifCond .le 7, 3) := by decide +kernel
theorem dX16_hasTerm_46 : decode cX16_hasTerm 46 = .ok (.iconst 1, 1) := by decide +kernel
theorem dX16_hasTerm_47 : decode cX16_hasTerm 47 = .ok (.goto 4, 3) := by decide +kernel
theorem dX16_hasTerm_50 : decode cX16_hasTerm 50 = .ok (.iconst 0, 1) := by decide +kernel
theorem dX16_hasTerm_51 : decode cX16_hasTerm 51 = .ok (.istore_n 3, 1) := by decide +kernel
theorem dX16_hasTerm_52 : decode cX16_hasTerm 52 = .ok (.iinc 4 1, 3) := by decide +kernel
theorem dX16_hasTerm_55 : decode cX16_hasTerm 55 = .ok (.goto (-50), 3) := by decide +kernel
theorem dX16_hasTerm_58 : decode cX16_hasTerm 58 = .ok (.iload_n 3, 1) := by decide +kernel
theorem dX16_hasTerm_59 : decode cX16_hasTerm 59 = .ok (.ireturn, 1) := by decide +kernel
def j_X16_hasTerm_51 (x1 x2 x4 y0 : Int) (V : VV) : Option ((Int × Int) ⊕ (Int)) :=
  cnt (y0, x4 + 1)
def j_X16_hasTerm_46 (x1 x2 x4 : Int) (V : VV) : Option ((Int × Int) ⊕ (Int)) :=
  j_X16_hasTerm_51 x1 x2 x4 1 V
def b_X16_hasTerm_5 (x1 x2 x3 x4 : Int) (V : VV) : Option ((Int × Int) ⊕ (Int)) :=
  (l2 243 44 x1 V).bind fun v1 =>
  if w32 x4 < w32 v1 then
    if w32 x3 = 0 then
      (l2 228 44 x1 V).bind fun v2 =>
      (l2 178 32768 (((1024 * v2) + (64 * x4)) + x2) V).bind fun v3 =>
      if 0 < w32 v3 then
        j_X16_hasTerm_46 x1 x2 x4 V
      else
        j_X16_hasTerm_51 x1 x2 x4 0 V
    else
      j_X16_hasTerm_46 x1 x2 x4 V
  else
    xit (bz x3 (some x3))
def l_X16_hasTerm_5 (x1 x2 x3 x4 : Int) (V : VV) : Option (Int) := lpN (fun s : Int × Int => b_X16_hasTerm_5 x1 x2 s.1 s.2 V) FU (x3, x4)
def f_X16_hasTerm (x1 x2 : Int) (V : VV) : Option (Int) :=
  l_X16_hasTerm_5 x1 x2 0 0 V
theorem s_X16_hasTerm_51 {g : GG} {d : Nat} (hD : 0 ≤ d) {x1 x2 x4 y0 : Int} {M : MM} (hM : LM M) {V : VV} {o : AV × MM} {P : ((Int × Int) ⊕ (Int)) → Prop} (c0 : ∀ s : Int × Int, P (.inl s) → Sem g d YX16_hasTerm 5 [(1, 156), (0, x1), (0, x2), (0, s.1), (0, s.2)] [] (wr M V) o) (r0 : ∀ r : Int, P (.inr r) → o = ((0, r), (wr M V))) {z : (Int × Int) ⊕ (Int)} (h : j_X16_hasTerm_51 x1 x2 x4 y0 V = some z) (hz : P z) : Sem g d YX16_hasTerm 51 [(1, 156), (0, x1), (0, x2), (9, 0), (0, x4)] [(0, y0)] (wr M V) o := by
  delta j_X16_hasTerm_51 at h
  refine S_istore_n (i := 3) dX16_hasTerm_51 rfl (Nat.le_of_ble_eq_true rfl) rfl rfl ?_
  change Sem g d YX16_hasTerm 52 [(1, 156), (0, x1), (0, x2), (0, y0), (0, x4)] [] (wr M V) o
  refine S_iinc dX16_hasTerm_52 rfl rfl rfl ?_
  change Sem g d YX16_hasTerm 55 [(1, 156), (0, x1), (0, x2), (0, y0), (0, x4 + 1)] [] (wr M V) o
  refine S_goto (tgt := 5) dX16_hasTerm_55 rfl ?_
  exact c0 (y0, x4 + 1) (some_P (P := fun r => P r) h hz)
theorem s_X16_hasTerm_46 {g : GG} {d : Nat} (hD : 0 ≤ d) {x1 x2 x4 : Int} {M : MM} (hM : LM M) {V : VV} {o : AV × MM} {P : ((Int × Int) ⊕ (Int)) → Prop} (c0 : ∀ s : Int × Int, P (.inl s) → Sem g d YX16_hasTerm 5 [(1, 156), (0, x1), (0, x2), (0, s.1), (0, s.2)] [] (wr M V) o) (r0 : ∀ r : Int, P (.inr r) → o = ((0, r), (wr M V))) {z : (Int × Int) ⊕ (Int)} (h : j_X16_hasTerm_46 x1 x2 x4 V = some z) (hz : P z) : Sem g d YX16_hasTerm 46 [(1, 156), (0, x1), (0, x2), (9, 0), (0, x4)] [] (wr M V) o := by
  delta j_X16_hasTerm_46 at h
  refine S_iconst dX16_hasTerm_46 rfl ?_
  refine S_goto (tgt := 51) dX16_hasTerm_47 rfl ?_
  exact s_X16_hasTerm_51 hD hM c0 r0 h hz
theorem s_X16_hasTerm_5 {g : GG} {d : Nat} (hD : 0 ≤ d) {x1 x2 x3 x4 : Int} {M : MM} (hM : LM M) {V : VV} {o : AV × MM} {P : ((Int × Int) ⊕ (Int)) → Prop} (c0 : ∀ s : Int × Int, P (.inl s) → Sem g d YX16_hasTerm 5 [(1, 156), (0, x1), (0, x2), (0, s.1), (0, s.2)] [] (wr M V) o) (r0 : ∀ r : Int, P (.inr r) → o = ((0, r), (wr M V))) {z : (Int × Int) ⊕ (Int)} (h : b_X16_hasTerm_5 x1 x2 x3 x4 V = some z) (hz : P z) : Sem g d YX16_hasTerm 5 [(1, 156), (0, x1), (0, x2), (0, x3), (0, x4)] [] (wr M V) o := by
  delta b_X16_hasTerm_5 at h
  refine S_iload dX16_hasTerm_5 rfl ?_
  refine S_aload_n (i := 0) dX16_hasTerm_7 rfl rfl ?_
  refine P2_gfr hM (a := 243) FLX16_276 rfl ⟨rfl, rfl⟩ dX16_hasTerm_8 ?_
  refine S_iload_n (i := 1) dX16_hasTerm_11 rfl rfl ?_
  refine P2_lai hM (a := 243) (n := 44) rfl dX16_hasTerm_12 h (fun v1 h => ?_)
  refine P_icmp_ge (tgt := 58) dX16_hasTerm_13 rfl h (fun h => ?_) (fun h => ?_)
  · obtain ⟨z0, h, hz⟩ := xit_some' (P := fun r => P r) h hz
    refine S_iload_n (i := 3) dX16_hasTerm_58 rfl rfl ?_
    obtain ⟨hb, h⟩ := bz_some h
    obtain rfl := r0 _ (some_P (P := fun r => P (.inr r)) h hz)
    exact P_ret dX16_hasTerm_59 rfl (Or.inr ⟨rfl, hb⟩)
  · refine S_iload_n (i := 3) dX16_hasTerm_16 rfl rfl ?_
    refine P_if_ne (tgt := 46) dX16_hasTerm_17 rfl h (fun h => ?_) (fun h => ?_)
    · refine S_weak (ls' := [(1, 156), (0, x1), (0, x2), (9, 0), (0, x4)]) ⟨Or.inr rfl, ⟨Or.inr rfl, ⟨Or.inr rfl, ⟨Or.inl rfl, ⟨Or.inr rfl, trivial⟩⟩⟩⟩⟩ ?_
      exact s_X16_hasTerm_46 hD hM c0 r0 h hz
    · refine S_aload_n (i := 0) dX16_hasTerm_20 rfl rfl ?_
      refine P2_gfr hM (a := 178) FLX16_76 rfl ⟨rfl, rfl⟩ dX16_hasTerm_21 ?_
      refine S_sipush (z := 1024) dX16_hasTerm_24 rfl ?_
      refine S_aload_n (i := 0) dX16_hasTerm_27 rfl rfl ?_
      refine P2_gfr hM (a := 228) FLX16_231 rfl ⟨rfl, rfl⟩ dX16_hasTerm_28 ?_
      refine S_iload_n (i := 1) dX16_hasTerm_31 rfl rfl ?_
      refine P2_lai hM (a := 228) (n := 44) rfl dX16_hasTerm_32 h (fun v2 h => ?_)
      refine S_imul dX16_hasTerm_33 ?_
      refine S_bipush (z := 64) dX16_hasTerm_34 rfl ?_
      refine S_iload dX16_hasTerm_36 rfl ?_
      refine S_imul dX16_hasTerm_38 ?_
      refine S_iadd dX16_hasTerm_39 ?_
      refine S_iload_n (i := 2) dX16_hasTerm_40 rfl rfl ?_
      refine S_iadd dX16_hasTerm_41 ?_
      refine P2_lai hM (a := 178) (n := 32768) rfl dX16_hasTerm_42 h (fun v3 h => ?_)
      refine P_if_le (tgt := 50) dX16_hasTerm_43 rfl h (fun h => ?_) (fun h => ?_)
      · refine S_iconst dX16_hasTerm_50 rfl ?_
        refine S_weak (ls' := [(1, 156), (0, x1), (0, x2), (9, 0), (0, x4)]) ⟨Or.inr rfl, ⟨Or.inr rfl, ⟨Or.inr rfl, ⟨Or.inl rfl, ⟨Or.inr rfl, trivial⟩⟩⟩⟩⟩ ?_
        exact s_X16_hasTerm_51 hD hM c0 r0 h hz
      · refine S_weak (ls' := [(1, 156), (0, x1), (0, x2), (9, 0), (0, x4)]) ⟨Or.inr rfl, ⟨Or.inr rfl, ⟨Or.inr rfl, ⟨Or.inl rfl, ⟨Or.inr rfl, trivial⟩⟩⟩⟩⟩ ?_
        exact s_X16_hasTerm_46 hD hM c0 r0 h hz
theorem sl_X16_hasTerm_5 {g : GG} {d : Nat} (hD : 0 ≤ d) {x1 x2 x3 x4 : Int} {M : MM} (hM : LM M) {V : VV} {o : AV × MM} {P : (Int) → Prop} (r0 : ∀ r : Int, P r → o = ((0, r), (wr M V))) {z : Int} (h : l_X16_hasTerm_5 x1 x2 x3 x4 V = some z) (hz : P z) : Sem g d YX16_hasTerm 5 [(1, 156), (0, x1), (0, x2), (0, x3), (0, x4)] [] (wr M V) o := by
  refine lp_sound (S := fun s : Int × Int => Sem g d YX16_hasTerm 5 [(1, 156), (0, x1), (0, x2), (0, s.1), (0, s.2)] [] (wr M V) o) (P := P) ?_ FU (x3, x4) z h hz
  intro s x hx hP
  exact s_X16_hasTerm_5 hD hM (P := Sum.elim (fun s : Int × Int => Sem g d YX16_hasTerm 5 [(1, 156), (0, x1), (0, x2), (0, s.1), (0, s.2)] [] (wr M V) o) P) (fun s h => h) (fun s h => r0 s h) hx hP
theorem s_X16_hasTerm_0 {g : GG} {d : Nat} (hD : 0 ≤ d) {x1 x2 : Int} {M : MM} (hM : LM M) {V : VV} {o : AV × MM} {P : (Int) → Prop} (r0 : ∀ r : Int, P r → o = ((0, r), (wr M V))) {z : Int} (h : f_X16_hasTerm x1 x2 V = some z) (hz : P z) : Sem g d YX16_hasTerm 0 [(1, 156), (0, x1), (0, x2), (9, 0), (9, 0)] [] (wr M V) o := by
  delta f_X16_hasTerm at h
  refine S_iconst dX16_hasTerm_0 rfl ?_
  refine S_istore_n (i := 3) dX16_hasTerm_1 rfl (Nat.le_of_ble_eq_true rfl) rfl rfl ?_
  change Sem g d YX16_hasTerm 2 [(1, 156), (0, x1), (0, x2), (0, 0), (9, 0)] [] (wr M V) o
  refine S_iconst dX16_hasTerm_2 rfl ?_
  refine S_istore dX16_hasTerm_3 (Nat.le_of_ble_eq_true rfl) rfl rfl ?_
  change Sem g d YX16_hasTerm 5 [(1, 156), (0, x1), (0, x2), (0, 0), (0, 0)] [] (wr M V) o
  exact sl_X16_hasTerm_5 hD hM r0 h hz
theorem F_X16_hasTerm {g : GG} {d : Nat} (hD : 0 ≤ d) {x1 x2 : Int} {M : MM} (hM : LM M) {V : VV} {r : Int} (h : f_X16_hasTerm x1 x2 V = some r) : Sem g d YX16_hasTerm 0 (ini YX16_hasTerm [(1, 156), (0, x1), (0, x2)]) [] (wr M V) ((0, r), (wr M V)) := by
  change Sem g d YX16_hasTerm 0 [(1, 156), (0, x1), (0, x2), (9, 0), (9, 0)] [] (wr M V) ((0, r), (wr M V))
  exact s_X16_hasTerm_0 hD hM (P := fun x => x = r) (fun q e => by rw [e]) h rfl
/-! PeerSearchModel.lower(II)Z -/
theorem dX16_lower_0 : decode cX16_lower 0 = .ok (.aload_n 0, 1) := by decide +kernel
theorem dX16_lower_1 : decode cX16_lower 1 = .ok (.getfield 69, 3) := by decide +kernel
theorem dX16_lower_4 : decode cX16_lower 4 = .ok (.iload_n 1, 1) := by decide +kernel
theorem dX16_lower_5 : decode cX16_lower 5 = .ok (.iaload, 1) := by decide +kernel
theorem dX16_lower_6 : decode cX16_lower 6 = .ok (.aload_n 0, 1) := by decide +kernel
theorem dX16_lower_7 : decode cX16_lower 7 = .ok (.getfield 69, 3) := by decide +kernel
theorem dX16_lower_10 : decode cX16_lower 10 = .ok (.iload_n 2, 1) := by decide +kernel
theorem dX16_lower_11 : decode cX16_lower 11 = .ok (.iaload, 1) := by decide +kernel
theorem dX16_lower_12 : decode cX16_lower 12 = .ok (.if_icmp .ge 12, 3) := by decide +kernel
theorem dX16_lower_15 : decode cX16_lower 15 = .ok (.aload_n 0, 1) := by decide +kernel
theorem dX16_lower_16 : decode cX16_lower 16 = .ok (.getfield 69, 3) := by decide +kernel
theorem dX16_lower_19 : decode cX16_lower 19 = .ok (.iload_n 1, 1) := by decide +kernel
theorem dX16_lower_20 : decode cX16_lower 20 = .ok (.iaload, 1) := by decide +kernel
theorem dX16_lower_21 : decode cX16_lower 21 = .ok (.goto 9, 3) := by decide +kernel
theorem dX16_lower_24 : decode cX16_lower 24 = .ok (.aload_n 0, 1) := by decide +kernel
theorem dX16_lower_25 : decode cX16_lower 25 = .ok (.getfield 69, 3) := by decide +kernel
theorem dX16_lower_28 : decode cX16_lower 28 = .ok (.iload_n 2, 1) := by decide +kernel
theorem dX16_lower_29 : decode cX16_lower 29 = .ok (.iaload, 1) := by decide +kernel
theorem dX16_lower_30 : decode cX16_lower 30 = .ok (.istore_n 3, 1) := by decide +kernel
theorem dX16_lower_31 : decode cX16_lower 31 = .ok (.iconst 0, 1) := by decide +kernel
theorem dX16_lower_32 : decode cX16_lower 32 = .ok (.istore 4, 2) := by decide +kernel
theorem dX16_lower_34 : decode cX16_lower 34 = .ok (.iload 4, 2) := by decide +kernel
theorem dX16_lower_36 : decode cX16_lower 36 = .ok (.iload_n 3, 1) := by decide +kernel
theorem dX16_lower_37 : decode cX16_lower 37 = .ok (.if_icmp .ge 52, 3) := by decide +kernel
theorem dX16_lower_40 : decode cX16_lower 40 = .ok (.aload_n 0, 1) := by decide +kernel
theorem dX16_lower_41 : decode cX16_lower 41 = .ok (.getfield 66, 3) := by decide +kernel
theorem dX16_lower_44 : decode cX16_lower 44 = .ok (.bipush 12, 2) := by decide +kernel
theorem dX16_lower_46 : decode cX16_lower 46 = .ok (.iload_n 1, 1) := by decide +kernel
theorem dX16_lower_47 : decode cX16_lower 47 = .ok (.imul, 1) := by decide +kernel
theorem dX16_lower_48 : decode cX16_lower 48 = .ok (.iload 4, 2) := by decide +kernel
theorem dX16_lower_50 : decode cX16_lower 50 = .ok (.iadd, 1) := by decide +kernel
theorem dX16_lower_51 : decode cX16_lower 51 = .ok (.iaload, 1) := by decide +kernel
theorem dX16_lower_52 : decode cX16_lower 52 = .ok (.aload_n 0, 1) := by decide +kernel
theorem dX16_lower_53 : decode cX16_lower 53 = .ok (.getfield 66, 3) := by decide +kernel
theorem dX16_lower_56 : decode cX16_lower 56 = .ok (.bipush 12, 2) := by decide +kernel
theorem dX16_lower_58 : decode cX16_lower 58 = .ok (.iload_n 2, 1) := by decide +kernel
theorem dX16_lower_59 : decode cX16_lower 59 = .ok (.imul, 1) := by decide +kernel
theorem dX16_lower_60 : decode cX16_lower 60 = .ok (.iload 4, 2) := by decide +kernel
theorem dX16_lower_62 : decode cX16_lower 62 = .ok (.iadd, 1) := by decide +kernel
theorem dX16_lower_63 : decode cX16_lower 63 = .ok (.iaload, 1) := by decide +kernel
theorem dX16_lower_64 : decode cX16_lower 64 = .ok (.isub, 1) := by decide +kernel
theorem dX16_lower_65 : decode cX16_lower 65 = .ok (.istore 5, 2) := by decide +kernel
theorem dX16_lower_67 : decode cX16_lower 67 = .ok (.iload 5, 2) := by decide +kernel
theorem dX16_lower_69 : decode cX16_lower 69 = .ok (.ifCond .eq 14, 3) := by decide +kernel
theorem dX16_lower_72 : decode cX16_lower 72 = .ok (.iload 5, 2) := by decide +kernel
theorem dX16_lower_74 : decode cX16_lower 74 = .ok (.ifCond .ge 7, 3) := by decide +kernel
theorem dX16_lower_77 : decode cX16_lower 77 = .ok (.iconst 1, 1) := by decide +kernel
theorem dX16_lower_78 : decode cX16_lower 78 = .ok (.goto 4, 3) := by decide +kernel
theorem dX16_lower_81 : decode cX16_lower 81 = .ok (.iconst 0, 1) := by decide +kernel
theorem dX16_lower_82 : decode cX16_lower 82 = .ok (.ireturn, 1) := by decide +kernel
theorem dX16_lower_83 : decode cX16_lower 83 = .ok (.iinc 4 1, 3) := by decide +kernel
theorem dX16_lower_86 : decode cX16_lower 86 = .ok (.goto (-52), 3) := by decide +kernel
theorem dX16_lower_89 : decode cX16_lower 89 = .ok (.aload_n 0, 1) := by decide +kernel
theorem dX16_lower_90 : decode cX16_lower 90 = .ok (.getfield 69, 3) := by decide +kernel
theorem dX16_lower_93 : decode cX16_lower 93 = .ok (.iload_n 1, 1) := by decide +kernel
theorem dX16_lower_94 : decode cX16_lower 94 = .ok (.iaload, 1) := by decide +kernel
theorem dX16_lower_95 : decode cX16_lower 95 = .ok (.aload_n 0, 1) := by decide +kernel
theorem dX16_lower_96 : decode cX16_lower 96 = .ok (.getfield 69, 3) := by decide +kernel
theorem dX16_lower_99 : decode cX16_lower 99 = .ok (.iload_n 2, 1) := by decide +kernel
theorem dX16_lower_100 : decode cX16_lower 100 = .ok (.iaload, 1) := by decide +kernel
theorem dX16_lower_101 : decode cX16_lower 101 = .ok (.if_icmp .ge 7, 3) := by decide +kernel
theorem dX16_lower_104 : decode cX16_lower 104 = .ok (.iconst 1, 1) := by decide +kernel
theorem dX16_lower_105 : decode cX16_lower 105 = .ok (.goto 4, 3) := by decide +kernel
theorem dX16_lower_108 : decode cX16_lower 108 = .ok (.iconst 0, 1) := by decide +kernel
theorem dX16_lower_109 : decode cX16_lower 109 = .ok (.ireturn, 1) := by decide +kernel
def j_X16_lower_109 (y0 : Int) (V : VV) : Option (Int) :=
  bz y0 (some y0)
def j_X16_lower_89 (x1 x2 : Int) (V : VV) : Option (Int) :=
  (l2 176 2048 x1 V).bind fun v1 =>
  (l2 176 2048 x2 V).bind fun v2 =>
  if w32 v1 < w32 v2 then
    j_X16_lower_109 1 V
  else
    j_X16_lower_109 0 V
def j_X16_lower_82 (y0 : Int) (V : VV) : Option (Int) :=
  bz y0 (some y0)
def j_X16_lower_72 (x5 : Int) (V : VV) : Option (Int) :=
  if w32 x5 < 0 then
    j_X16_lower_82 1 V
  else
    j_X16_lower_82 0 V
def b_X16_lower_34 (x1 x2 x3 x4 : Int) (V : VV) : Option ((Int) ⊕ (Int)) :=
  if w32 x4 < w32 x3 then
    (l2 175 24576 ((12 * x1) + x4) V).bind fun v1 =>
    (l2 175 24576 ((12 * x2) + x4) V).bind fun v2 =>
    if w32 (v1 - v2) = 0 then
      cnt (x4 + 1)
    else
      xit (j_X16_lower_72 (v1 - v2) V)
  else
    xit (j_X16_lower_89 x1 x2 V)
def l_X16_lower_34 (x1 x2 x3 x4 : Int) (V : VV) : Option (Int) := lpN (fun s : Int => b_X16_lower_34 x1 x2 x3 s V) FU x4
def j_X16_lower_30 (x1 x2 y0 : Int) (V : VV) : Option (Int) :=
  l_X16_lower_34 x1 x2 y0 0 V
def f_X16_lower (x1 x2 : Int) (V : VV) : Option (Int) :=
  (l2 176 2048 x1 V).bind fun v1 =>
  (l2 176 2048 x2 V).bind fun v2 =>
  if w32 v1 < w32 v2 then
    (l2 176 2048 x1 V).bind fun v4 =>
    j_X16_lower_30 x1 x2 v4 V
  else
    (l2 176 2048 x2 V).bind fun v3 =>
    j_X16_lower_30 x1 x2 v3 V
theorem s_X16_lower_109 {g : GG} {d : Nat} (hD : 0 ≤ d) {y0 : Int} {M : MM} (hM : LM M) {V : VV} {o : AV × MM} {P : (Int) → Prop} (r0 : ∀ r : Int, P r → o = ((0, r), (wr M V))) {z : Int} (h : j_X16_lower_109 y0 V = some z) (hz : P z) : Sem g d YX16_lower 109 [(9, 0), (9, 0), (9, 0), (9, 0), (9, 0), (9, 0)] [(0, y0)] (wr M V) o := by
  delta j_X16_lower_109 at h
  obtain ⟨hb, h⟩ := bz_some h
  obtain rfl := r0 _ (some_P (P := fun r => P r) h hz)
  exact P_ret dX16_lower_109 rfl (Or.inr ⟨rfl, hb⟩)
theorem s_X16_lower_89 {g : GG} {d : Nat} (hD : 0 ≤ d) {x1 x2 : Int} {M : MM} (hM : LM M) {V : VV} {o : AV × MM} {P : (Int) → Prop} (r0 : ∀ r : Int, P r → o = ((0, r), (wr M V))) {z : Int} (h : j_X16_lower_89 x1 x2 V = some z) (hz : P z) : Sem g d YX16_lower 89 [(1, 156), (0, x1), (0, x2), (9, 0), (9, 0), (9, 0)] [] (wr M V) o := by
  delta j_X16_lower_89 at h
  refine S_aload_n (i := 0) dX16_lower_89 rfl rfl ?_
  refine P2_gfr hM (a := 176) FLX16_69 rfl ⟨rfl, rfl⟩ dX16_lower_90 ?_
  refine S_iload_n (i := 1) dX16_lower_93 rfl rfl ?_
  refine P2_lai hM (a := 176) (n := 2048) rfl dX16_lower_94 h (fun v1 h => ?_)
  refine S_aload_n (i := 0) dX16_lower_95 rfl rfl ?_
  refine P2_gfr hM (a := 176) FLX16_69 rfl ⟨rfl, rfl⟩ dX16_lower_96 ?_
  refine S_iload_n (i := 2) dX16_lower_99 rfl rfl ?_
  refine P2_lai hM (a := 176) (n := 2048) rfl dX16_lower_100 h (fun v2 h => ?_)
  refine P_icmp_ge (tgt := 108) dX16_lower_101 rfl h (fun h => ?_) (fun h => ?_)
  · refine S_iconst dX16_lower_108 rfl ?_
    refine S_weak (ls' := [(9, 0), (9, 0), (9, 0), (9, 0), (9, 0), (9, 0)]) ⟨Or.inl rfl, ⟨Or.inl rfl, ⟨Or.inl rfl, ⟨Or.inl rfl, ⟨Or.inl rfl, ⟨Or.inl rfl, trivial⟩⟩⟩⟩⟩⟩ ?_
    exact s_X16_lower_109 hD hM r0 h hz
  · refine S_iconst dX16_lower_104 rfl ?_
    refine S_goto (tgt := 109) dX16_lower_105 rfl ?_
    refine S_weak (ls' := [(9, 0), (9, 0), (9, 0), (9, 0), (9, 0), (9, 0)]) ⟨Or.inl rfl, ⟨Or.inl rfl, ⟨Or.inl rfl, ⟨Or.inl rfl, ⟨Or.inl rfl, ⟨Or.inl rfl, trivial⟩⟩⟩⟩⟩⟩ ?_
    exact s_X16_lower_109 hD hM r0 h hz
theorem s_X16_lower_82 {g : GG} {d : Nat} (hD : 0 ≤ d) {y0 : Int} {M : MM} (hM : LM M) {V : VV} {o : AV × MM} {P : (Int) → Prop} (r0 : ∀ r : Int, P r → o = ((0, r), (wr M V))) {z : Int} (h : j_X16_lower_82 y0 V = some z) (hz : P z) : Sem g d YX16_lower 82 [(9, 0), (9, 0), (9, 0), (9, 0), (9, 0), (9, 0)] [(0, y0)] (wr M V) o := by
  delta j_X16_lower_82 at h
  obtain ⟨hb, h⟩ := bz_some h
  obtain rfl := r0 _ (some_P (P := fun r => P r) h hz)
  exact P_ret dX16_lower_82 rfl (Or.inr ⟨rfl, hb⟩)
theorem s_X16_lower_72 {g : GG} {d : Nat} (hD : 0 ≤ d) {x5 : Int} {M : MM} (hM : LM M) {V : VV} {o : AV × MM} {P : (Int) → Prop} (r0 : ∀ r : Int, P r → o = ((0, r), (wr M V))) {z : Int} (h : j_X16_lower_72 x5 V = some z) (hz : P z) : Sem g d YX16_lower 72 [(9, 0), (9, 0), (9, 0), (9, 0), (9, 0), (0, x5)] [] (wr M V) o := by
  delta j_X16_lower_72 at h
  refine S_iload dX16_lower_72 rfl ?_
  refine P_if_ge (tgt := 81) dX16_lower_74 rfl h (fun h => ?_) (fun h => ?_)
  · refine S_iconst dX16_lower_81 rfl ?_
    refine S_weak (ls' := [(9, 0), (9, 0), (9, 0), (9, 0), (9, 0), (9, 0)]) ⟨Or.inl rfl, ⟨Or.inl rfl, ⟨Or.inl rfl, ⟨Or.inl rfl, ⟨Or.inl rfl, ⟨Or.inl rfl, trivial⟩⟩⟩⟩⟩⟩ ?_
    exact s_X16_lower_82 hD hM r0 h hz
  · refine S_iconst dX16_lower_77 rfl ?_
    refine S_goto (tgt := 82) dX16_lower_78 rfl ?_
    refine S_weak (ls' := [(9, 0), (9, 0), (9, 0), (9, 0), (9, 0), (9, 0)]) ⟨Or.inl rfl, ⟨Or.inl rfl, ⟨Or.inl rfl, ⟨Or.inl rfl, ⟨Or.inl rfl, ⟨Or.inl rfl, trivial⟩⟩⟩⟩⟩⟩ ?_
    exact s_X16_lower_82 hD hM r0 h hz
theorem s_X16_lower_34 {g : GG} {d : Nat} (hD : 0 ≤ d) {x1 x2 x3 x4 : Int} {M : MM} (hM : LM M) {V : VV} {o : AV × MM} {P : ((Int) ⊕ (Int)) → Prop} (c0 : ∀ s : Int, P (.inl s) → Sem g d YX16_lower 34 [(1, 156), (0, x1), (0, x2), (0, x3), (0, s), (9, 0)] [] (wr M V) o) (r0 : ∀ r : Int, P (.inr r) → o = ((0, r), (wr M V))) {z : (Int) ⊕ (Int)} (h : b_X16_lower_34 x1 x2 x3 x4 V = some z) (hz : P z) : Sem g d YX16_lower 34 [(1, 156), (0, x1), (0, x2), (0, x3), (0, x4), (9, 0)] [] (wr M V) o := by
  delta b_X16_lower_34 at h
  refine S_iload dX16_lower_34 rfl ?_
  refine S_iload_n (i := 3) dX16_lower_36 rfl rfl ?_
  refine P_icmp_ge (tgt := 89) dX16_lower_37 rfl h (fun h => ?_) (fun h => ?_)
  · refine S_weak (ls' := [(1, 156), (0, x1), (0, x2), (9, 0), (9, 0), (9, 0)]) ⟨Or.inr rfl, ⟨Or.inr rfl, ⟨Or.inr rfl, ⟨Or.inl rfl, ⟨Or.inl rfl, ⟨Or.inl rfl, trivial⟩⟩⟩⟩⟩⟩ ?_
    obtain ⟨z0, h, hz⟩ := xit_some' (P := fun r => P r) h hz
    exact s_X16_lower_89 hD hM (P := fun r => P (.inr r)) r0 h hz
  · refine S_aload_n (i := 0) dX16_lower_40 rfl rfl ?_
    refine P2_gfr hM (a := 175) FLX16_66 rfl ⟨rfl, rfl⟩ dX16_lower_41 ?_
    refine S_bipush (z := 12) dX16_lower_44 rfl ?_
    refine S_iload_n (i := 1) dX16_lower_46 rfl rfl ?_
    refine S_imul dX16_lower_47 ?_
    refine S_iload dX16_lower_48 rfl ?_
    refine S_iadd dX16_lower_50 ?_
    refine P2_lai hM (a := 175) (n := 24576) rfl dX16_lower_51 h (fun v1 h => ?_)
    refine S_aload_n (i := 0) dX16_lower_52 rfl rfl ?_
    refine P2_gfr hM (a := 175) FLX16_66 rfl ⟨rfl, rfl⟩ dX16_lower_53 ?_
    refine S_bipush (z := 12) dX16_lower_56 rfl ?_
    refine S_iload_n (i := 2) dX16_lower_58 rfl rfl ?_
    refine S_imul dX16_lower_59 ?_
    refine S_iload dX16_lower_60 rfl ?_
    refine S_iadd dX16_lower_62 ?_
    refine P2_lai hM (a := 175) (n := 24576) rfl dX16_lower_63 h (fun v2 h => ?_)
    refine S_isub dX16_lower_64 ?_
    refine S_istore dX16_lower_65 (Nat.le_of_ble_eq_true rfl) rfl rfl ?_
    change Sem g d YX16_lower 67 [(1, 156), (0, x1), (0, x2), (0, x3), (0, x4), (0, v1 - v2)] [] (wr M V) o
    refine S_iload dX16_lower_67 rfl ?_
    refine P_if_eq (tgt := 83) dX16_lower_69 rfl h (fun h => ?_) (fun h => ?_)
    · refine S_iinc dX16_lower_83 rfl rfl rfl ?_
      change Sem g d YX16_lower 86 [(1, 156), (0, x1), (0, x2), (0, x3), (0, x4 + 1), (0, v1 - v2)] [] (wr M V) o
      refine S_goto (tgt := 34) dX16_lower_86 rfl ?_
      refine S_weak (ls' := [(1, 156), (0, x1), (0, x2), (0, x3), (0, x4 + 1), (9, 0)]) ⟨Or.inr rfl, ⟨Or.inr rfl, ⟨Or.inr rfl, ⟨Or.inr rfl, ⟨Or.inr rfl, ⟨Or.inl rfl, trivial⟩⟩⟩⟩⟩⟩ ?_
      exact c0 (x4 + 1) (some_P (P := fun r => P r) h hz)
    · refine S_weak (ls' := [(9, 0), (9, 0), (9, 0), (9, 0), (9, 0), (0, v1 - v2)]) ⟨Or.inl rfl, ⟨Or.inl rfl, ⟨Or.inl rfl, ⟨Or.inl rfl, ⟨Or.inl rfl, ⟨Or.inr rfl, trivial⟩⟩⟩⟩⟩⟩ ?_
      obtain ⟨z0, h, hz⟩ := xit_some' (P := fun r => P r) h hz
      exact s_X16_lower_72 hD hM (P := fun r => P (.inr r)) r0 h hz
theorem sl_X16_lower_34 {g : GG} {d : Nat} (hD : 0 ≤ d) {x1 x2 x3 x4 : Int} {M : MM} (hM : LM M) {V : VV} {o : AV × MM} {P : (Int) → Prop} (r0 : ∀ r : Int, P r → o = ((0, r), (wr M V))) {z : Int} (h : l_X16_lower_34 x1 x2 x3 x4 V = some z) (hz : P z) : Sem g d YX16_lower 34 [(1, 156), (0, x1), (0, x2), (0, x3), (0, x4), (9, 0)] [] (wr M V) o := by
  refine lp_sound (S := fun s : Int => Sem g d YX16_lower 34 [(1, 156), (0, x1), (0, x2), (0, x3), (0, s), (9, 0)] [] (wr M V) o) (P := P) ?_ FU x4 z h hz
  intro s x hx hP
  exact s_X16_lower_34 hD hM (P := Sum.elim (fun s : Int => Sem g d YX16_lower 34 [(1, 156), (0, x1), (0, x2), (0, x3), (0, s), (9, 0)] [] (wr M V) o) P) (fun s h => h) (fun s h => r0 s h) hx hP
theorem s_X16_lower_30 {g : GG} {d : Nat} (hD : 0 ≤ d) {x1 x2 y0 : Int} {M : MM} (hM : LM M) {V : VV} {o : AV × MM} {P : (Int) → Prop} (r0 : ∀ r : Int, P r → o = ((0, r), (wr M V))) {z : Int} (h : j_X16_lower_30 x1 x2 y0 V = some z) (hz : P z) : Sem g d YX16_lower 30 [(1, 156), (0, x1), (0, x2), (9, 0), (9, 0), (9, 0)] [(0, y0)] (wr M V) o := by
  delta j_X16_lower_30 at h
  refine S_istore_n (i := 3) dX16_lower_30 rfl (Nat.le_of_ble_eq_true rfl) rfl rfl ?_
  change Sem g d YX16_lower 31 [(1, 156), (0, x1), (0, x2), (0, y0), (9, 0), (9, 0)] [] (wr M V) o
  refine S_iconst dX16_lower_31 rfl ?_
  refine S_istore dX16_lower_32 (Nat.le_of_ble_eq_true rfl) rfl rfl ?_
  change Sem g d YX16_lower 34 [(1, 156), (0, x1), (0, x2), (0, y0), (0, 0), (9, 0)] [] (wr M V) o
  exact sl_X16_lower_34 hD hM r0 h hz
theorem s_X16_lower_0 {g : GG} {d : Nat} (hD : 0 ≤ d) {x1 x2 : Int} {M : MM} (hM : LM M) {V : VV} {o : AV × MM} {P : (Int) → Prop} (r0 : ∀ r : Int, P r → o = ((0, r), (wr M V))) {z : Int} (h : f_X16_lower x1 x2 V = some z) (hz : P z) : Sem g d YX16_lower 0 [(1, 156), (0, x1), (0, x2), (9, 0), (9, 0), (9, 0)] [] (wr M V) o := by
  delta f_X16_lower at h
  refine S_aload_n (i := 0) dX16_lower_0 rfl rfl ?_
  refine P2_gfr hM (a := 176) FLX16_69 rfl ⟨rfl, rfl⟩ dX16_lower_1 ?_
  refine S_iload_n (i := 1) dX16_lower_4 rfl rfl ?_
  refine P2_lai hM (a := 176) (n := 2048) rfl dX16_lower_5 h (fun v1 h => ?_)
  refine S_aload_n (i := 0) dX16_lower_6 rfl rfl ?_
  refine P2_gfr hM (a := 176) FLX16_69 rfl ⟨rfl, rfl⟩ dX16_lower_7 ?_
  refine S_iload_n (i := 2) dX16_lower_10 rfl rfl ?_
  refine P2_lai hM (a := 176) (n := 2048) rfl dX16_lower_11 h (fun v2 h => ?_)
  refine P_icmp_ge (tgt := 24) dX16_lower_12 rfl h (fun h => ?_) (fun h => ?_)
  · refine S_aload_n (i := 0) dX16_lower_24 rfl rfl ?_
    refine P2_gfr hM (a := 176) FLX16_69 rfl ⟨rfl, rfl⟩ dX16_lower_25 ?_
    refine S_iload_n (i := 2) dX16_lower_28 rfl rfl ?_
    refine P2_lai hM (a := 176) (n := 2048) rfl dX16_lower_29 h (fun v3 h => ?_)
    exact s_X16_lower_30 hD hM r0 h hz
  · refine S_aload_n (i := 0) dX16_lower_15 rfl rfl ?_
    refine P2_gfr hM (a := 176) FLX16_69 rfl ⟨rfl, rfl⟩ dX16_lower_16 ?_
    refine S_iload_n (i := 1) dX16_lower_19 rfl rfl ?_
    refine P2_lai hM (a := 176) (n := 2048) rfl dX16_lower_20 h (fun v4 h => ?_)
    refine S_goto (tgt := 30) dX16_lower_21 rfl ?_
    exact s_X16_lower_30 hD hM r0 h hz
theorem F_X16_lower {g : GG} {d : Nat} (hD : 0 ≤ d) {x1 x2 : Int} {M : MM} (hM : LM M) {V : VV} {r : Int} (h : f_X16_lower x1 x2 V = some r) : Sem g d YX16_lower 0 (ini YX16_lower [(1, 156), (0, x1), (0, x2)]) [] (wr M V) ((0, r), (wr M V)) := by
  change Sem g d YX16_lower 0 [(1, 156), (0, x1), (0, x2), (9, 0), (9, 0), (9, 0)] [] (wr M V) ((0, r), (wr M V))
  exact s_X16_lower_0 hD hM (P := fun x => x = r) (fun q e => by rw [e]) h rfl
/-! PeerSearchModel.nextTerm(I)V -/
theorem dX16_nextTerm_0 : decode cX16_nextTerm 0 = .ok (.aload_n 0, 1) := by decide +kernel
theorem dX16_nextTerm_1 : decode cX16_nextTerm 1 = .ok (.getfield 231, 3) := by decide +kernel
theorem dX16_nextTerm_4 : decode cX16_nextTerm 4 = .ok (.iload_n 1, 1) := by decide +kernel
theorem dX16_nextTerm_5 : decode cX16_nextTerm 5 = .ok (.iaload, 1) := by decide +kernel
theorem dX16_nextTerm_6 : decode cX16_nextTerm 6 = .ok (.istore_n 2, 1) := by decide +kernel
theorem dX16_nextTerm_7 : decode cX16_nextTerm 7 = .ok (.iconst (-1), 1) := by decide +kernel
theorem dX16_nextTerm_8 : decode cX16_nextTerm 8 = .ok (.istore_n 3, 1) := by decide +kernel
theorem dX16_nextTerm_9 : decode cX16_nextTerm 9 = .ok (.iconst 0, 1) := by decide +kernel
theorem dX16_nextTerm_10 : decode cX16_nextTerm 10 = .ok (.istore 4, 2) := by decide +kernel
theorem dX16_nextTerm_12 : decode cX16_nextTerm 12 = .ok (.iload 4, 2) := by decide +kernel
theorem dX16_nextTerm_14 : decode cX16_nextTerm 14 = .ok (.aload_n 0, 1) := by decide +kernel
theorem dX16_nextTerm_15 : decode cX16_nextTerm 15 = .ok (.getfield 63, 3) := by decide +kernel
theorem dX16_nextTerm_18 : decode cX16_nextTerm 18 = .ok (.iload_n 2, 1) := by decide +kernel
theorem dX16_nextTerm_19 : decode cX16_nextTerm 19 = .ok (.iaload, 1) := by decide +kernel
theorem dX16_nextTerm_20 : decode cX16_nextTerm 20 = .ok (.if_icmp .ge 92, 3) := by decide +kernel
theorem dX16_nextTerm_23 : decode cX16_nextTerm 23 = .ok (.aload_n 0, 1) := by decide +kernel
theorem dX16_nextTerm_24 : decode cX16_nextTerm 24 = .ok (.getfield 279, 3) := by decide +kernel
theorem dX16_nextTerm_27 : decode cX16_nextTerm 27 = .ok (.iload_n 1, 1) := by decide +kernel
theorem dX16_nextTerm_28 : decode cX16_nextTerm 28 = .ok (.iaload, 1) := by decide +kernel
theorem dX16_nextTerm_29 : decode cX16_nextTerm 29 = .ok (.ifCond .lt 28, 3) := by decide +kernel
theorem dX16_nextTerm_32 : decode cX16_nextTerm 32 = .ok (.aload_n 0, 1) := by decide +kernel
theorem dX16_nextTerm_33 : decode cX16_nextTerm 33 = .ok (.bipush 64, 2) := by decide +kernel
theorem dX16_nextTerm_35 : decode cX16_nextTerm 35 = .ok (.iload_n 2, 1) := by decide +kernel
theorem dX16_nextTerm_36 : decode cX16_nextTerm 36 = .ok (.imul, 1) := by decide +kernel
theorem dX16_nextTerm_37 : decode cX16_nextTerm 37 = .ok (.aload_n 0, 1) := by decide +kernel
theorem dX16_nextTerm_38 : decode cX16_nextTerm 38 = .ok (.getfield 279, 3) := by decide +kernel
theorem dX16_nextTerm_41 : decode cX16_nextTerm 41 = .ok (.iload_n 1, 1) := by decide +kernel
theorem dX16_nextTerm_42 : decode cX16_nextTerm 42 = .ok (.iaload, 1) := by decide +kernel
theorem dX16_nextTerm_43 : decode cX16_nextTerm 43 = .ok (.iadd, 1) := by decide +kernel
theorem dX16_nextTerm_44 : decode cX16_nextTerm 44 = .ok (.bipush 64, 2) := by decide +kernel
theorem dX16_nextTerm_46 : decode cX16_nextTerm 46 = .ok (.iload_n 2, 1) := by decide +kernel
theorem dX16_nextTerm_47 : decode cX16_nextTerm 47 = .ok (.imul, 1) := by decide +kernel
theorem dX16_nextTerm_48 : decode cX16_nextTerm 48 = .ok (.iload 4, 2) := by decide +kernel
theorem dX16_nextTerm_50 : decode cX16_nextTerm 50 = .ok (.iadd, 1) := by decide +kernel
theorem dX16_nextTerm_51 : decode cX16_nextTerm 51 = .ok (.invokevirtual 672, 3) := by decide +kernel
theorem dX16_nextTerm_54 : decode cX16_nextTerm 54 = .ok (.ifCond .eq 7, 3) := by decide +kernel
theorem dX16_nextTerm_57 : decode cX16_nextTerm 57 = .ok (.iconst 1, 1) := by decide +kernel
theorem dX16_nextTerm_58 : decode cX16_nextTerm 58 = .ok (.goto 4, 3) := by decide +kernel
theorem dX16_nextTerm_61 : decode cX16_nextTerm 61 = .ok (.iconst 0, 1) := by decide +kernel
theorem dX16_nextTerm_62 : decode cX16_nextTerm 62 = .ok (.istore 5, 2) := by decide +kernel
theorem dX16_nextTerm_64 : decode cX16_nextTerm 64 = .ok (.iload 5, 2) := by decide +kernel
theorem dX16_nextTerm_66 : decode cX16_nextTerm 66 = .ok (.ifCond .eq 40, 3) := by decide +kernel
theorem dX16_nextTerm_69 : decode cX16_nextTerm 69 = .ok (.aload_n 0, 1) := by decide +kernel
theorem dX16_nextTerm_70 : decode cX16_nextTerm 70 = .ok (.iload_n 1, 1) := by decide +kernel
theorem dX16_nextTerm_71 : decode cX16_nextTerm 71 = .ok (.iload 4, 2) := by decide +kernel
theorem dX16_nextTerm_73 : decode cX16_nextTerm 73 = .ok (.invokevirtual 675, 3) := by decide +kernel
theorem dX16_nextTerm_76 : decode cX16_nextTerm 76 = .ok (.ifCond .eq 30, 3) := by decide +kernel
theorem dX16_nextTerm_79 : decode cX16_nextTerm 79 = .ok (.iload_n 3, 1) := by decide +kernel
theorem dX16_nextTerm_80 : decode cX16_nextTerm 80 = .ok (.ifCond .lt 23, 3) := by decide +kernel
theorem dX16_nextTerm_83 : decode cX16_nextTerm 83 = .ok (.aload_n 0, 1) := by decide +kernel
theorem dX16_nextTerm_84 : decode cX16_nextTerm 84 = .ok (.bipush 64, 2) := by decide +kernel
theorem dX16_nextTerm_86 : decode cX16_nextTerm 86 = .ok (.iload_n 2, 1) := by decide +kernel
theorem dX16_nextTerm_87 : decode cX16_nextTerm 87 = .ok (.imul, 1) := by decide +kernel
theorem dX16_nextTerm_88 : decode cX16_nextTerm 88 = .ok (.iload 4, 2) := by decide +kernel
theorem dX16_nextTerm_90 : decode cX16_nextTerm 90 = .ok (.iadd, 1) := by decide +kernel
theorem dX16_nextTerm_91 : decode cX16_nextTerm 91 = .ok (.bipush 64, 2) := by decide +kernel
theorem dX16_nextTerm_93 : decode cX16_nextTerm 93 = .ok (.iload_n 2, 1) := by decide +kernel
theorem dX16_nextTerm_94 : decode cX16_nextTerm 94 = .ok (.imul, 1) := by decide +kernel
theorem dX16_nextTerm_95 : decode cX16_nextTerm 95 = .ok (.iload_n 3, 1) := by decide +kernel
theorem dX16_nextTerm_96 : decode cX16_nextTerm 96 = .ok (.iadd, 1) := by decide +kernel
theorem dX16_nextTerm_97 : decode cX16_nextTerm 97 = .ok (.invokevirtual 672, 3) := by decide +kernel
theorem dX16_nextTerm_100 : decode cX16_nextTerm 100 = .ok (.ifCond .eq 6, 3) := by decide +kernel
theorem dX16_nextTerm_103 : decode cX16_nextTerm 103 = .ok (.iload 4, 2) := by decide +kernel
theorem dX16_nextTerm_105 : decode cX16_nextTerm 105 = .ok (.istore_n 3, 1) := by decide +kernel
theorem dX16_nextTerm_106 : decode cX16_nextTerm 106 = .ok (.iinc 4 1, 3) := by decide +kernel
theorem dX16_nextTerm_109 : decode cX16_nextTerm 109 = .ok (.goto (-97), 3) := by decide +kernel
theorem dX16_nextTerm_112 : decode cX16_nextTerm 112 = .ok (.aload_n 0, 1) := by decide +kernel
theorem dX16_nextTerm_113 : decode cX16_nextTerm 113 = .ok (.getfield 279, 3) := by decide +kernel
theorem dX16_nextTerm_116 : decode cX16_nextTerm 116 = .ok (.iload_n 1, 1) := by decide +kernel
theorem dX16_nextTerm_117 : decode cX16_nextTerm 117 = .ok (.iload_n 3, 1) := by decide +kernel
theorem dX16_nextTerm_118 : decode cX16_nextTerm 118 = .ok (.iastore, 1) := by decide +kernel
theorem dX16_nextTerm_119 : decode cX16_nextTerm 119 = .ok (.iload_n 3, 1) := by decide +kernel
theorem dX16_nextTerm_120 : decode cX16_nextTerm 120 = .ok (.ifCond .ge 23, 3) := by decide +kernel
theorem dX16_nextTerm_123 : decode cX16_nextTerm 123 = .ok (.aload_n 0, 1) := by decide +kernel
theorem dX16_nextTerm_124 : decode cX16_nextTerm 124 = .ok (.iload_n 1, 1) := by decide +kernel
theorem dX16_nextTerm_125 : decode cX16_nextTerm 125 = .ok (.aload_n 0, 1) := by decide +kernel
theorem dX16_nextTerm_126 : decode cX16_nextTerm 126 = .ok (.getfield 285, 3) := by decide +kernel
theorem dX16_nextTerm_129 : decode cX16_nextTerm 129 = .ok (.iload_n 1, 1) := by decide +kernel
theorem dX16_nextTerm_130 : decode cX16_nextTerm 130 = .ok (.baload, 1) := by decide +kernel
theorem dX16_nextTerm_131 : decode cX16_nextTerm 131 = .ok (.ifCond .eq 7, 3) := by decide +kernel
theorem dX16_nextTerm_134 : decode cX16_nextTerm 134 = .ok (.iconst 2, 1) := by decide +kernel
theorem dX16_nextTerm_135 : decode cX16_nextTerm 135 = .ok (.goto 4, 3) := by decide +kernel
theorem dX16_nextTerm_138 : decode cX16_nextTerm 138 = .ok (.iconst 1, 1) := by decide +kernel
theorem dX16_nextTerm_139 : decode cX16_nextTerm 139 = .ok (.invokevirtual 659, 3) := by decide +kernel
theorem dX16_nextTerm_142 : decode cX16_nextTerm 142 = .ok (.return_, 1) := by decide +kernel
theorem dX16_nextTerm_143 : decode cX16_nextTerm 143 = .ok (.aload_n 0, 1) := by decide +kernel
theorem dX16_nextTerm_144 : decode cX16_nextTerm 144 = .ok (.iload_n 1, 1) := by decide +kernel
theorem dX16_nextTerm_145 : decode cX16_nextTerm 145 = .ok (.aload_n 0, 1) := by decide +kernel
theorem dX16_nextTerm_146 : decode cX16_nextTerm 146 = .ok (.getfield 72, 3) := by decide +kernel
theorem dX16_nextTerm_149 : decode cX16_nextTerm 149 = .ok (.iconst 5, 1) := by decide +kernel
theorem dX16_nextTerm_150 : decode cX16_nextTerm 150 = .ok (.bipush 64, 2) := by decide +kernel
theorem dX16_nextTerm_152 : decode cX16_nextTerm 152 = .ok (.iload_n 2, 1) := by decide +kernel
theorem dX16_nextTerm_153 : decode cX16_nextTerm 153 = .ok (.imul, 1) := by decide +kernel
theorem dX16_nextTerm_154 : decode cX16_nextTerm 154 = .ok (.iload_n 3, 1) := by decide +kernel
theorem dX16_nextTerm_155 : decode cX16_nextTerm 155 = .ok (.iadd, 1) := by decide +kernel
theorem dX16_nextTerm_156 : decode cX16_nextTerm 156 = .ok (.imul, 1) := by decide +kernel
theorem dX16_nextTerm_157 : decode cX16_nextTerm 157 = .ok (.iconst 0, 1) := by decide +kernel
theorem dX16_nextTerm_158 : decode cX16_nextTerm 158 = .ok (.invokevirtual 668, 3) := by decide +kernel
theorem dX16_nextTerm_161 : decode cX16_nextTerm 161 = .ok (.return_, 1) := by decide +kernel
def j_X16_nextTerm_139 (y1 y2 : Int) (V : VV) : Option (VV) :=
  (f_X16_close y1 y2 V).bind fun V1 =>
  some V1
def j_X16_nextTerm_112 (x1 x2 x3 : Int) (V : VV) : Option (VV) :=
  (s2 244 44 x1 x3 V).bind fun V1 =>
  if w32 x3 < 0 then
    (l2 246 44 x1 V1).bind fun v1 =>
    if w32 v1 = 0 then
      j_X16_nextTerm_139 x1 1 V1
    else
      j_X16_nextTerm_139 x1 2 V1
  else
    (f_X16_beginLookup x1 177 (5 * ((64 * x2) + x3)) 0 V1).bind fun V2 =>
    some V2
def j_X16_nextTerm_106 (x1 x2 x3 x4 : Int) (V : VV) : Option ((Int × Int) ⊕ (VV)) :=
  cnt (x3, x4 + 1)
def j_X16_nextTerm_103 (x1 x2 x4 : Int) (V : VV) : Option ((Int × Int) ⊕ (VV)) :=
  j_X16_nextTerm_106 x1 x2 x4 x4 V
def j_X16_nextTerm_62 (x1 x2 x3 x4 y0 : Int) (V : VV) : Option ((Int × Int) ⊕ (VV)) :=
  if w32 y0 = 0 then
    j_X16_nextTerm_106 x1 x2 x3 x4 V
  else
    (f_X16_hasTerm x1 x4 V).bind fun v1 =>
    if w32 v1 = 0 then
      j_X16_nextTerm_106 x1 x2 x3 x4 V
    else
      if w32 x3 < 0 then
        j_X16_nextTerm_103 x1 x2 x4 V
      else
        (f_X16_lower ((64 * x2) + x4) ((64 * x2) + x3) V).bind fun v2 =>
        if w32 v2 = 0 then
          j_X16_nextTerm_106 x1 x2 x3 x4 V
        else
          j_X16_nextTerm_103 x1 x2 x4 V
def j_X16_nextTerm_57 (x1 x2 x3 x4 : Int) (V : VV) : Option ((Int × Int) ⊕ (VV)) :=
  j_X16_nextTerm_62 x1 x2 x3 x4 1 V
def b_X16_nextTerm_12 (x1 x2 x3 x4 : Int) (V : VV) : Option ((Int × Int) ⊕ (VV)) :=
  (l2 174 32 x2 V).bind fun v1 =>
  if w32 x4 < w32 v1 then
    (l2 244 44 x1 V).bind fun v2 =>
    if w32 v2 < 0 then
      j_X16_nextTerm_57 x1 x2 x3 x4 V
    else
      (l2 244 44 x1 V).bind fun v3 =>
      (f_X16_lower ((64 * x2) + v3) ((64 * x2) + x4) V).bind fun v4 =>
      if w32 v4 = 0 then
        j_X16_nextTerm_62 x1 x2 x3 x4 0 V
      else
        j_X16_nextTerm_57 x1 x2 x3 x4 V
  else
    xit (j_X16_nextTerm_112 x1 x2 x3 V)
def l_X16_nextTerm_12 (x1 x2 x3 x4 : Int) (V : VV) : Option (VV) := lpN (fun s : Int × Int => b_X16_nextTerm_12 x1 x2 s.1 s.2 V) FU (x3, x4)
def f_X16_nextTerm (x1 : Int) (V : VV) : Option (VV) :=
  (l2 228 44 x1 V).bind fun v1 =>
  l_X16_nextTerm_12 x1 v1 (-1) 0 V
theorem s_X16_nextTerm_139 {g : GG} {d : Nat} (hD : 5 ≤ d) {y1 y2 : Int} {M : MM} (hM : LM M) {V : VV} {o : AV × MM} {P : (VV) → Prop} (r0 : ∀ r : VV, P r → o = ((9, 0), (wr M r))) {z : VV} (h : j_X16_nextTerm_139 y1 y2 V = some z) (hz : P z) : Sem g d YX16_nextTerm 139 [(9, 0), (9, 0), (9, 0), (9, 0), (9, 0), (9, 0)] [(0, y2), (0, y1), (1, 156)] (wr M V) o := by
  delta j_X16_nextTerm_139 at h
  refine P2_invVm hM [(0, y1), (0, y2)] [] CVX16_close MLX16_659 dX16_nextTerm_139 rfl rfl rfl rfl (by omega) h (fun r h => F_X16_close (by omega) hM h) (fun V1 h => ?_)
  obtain rfl := r0 _ (some_P (P := fun r => P r) h hz)
  exact S_return dX16_nextTerm_142 rfl
theorem s_X16_nextTerm_112 {g : GG} {d : Nat} (hD : 5 ≤ d) {x1 x2 x3 : Int} {M : MM} (hM : LM M) {V : VV} {o : AV × MM} {P : (VV) → Prop} (r0 : ∀ r : VV, P r → o = ((9, 0), (wr M r))) {z : VV} (h : j_X16_nextTerm_112 x1 x2 x3 V = some z) (hz : P z) : Sem g d YX16_nextTerm 112 [(1, 156), (0, x1), (0, x2), (0, x3), (9, 0), (9, 0)] [] (wr M V) o := by
  delta j_X16_nextTerm_112 at h
  refine S_aload_n (i := 0) dX16_nextTerm_112 rfl rfl ?_
  refine P2_gfr hM (a := 244) FLX16_279 rfl ⟨rfl, rfl⟩ dX16_nextTerm_113 ?_
  refine S_iload_n (i := 1) dX16_nextTerm_116 rfl rfl ?_
  refine S_iload_n (i := 3) dX16_nextTerm_117 rfl rfl ?_
  refine P2_sai hM (a := 244) (n := 44) rfl dX16_nextTerm_118 h (fun V1 h => ?_)
  refine S_iload_n (i := 3) dX16_nextTerm_119 rfl rfl ?_
  refine P_if_ge (tgt := 143) dX16_nextTerm_120 rfl h (fun h => ?_) (fun h => ?_)
  · refine S_aload_n (i := 0) dX16_nextTerm_143 rfl rfl ?_
    refine S_iload_n (i := 1) dX16_nextTerm_144 rfl rfl ?_
    refine S_aload_n (i := 0) dX16_nextTerm_145 rfl rfl ?_
    refine P2_gfr hM (a := 177) FLX16_72 rfl ⟨rfl, rfl⟩ dX16_nextTerm_146 ?_
    refine S_iconst dX16_nextTerm_149 rfl ?_
    refine S_bipush (z := 64) dX16_nextTerm_150 rfl ?_
    refine S_iload_n (i := 2) dX16_nextTerm_152 rfl rfl ?_
    refine S_imul dX16_nextTerm_153 ?_
    refine S_iload_n (i := 3) dX16_nextTerm_154 rfl rfl ?_
    refine S_iadd dX16_nextTerm_155 ?_
    refine S_imul dX16_nextTerm_156 ?_
    refine S_iconst dX16_nextTerm_157 rfl ?_
    refine P2_invVm hM [(0, x1), (1, 177), (0, 5 * ((64 * x2) + x3)), (0, 0)] [] CVX16_beginLookup MLX16_668 dX16_nextTerm_158 rfl rfl rfl rfl (by omega) h (fun r h => F_X16_beginLookup (by omega) hM h) (fun V2 h => ?_)
    obtain rfl := r0 _ (some_P (P := fun r => P r) h hz)
    exact S_return dX16_nextTerm_161 rfl
  · refine S_aload_n (i := 0) dX16_nextTerm_123 rfl rfl ?_
    refine S_iload_n (i := 1) dX16_nextTerm_124 rfl rfl ?_
    refine S_aload_n (i := 0) dX16_nextTerm_125 rfl rfl ?_
    refine P2_gfr hM (a := 246) FLX16_285 rfl ⟨rfl, rfl⟩ dX16_nextTerm_126 ?_
    refine S_iload_n (i := 1) dX16_nextTerm_129 rfl rfl ?_
    refine P2_laz hM (a := 246) (n := 44) rfl dX16_nextTerm_130 h (fun v1 h => ?_)
    refine P_if_eq (tgt := 138) dX16_nextTerm_131 rfl h (fun h => ?_) (fun h => ?_)
    · refine S_iconst dX16_nextTerm_138 rfl ?_
      refine S_weak (ls' := [(9, 0), (9, 0), (9, 0), (9, 0), (9, 0), (9, 0)]) ⟨Or.inl rfl, ⟨Or.inl rfl, ⟨Or.inl rfl, ⟨Or.inl rfl, ⟨Or.inl rfl, ⟨Or.inl rfl, trivial⟩⟩⟩⟩⟩⟩ ?_
      exact s_X16_nextTerm_139 hD hM r0 h hz
    · refine S_iconst dX16_nextTerm_134 rfl ?_
      refine S_goto (tgt := 139) dX16_nextTerm_135 rfl ?_
      refine S_weak (ls' := [(9, 0), (9, 0), (9, 0), (9, 0), (9, 0), (9, 0)]) ⟨Or.inl rfl, ⟨Or.inl rfl, ⟨Or.inl rfl, ⟨Or.inl rfl, ⟨Or.inl rfl, ⟨Or.inl rfl, trivial⟩⟩⟩⟩⟩⟩ ?_
      exact s_X16_nextTerm_139 hD hM r0 h hz
theorem s_X16_nextTerm_106 {g : GG} {d : Nat} (hD : 5 ≤ d) {x1 x2 x3 x4 : Int} {M : MM} (hM : LM M) {V : VV} {o : AV × MM} {P : ((Int × Int) ⊕ (VV)) → Prop} (c0 : ∀ s : Int × Int, P (.inl s) → Sem g d YX16_nextTerm 12 [(1, 156), (0, x1), (0, x2), (0, s.1), (0, s.2), (9, 0)] [] (wr M V) o) (r0 : ∀ r : VV, P (.inr r) → o = ((9, 0), (wr M r))) {z : (Int × Int) ⊕ (VV)} (h : j_X16_nextTerm_106 x1 x2 x3 x4 V = some z) (hz : P z) : Sem g d YX16_nextTerm 106 [(1, 156), (0, x1), (0, x2), (0, x3), (0, x4), (9, 0)] [] (wr M V) o := by
  delta j_X16_nextTerm_106 at h
  refine S_iinc dX16_nextTerm_106 rfl rfl rfl ?_
  change Sem g d YX16_nextTerm 109 [(1, 156), (0, x1), (0, x2), (0, x3), (0, x4 + 1), (9, 0)] [] (wr M V) o
  refine S_goto (tgt := 12) dX16_nextTerm_109 rfl ?_
  exact c0 (x3, x4 + 1) (some_P (P := fun r => P r) h hz)
theorem s_X16_nextTerm_103 {g : GG} {d : Nat} (hD : 5 ≤ d) {x1 x2 x4 : Int} {M : MM} (hM : LM M) {V : VV} {o : AV × MM} {P : ((Int × Int) ⊕ (VV)) → Prop} (c0 : ∀ s : Int × Int, P (.inl s) → Sem g d YX16_nextTerm 12 [(1, 156), (0, x1), (0, x2), (0, s.1), (0, s.2), (9, 0)] [] (wr M V) o) (r0 : ∀ r : VV, P (.inr r) → o = ((9, 0), (wr M r))) {z : (Int × Int) ⊕ (VV)} (h : j_X16_nextTerm_103 x1 x2 x4 V = some z) (hz : P z) : Sem g d YX16_nextTerm 103 [(1, 156), (0, x1), (0, x2), (9, 0), (0, x4), (9, 0)] [] (wr M V) o := by
  delta j_X16_nextTerm_103 at h
  refine S_iload dX16_nextTerm_103 rfl ?_
  refine S_istore_n (i := 3) dX16_nextTerm_105 rfl (Nat.le_of_ble_eq_true rfl) rfl rfl ?_
  change Sem g d YX16_nextTerm 106 [(1, 156), (0, x1), (0, x2), (0, x4), (0, x4), (9, 0)] [] (wr M V) o
  exact s_X16_nextTerm_106 hD hM c0 r0 h hz
theorem s_X16_nextTerm_62 {g : GG} {d : Nat} (hD : 5 ≤ d) {x1 x2 x3 x4 y0 : Int} {M : MM} (hM : LM M) {V : VV} {o : AV × MM} {P : ((Int × Int) ⊕ (VV)) → Prop} (c0 : ∀ s : Int × Int, P (.inl s) → Sem g d YX16_nextTerm 12 [(1, 156), (0, x1), (0, x2), (0, s.1), (0, s.2), (9, 0)] [] (wr M V) o) (r0 : ∀ r : VV, P (.inr r) → o = ((9, 0), (wr M r))) {z : (Int × Int) ⊕ (VV)} (h : j_X16_nextTerm_62 x1 x2 x3 x4 y0 V = some z) (hz : P z) : Sem g d YX16_nextTerm 62 [(1, 156), (0, x1), (0, x2), (0, x3), (0, x4), (9, 0)] [(0, y0)] (wr M V) o := by
  delta j_X16_nextTerm_62 at h
  refine S_istore dX16_nextTerm_62 (Nat.le_of_ble_eq_true rfl) rfl rfl ?_
  change Sem g d YX16_nextTerm 64 [(1, 156), (0, x1), (0, x2), (0, x3), (0, x4), (0, y0)] [] (wr M V) o
  refine S_iload dX16_nextTerm_64 rfl ?_
  refine P_if_eq (tgt := 106) dX16_nextTerm_66 rfl h (fun h => ?_) (fun h => ?_)
  · refine S_weak (ls' := [(1, 156), (0, x1), (0, x2), (0, x3), (0, x4), (9, 0)]) ⟨Or.inr rfl, ⟨Or.inr rfl, ⟨Or.inr rfl, ⟨Or.inr rfl, ⟨Or.inr rfl, ⟨Or.inl rfl, trivial⟩⟩⟩⟩⟩⟩ ?_
    exact s_X16_nextTerm_106 hD hM c0 r0 h hz
  · refine S_aload_n (i := 0) dX16_nextTerm_69 rfl rfl ?_
    refine S_iload_n (i := 1) dX16_nextTerm_70 rfl rfl ?_
    refine S_iload dX16_nextTerm_71 rfl ?_
    refine P2_invVp hM 0 [(0, x1), (0, x4)] [] CVX16_hasTerm MLX16_675 dX16_nextTerm_73 rfl rfl rfl rfl rfl (by omega) h (fun r h => F_X16_hasTerm (by omega) hM h) (fun v1 h => ?_)
    refine P_if_eq (tgt := 106) dX16_nextTerm_76 rfl h (fun h => ?_) (fun h => ?_)
    · refine S_weak (ls' := [(1, 156), (0, x1), (0, x2), (0, x3), (0, x4), (9, 0)]) ⟨Or.inr rfl, ⟨Or.inr rfl, ⟨Or.inr rfl, ⟨Or.inr rfl, ⟨Or.inr rfl, ⟨Or.inl rfl, trivial⟩⟩⟩⟩⟩⟩ ?_
      exact s_X16_nextTerm_106 hD hM c0 r0 h hz
    · refine S_iload_n (i := 3) dX16_nextTerm_79 rfl rfl ?_
      refine P_if_lt (tgt := 103) dX16_nextTerm_80 rfl h (fun h => ?_) (fun h => ?_)
      · refine S_weak (ls' := [(1, 156), (0, x1), (0, x2), (9, 0), (0, x4), (9, 0)]) ⟨Or.inr rfl, ⟨Or.inr rfl, ⟨Or.inr rfl, ⟨Or.inl rfl, ⟨Or.inr rfl, ⟨Or.inl rfl, trivial⟩⟩⟩⟩⟩⟩ ?_
        exact s_X16_nextTerm_103 hD hM c0 r0 h hz
      · refine S_aload_n (i := 0) dX16_nextTerm_83 rfl rfl ?_
        refine S_bipush (z := 64) dX16_nextTerm_84 rfl ?_
        refine S_iload_n (i := 2) dX16_nextTerm_86 rfl rfl ?_
        refine S_imul dX16_nextTerm_87 ?_
        refine S_iload dX16_nextTerm_88 rfl ?_
        refine S_iadd dX16_nextTerm_90 ?_
        refine S_bipush (z := 64) dX16_nextTerm_91 rfl ?_
        refine S_iload_n (i := 2) dX16_nextTerm_93 rfl rfl ?_
        refine S_imul dX16_nextTerm_94 ?_
        refine S_iload_n (i := 3) dX16_nextTerm_95 rfl rfl ?_
        refine S_iadd dX16_nextTerm_96 ?_
        refine P2_invVp hM 0 [(0, (64 * x2) + x4), (0, (64 * x2) + x3)] [] CVX16_lower MLX16_672 dX16_nextTerm_97 rfl rfl rfl rfl rfl (by omega) h (fun r h => F_X16_lower (by omega) hM h) (fun v2 h => ?_)
        refine P_if_eq (tgt := 106) dX16_nextTerm_100 rfl h (fun h => ?_) (fun h => ?_)
        · refine S_weak (ls' := [(1, 156), (0, x1), (0, x2), (0, x3), (0, x4), (9, 0)]) ⟨Or.inr rfl, ⟨Or.inr rfl, ⟨Or.inr rfl, ⟨Or.inr rfl, ⟨Or.inr rfl, ⟨Or.inl rfl, trivial⟩⟩⟩⟩⟩⟩ ?_
          exact s_X16_nextTerm_106 hD hM c0 r0 h hz
        · refine S_weak (ls' := [(1, 156), (0, x1), (0, x2), (9, 0), (0, x4), (9, 0)]) ⟨Or.inr rfl, ⟨Or.inr rfl, ⟨Or.inr rfl, ⟨Or.inl rfl, ⟨Or.inr rfl, ⟨Or.inl rfl, trivial⟩⟩⟩⟩⟩⟩ ?_
          exact s_X16_nextTerm_103 hD hM c0 r0 h hz
theorem s_X16_nextTerm_57 {g : GG} {d : Nat} (hD : 5 ≤ d) {x1 x2 x3 x4 : Int} {M : MM} (hM : LM M) {V : VV} {o : AV × MM} {P : ((Int × Int) ⊕ (VV)) → Prop} (c0 : ∀ s : Int × Int, P (.inl s) → Sem g d YX16_nextTerm 12 [(1, 156), (0, x1), (0, x2), (0, s.1), (0, s.2), (9, 0)] [] (wr M V) o) (r0 : ∀ r : VV, P (.inr r) → o = ((9, 0), (wr M r))) {z : (Int × Int) ⊕ (VV)} (h : j_X16_nextTerm_57 x1 x2 x3 x4 V = some z) (hz : P z) : Sem g d YX16_nextTerm 57 [(1, 156), (0, x1), (0, x2), (0, x3), (0, x4), (9, 0)] [] (wr M V) o := by
  delta j_X16_nextTerm_57 at h
  refine S_iconst dX16_nextTerm_57 rfl ?_
  refine S_goto (tgt := 62) dX16_nextTerm_58 rfl ?_
  exact s_X16_nextTerm_62 hD hM c0 r0 h hz
theorem s_X16_nextTerm_12 {g : GG} {d : Nat} (hD : 5 ≤ d) {x1 x2 x3 x4 : Int} {M : MM} (hM : LM M) {V : VV} {o : AV × MM} {P : ((Int × Int) ⊕ (VV)) → Prop} (c0 : ∀ s : Int × Int, P (.inl s) → Sem g d YX16_nextTerm 12 [(1, 156), (0, x1), (0, x2), (0, s.1), (0, s.2), (9, 0)] [] (wr M V) o) (r0 : ∀ r : VV, P (.inr r) → o = ((9, 0), (wr M r))) {z : (Int × Int) ⊕ (VV)} (h : b_X16_nextTerm_12 x1 x2 x3 x4 V = some z) (hz : P z) : Sem g d YX16_nextTerm 12 [(1, 156), (0, x1), (0, x2), (0, x3), (0, x4), (9, 0)] [] (wr M V) o := by
  delta b_X16_nextTerm_12 at h
  refine S_iload dX16_nextTerm_12 rfl ?_
  refine S_aload_n (i := 0) dX16_nextTerm_14 rfl rfl ?_
  refine P2_gfr hM (a := 174) FLX16_63 rfl ⟨rfl, rfl⟩ dX16_nextTerm_15 ?_
  refine S_iload_n (i := 2) dX16_nextTerm_18 rfl rfl ?_
  refine P2_lai hM (a := 174) (n := 32) rfl dX16_nextTerm_19 h (fun v1 h => ?_)
  refine P_icmp_ge (tgt := 112) dX16_nextTerm_20 rfl h (fun h => ?_) (fun h => ?_)
  · refine S_weak (ls' := [(1, 156), (0, x1), (0, x2), (0, x3), (9, 0), (9, 0)]) ⟨Or.inr rfl, ⟨Or.inr rfl, ⟨Or.inr rfl, ⟨Or.inr rfl, ⟨Or.inl rfl, ⟨Or.inl rfl, trivial⟩⟩⟩⟩⟩⟩ ?_
    obtain ⟨z0, h, hz⟩ := xit_some' (P := fun r => P r) h hz
    exact s_X16_nextTerm_112 hD hM (P := fun r => P (.inr r)) r0 h hz
  · refine S_aload_n (i := 0) dX16_nextTerm_23 rfl rfl ?_
    refine P2_gfr hM (a := 244) FLX16_279 rfl ⟨rfl, rfl⟩ dX16_nextTerm_24 ?_
    refine S_iload_n (i := 1) dX16_nextTerm_27 rfl rfl ?_
    refine P2_lai hM (a := 244) (n := 44) rfl dX16_nextTerm_28 h (fun v2 h => ?_)
    refine P_if_lt (tgt := 57) dX16_nextTerm_29 rfl h (fun h => ?_) (fun h => ?_)
    · exact s_X16_nextTerm_57 hD hM c0 r0 h hz
    · refine S_aload_n (i := 0) dX16_nextTerm_32 rfl rfl ?_
      refine S_bipush (z := 64) dX16_nextTerm_33 rfl ?_
      refine S_iload_n (i := 2) dX16_nextTerm_35 rfl rfl ?_
      refine S_imul dX16_nextTerm_36 ?_
      refine S_aload_n (i := 0) dX16_nextTerm_37 rfl rfl ?_
      refine P2_gfr hM (a := 244) FLX16_279 rfl ⟨rfl, rfl⟩ dX16_nextTerm_38 ?_
      refine S_iload_n (i := 1) dX16_nextTerm_41 rfl rfl ?_
      refine P2_lai hM (a := 244) (n := 44) rfl dX16_nextTerm_42 h (fun v3 h => ?_)
      refine S_iadd dX16_nextTerm_43 ?_
      refine S_bipush (z := 64) dX16_nextTerm_44 rfl ?_
      refine S_iload_n (i := 2) dX16_nextTerm_46 rfl rfl ?_
      refine S_imul dX16_nextTerm_47 ?_
      refine S_iload dX16_nextTerm_48 rfl ?_
      refine S_iadd dX16_nextTerm_50 ?_
      refine P2_invVp hM 0 [(0, (64 * x2) + v3), (0, (64 * x2) + x4)] [] CVX16_lower MLX16_672 dX16_nextTerm_51 rfl rfl rfl rfl rfl (by omega) h (fun r h => F_X16_lower (by omega) hM h) (fun v4 h => ?_)
      refine P_if_eq (tgt := 61) dX16_nextTerm_54 rfl h (fun h => ?_) (fun h => ?_)
      · refine S_iconst dX16_nextTerm_61 rfl ?_
        exact s_X16_nextTerm_62 hD hM c0 r0 h hz
      · exact s_X16_nextTerm_57 hD hM c0 r0 h hz
theorem sl_X16_nextTerm_12 {g : GG} {d : Nat} (hD : 5 ≤ d) {x1 x2 x3 x4 : Int} {M : MM} (hM : LM M) {V : VV} {o : AV × MM} {P : (VV) → Prop} (r0 : ∀ r : VV, P r → o = ((9, 0), (wr M r))) {z : VV} (h : l_X16_nextTerm_12 x1 x2 x3 x4 V = some z) (hz : P z) : Sem g d YX16_nextTerm 12 [(1, 156), (0, x1), (0, x2), (0, x3), (0, x4), (9, 0)] [] (wr M V) o := by
  refine lp_sound (S := fun s : Int × Int => Sem g d YX16_nextTerm 12 [(1, 156), (0, x1), (0, x2), (0, s.1), (0, s.2), (9, 0)] [] (wr M V) o) (P := P) ?_ FU (x3, x4) z h hz
  intro s x hx hP
  exact s_X16_nextTerm_12 hD hM (P := Sum.elim (fun s : Int × Int => Sem g d YX16_nextTerm 12 [(1, 156), (0, x1), (0, x2), (0, s.1), (0, s.2), (9, 0)] [] (wr M V) o) P) (fun s h => h) (fun s h => r0 s h) hx hP
theorem s_X16_nextTerm_0 {g : GG} {d : Nat} (hD : 5 ≤ d) {x1 : Int} {M : MM} (hM : LM M) {V : VV} {o : AV × MM} {P : (VV) → Prop} (r0 : ∀ r : VV, P r → o = ((9, 0), (wr M r))) {z : VV} (h : f_X16_nextTerm x1 V = some z) (hz : P z) : Sem g d YX16_nextTerm 0 [(1, 156), (0, x1), (9, 0), (9, 0), (9, 0), (9, 0)] [] (wr M V) o := by
  delta f_X16_nextTerm at h
  refine S_aload_n (i := 0) dX16_nextTerm_0 rfl rfl ?_
  refine P2_gfr hM (a := 228) FLX16_231 rfl ⟨rfl, rfl⟩ dX16_nextTerm_1 ?_
  refine S_iload_n (i := 1) dX16_nextTerm_4 rfl rfl ?_
  refine P2_lai hM (a := 228) (n := 44) rfl dX16_nextTerm_5 h (fun v1 h => ?_)
  refine S_istore_n (i := 2) dX16_nextTerm_6 rfl (Nat.le_of_ble_eq_true rfl) rfl rfl ?_
  change Sem g d YX16_nextTerm 7 [(1, 156), (0, x1), (0, v1), (9, 0), (9, 0), (9, 0)] [] (wr M V) o
  refine S_iconst dX16_nextTerm_7 rfl ?_
  refine S_istore_n (i := 3) dX16_nextTerm_8 rfl (Nat.le_of_ble_eq_true rfl) rfl rfl ?_
  change Sem g d YX16_nextTerm 9 [(1, 156), (0, x1), (0, v1), (0, (-1)), (9, 0), (9, 0)] [] (wr M V) o
  refine S_iconst dX16_nextTerm_9 rfl ?_
  refine S_istore dX16_nextTerm_10 (Nat.le_of_ble_eq_true rfl) rfl rfl ?_
  change Sem g d YX16_nextTerm 12 [(1, 156), (0, x1), (0, v1), (0, (-1)), (0, 0), (9, 0)] [] (wr M V) o
  exact sl_X16_nextTerm_12 hD hM r0 h hz
theorem F_X16_nextTerm {g : GG} {d : Nat} (hD : 5 ≤ d) {x1 : Int} {M : MM} (hM : LM M) {V : VV} {r : VV} (h : f_X16_nextTerm x1 V = some r) : Sem g d YX16_nextTerm 0 (ini YX16_nextTerm [(1, 156), (0, x1)]) [] (wr M V) ((9, 0), (wr M r)) := by
  change Sem g d YX16_nextTerm 0 [(1, 156), (0, x1), (9, 0), (9, 0), (9, 0), (9, 0)] [] (wr M V) ((9, 0), (wr M r))
  exact s_X16_nextTerm_0 hD hM (P := fun x => x = r) (fun q e => by rw [e]) h rfl
/-! PeerSearchModel.tell(I)V -/
theorem dX16_tell_0 : decode cX16_tell 0 = .ok (.aload_n 0, 1) := by decide +kernel
theorem dX16_tell_1 : decode cX16_tell 1 = .ok (.getfield 210, 3) := by decide +kernel
theorem dX16_tell_4 : decode cX16_tell 4 = .ok (.aload_n 0, 1) := by decide +kernel
theorem dX16_tell_5 : decode cX16_tell 5 = .ok (.getfield 595, 3) := by decide +kernel
theorem dX16_tell_8 : decode cX16_tell 8 = .ok (.aload_n 0, 1) := by decide +kernel
theorem dX16_tell_9 : decode cX16_tell 9 = .ok (.getfield 183, 3) := by decide +kernel
theorem dX16_tell_12 : decode cX16_tell 12 = .ok (.iload_n 1, 1) := by decide +kernel
theorem dX16_tell_13 : decode cX16_tell 13 = .ok (.iaload, 1) := by decide +kernel
theorem dX16_tell_14 : decode cX16_tell 14 = .ok (.iastore, 1) := by decide +kernel
theorem dX16_tell_15 : decode cX16_tell 15 = .ok (.aload_n 0, 1) := by decide +kernel
theorem dX16_tell_16 : decode cX16_tell 16 = .ok (.getfield 213, 3) := by decide +kernel
theorem dX16_tell_19 : decode cX16_tell 19 = .ok (.aload_n 0, 1) := by decide +kernel
theorem dX16_tell_20 : decode cX16_tell 20 = .ok (.getfield 595, 3) := by decide +kernel
theorem dX16_tell_23 : decode cX16_tell 23 = .ok (.aload_n 0, 1) := by decide +kernel
theorem dX16_tell_24 : decode cX16_tell 24 = .ok (.getfield 186, 3) := by decide +kernel
theorem dX16_tell_27 : decode cX16_tell 27 = .ok (.iload_n 1, 1) := by decide +kernel
theorem dX16_tell_28 : decode cX16_tell 28 = .ok (.iaload, 1) := by decide +kernel
theorem dX16_tell_29 : decode cX16_tell 29 = .ok (.iastore, 1) := by decide +kernel
theorem dX16_tell_30 : decode cX16_tell 30 = .ok (.aload_n 0, 1) := by decide +kernel
theorem dX16_tell_31 : decode cX16_tell 31 = .ok (.getfield 216, 3) := by decide +kernel
theorem dX16_tell_34 : decode cX16_tell 34 = .ok (.aload_n 0, 1) := by decide +kernel
theorem dX16_tell_35 : decode cX16_tell 35 = .ok (.getfield 595, 3) := by decide +kernel
theorem dX16_tell_38 : decode cX16_tell 38 = .ok (.aload_n 0, 1) := by decide +kernel
theorem dX16_tell_39 : decode cX16_tell 39 = .ok (.getfield 189, 3) := by decide +kernel
theorem dX16_tell_42 : decode cX16_tell 42 = .ok (.iload_n 1, 1) := by decide +kernel
theorem dX16_tell_43 : decode cX16_tell 43 = .ok (.iaload, 1) := by decide +kernel
theorem dX16_tell_44 : decode cX16_tell 44 = .ok (.iastore, 1) := by decide +kernel
theorem dX16_tell_45 : decode cX16_tell 45 = .ok (.aload_n 0, 1) := by decide +kernel
theorem dX16_tell_46 : decode cX16_tell 46 = .ok (.dup, 1) := by decide +kernel
theorem dX16_tell_47 : decode cX16_tell 47 = .ok (.getfield 595, 3) := by decide +kernel
theorem dX16_tell_50 : decode cX16_tell 50 = .ok (.iconst 1, 1) := by decide +kernel
theorem dX16_tell_51 : decode cX16_tell 51 = .ok (.iadd, 1) := by decide +kernel
theorem dX16_tell_52 : decode cX16_tell 52 = .ok (.putfield 595, 3) := by decide +kernel
theorem dX16_tell_55 : decode cX16_tell 55 = .ok (.return_, 1) := by decide +kernel
def f_X16_tell (x1 : Int) (V : VV) : Option (VV) :=
  (l2 212 6400 x1 V).bind fun v1 =>
  (s2 221 30 (w32 (V 156 83)) v1 V).bind fun V1 =>
  (l2 213 6400 x1 V1).bind fun v2 =>
  (s2 222 30 (w32 (V1 156 83)) v2 V1).bind fun V2 =>
  (l2 214 6400 x1 V2).bind fun v3 =>
  (s2 223 30 (w32 (V2 156 83)) v3 V2).bind fun V3 =>
  (p2 83 ((w32 (V3 156 83)) + 1) V3).bind fun V4 =>
  some V4
theorem s_X16_tell_0 {g : GG} {d : Nat} (hD : 0 ≤ d) {x1 : Int} {M : MM} (hM : LM M) {V : VV} {o : AV × MM} {P : (VV) → Prop} (r0 : ∀ r : VV, P r → o = ((9, 0), (wr M r))) {z : VV} (h : f_X16_tell x1 V = some z) (hz : P z) : Sem g d YX16_tell 0 [(1, 156), (0, x1)] [] (wr M V) o := by
  delta f_X16_tell at h
  refine S_aload_n (i := 0) dX16_tell_0 rfl rfl ?_
  refine P2_gfr hM (a := 221) FLX16_210 rfl ⟨rfl, rfl⟩ dX16_tell_1 ?_
  refine S_aload_n (i := 0) dX16_tell_4 rfl rfl ?_
  refine P2_gfi hM FLX16_595 rfl dX16_tell_5 ?_
  refine S_aload_n (i := 0) dX16_tell_8 rfl rfl ?_
  refine P2_gfr hM (a := 212) FLX16_183 rfl ⟨rfl, rfl⟩ dX16_tell_9 ?_
  refine S_iload_n (i := 1) dX16_tell_12 rfl rfl ?_
  refine P2_lai hM (a := 212) (n := 6400) rfl dX16_tell_13 h (fun v1 h => ?_)
  refine P2_sai hM (a := 221) (n := 30) rfl dX16_tell_14 h (fun V1 h => ?_)
  refine S_aload_n (i := 0) dX16_tell_15 rfl rfl ?_
  refine P2_gfr hM (a := 222) FLX16_213 rfl ⟨rfl, rfl⟩ dX16_tell_16 ?_
  refine S_aload_n (i := 0) dX16_tell_19 rfl rfl ?_
  refine P2_gfi hM FLX16_595 rfl dX16_tell_20 ?_
  refine S_aload_n (i := 0) dX16_tell_23 rfl rfl ?_
  refine P2_gfr hM (a := 213) FLX16_186 rfl ⟨rfl, rfl⟩ dX16_tell_24 ?_
  refine S_iload_n (i := 1) dX16_tell_27 rfl rfl ?_
  refine P2_lai hM (a := 213) (n := 6400) rfl dX16_tell_28 h (fun v2 h => ?_)
  refine P2_sai hM (a := 222) (n := 30) rfl dX16_tell_29 h (fun V2 h => ?_)
  refine S_aload_n (i := 0) dX16_tell_30 rfl rfl ?_
  refine P2_gfr hM (a := 223) FLX16_216 rfl ⟨rfl, rfl⟩ dX16_tell_31 ?_
  refine S_aload_n (i := 0) dX16_tell_34 rfl rfl ?_
  refine P2_gfi hM FLX16_595 rfl dX16_tell_35 ?_
  refine S_aload_n (i := 0) dX16_tell_38 rfl rfl ?_
  refine P2_gfr hM (a := 214) FLX16_189 rfl ⟨rfl, rfl⟩ dX16_tell_39 ?_
  refine S_iload_n (i := 1) dX16_tell_42 rfl rfl ?_
  refine P2_lai hM (a := 214) (n := 6400) rfl dX16_tell_43 h (fun v3 h => ?_)
  refine P2_sai hM (a := 223) (n := 30) rfl dX16_tell_44 h (fun V3 h => ?_)
  refine S_aload_n (i := 0) dX16_tell_45 rfl rfl ?_
  refine S_dup dX16_tell_46 (Nat.le_of_ble_eq_true rfl) ?_
  refine P2_gfi hM FLX16_595 rfl dX16_tell_47 ?_
  refine S_iconst dX16_tell_50 rfl ?_
  refine S_iadd dX16_tell_51 ?_
  refine P2_pfi hM FLX16_595 FPX16_595 rfl dX16_tell_52 h (fun V4 h => ?_)
  obtain rfl := r0 _ (some_P (P := fun r => P r) h hz)
  exact S_return dX16_tell_55 rfl
theorem F_X16_tell {g : GG} {d : Nat} (hD : 0 ≤ d) {x1 : Int} {M : MM} (hM : LM M) {V : VV} {r : VV} (h : f_X16_tell x1 V = some r) : Sem g d YX16_tell 0 (ini YX16_tell [(1, 156), (0, x1)]) [] (wr M V) ((9, 0), (wr M r)) := by
  change Sem g d YX16_tell 0 [(1, 156), (0, x1)] [] (wr M V) ((9, 0), (wr M r))
  exact s_X16_tell_0 hD hM (P := fun x => x = r) (fun q e => by rw [e]) h rfl
/-! PeerSearchModel.findChecked(I[II)V -/
theorem dX16_findChecked_0 : decode cX16_findChecked 0 = .ok (.aload_n 0, 1) := by decide +kernel
theorem dX16_findChecked_1 : decode cX16_findChecked 1 = .ok (.iconst 0, 1) := by decide +kernel
theorem dX16_findChecked_2 : decode cX16_findChecked 2 = .ok (.putfield 595, 3) := by decide +kernel
theorem dX16_findChecked_5 : decode cX16_findChecked 5 = .ok (.iconst 0, 1) := by decide +kernel
theorem dX16_findChecked_6 : decode cX16_findChecked 6 = .ok (.istore 4, 2) := by decide +kernel
theorem dX16_findChecked_8 : decode cX16_findChecked 8 = .ok (.iload 4, 2) := by decide +kernel
theorem dX16_findChecked_10 : decode cX16_findChecked 10 = .ok (.aload_n 0, 1) := by decide +kernel
theorem dX16_findChecked_11 : decode cX16_findChecked 11 = .ok (.getfield 612, 3) := by decide +kernel
theorem dX16_findChecked_14 : decode cX16_findChecked 14 = .ok (.if_icmp .ge 43, 3) := by decide +kernel
theorem dX16_findChecked_17 : decode cX16_findChecked 17 = .ok (.aload_n 0, 1) := by decide +kernel
theorem dX16_findChecked_18 : decode cX16_findChecked 18 = .ok (.iload_n 1, 1) := by decide +kernel
theorem dX16_findChecked_19 : decode cX16_findChecked 19 = .ok (.aload_n 2, 1) := by decide +kernel
theorem dX16_findChecked_20 : decode cX16_findChecked 20 = .ok (.iload_n 3, 1) := by decide +kernel
theorem dX16_findChecked_21 : decode cX16_findChecked 21 = .ok (.aload_n 0, 1) := by decide +kernel
theorem dX16_findChecked_22 : decode cX16_findChecked 22 = .ok (.getfield 219, 3) := by decide +kernel
theorem dX16_findChecked_25 : decode cX16_findChecked 25 = .ok (.iload 4, 2) := by decide +kernel
theorem dX16_findChecked_27 : decode cX16_findChecked 27 = .ok (.iaload, 1) := by decide +kernel
theorem dX16_findChecked_28 : decode cX16_findChecked 28 = .ok (.aload_n 0, 1) := by decide +kernel
theorem dX16_findChecked_29 : decode cX16_findChecked 29 = .ok (.getfield 222, 3) := by decide +kernel
theorem dX16_findChecked_32 : decode cX16_findChecked 32 = .ok (.iload 4, 2) := by decide +kernel
theorem dX16_findChecked_34 : decode cX16_findChecked 34 = .ok (.iaload, 1) := by decide +kernel
theorem dX16_findChecked_35 : decode cX16_findChecked 35 = .ok (.invokevirtual 568, 3) := by decide +kernel
theorem dX16_findChecked_38 : decode cX16_findChecked 38 = .ok (.istore 5, 2) := by decide +kernel
theorem dX16_findChecked_40 : decode cX16_findChecked 40 = .ok (.iload 5, 2) := by decide +kernel
theorem dX16_findChecked_42 : decode cX16_findChecked 42 = .ok (.ifCond .lt 9, 3) := by decide +kernel
theorem dX16_findChecked_45 : decode cX16_findChecked 45 = .ok (.aload_n 0, 1) := by decide +kernel
theorem dX16_findChecked_46 : decode cX16_findChecked 46 = .ok (.iload 5, 2) := by decide +kernel
theorem dX16_findChecked_48 : decode cX16_findChecked 48 = .ok (.invokevirtual 609, 3) := by decide +kernel
theorem dX16_findChecked_51 : decode cX16_findChecked 51 = .ok (.iinc 4 1, 3) := by decide +kernel
theorem dX16_findChecked_54 : decode cX16_findChecked 54 = .ok (.goto (-46), 3) := by decide +kernel
theorem dX16_findChecked_57 : decode cX16_findChecked 57 = .ok (.return_, 1) := by decide +kernel
def j_X16_findChecked_51 (x1 x2 x3 x4 : Int) (V : VV) : Option ((Int × VV) ⊕ (VV)) :=
  cnt (x4 + 1, V)
def b_X16_findChecked_8 (x1 x2 x3 x4 : Int) (V : VV) : Option ((Int × VV) ⊕ (VV)) :=
  if w32 x4 < w32 (w32 (V 156 88)) then
    (l2 224 30 x4 V).bind fun v1 =>
    (l2 225 30 x4 V).bind fun v2 =>
    (f_X16_postingWith x1 x2 x3 v1 v2 V).bind fun v3 =>
    if w32 v3 < 0 then
      j_X16_findChecked_51 x1 x2 x3 x4 V
    else
      (f_X16_tell v3 V).bind fun V1 =>
      j_X16_findChecked_51 x1 x2 x3 x4 V1
  else
    xit (some V)
def l_X16_findChecked_8 (x1 x2 x3 x4 : Int) (V : VV) : Option (VV) := lpN (fun s : Int × VV => b_X16_findChecked_8 x1 x2 x3 s.1 s.2) FU (x4, V)
def f_X16_findChecked (x1 x2 x3 : Int) (V : VV) : Option (VV) :=
  (p2 83 0 V).bind fun V1 =>
  l_X16_findChecked_8 x1 x2 x3 0 V1
theorem s_X16_findChecked_51 {g : GG} {d : Nat} (hD : 2 ≤ d) {x1 x2 x3 x4 : Int} {M : MM} (hM : LM M) {V : VV} {o : AV × MM} {P : ((Int × VV) ⊕ (VV)) → Prop} (c0 : ∀ s : Int × VV, P (.inl s) → Sem g d YX16_findChecked 8 [(1, 156), (0, x1), (1, x2), (0, x3), (0, s.1), (9, 0)] [] (wr M s.2) o) (r0 : ∀ r : VV, P (.inr r) → o = ((9, 0), (wr M r))) {z : (Int × VV) ⊕ (VV)} (h : j_X16_findChecked_51 x1 x2 x3 x4 V = some z) (hz : P z) : Sem g d YX16_findChecked 51 [(1, 156), (0, x1), (1, x2), (0, x3), (0, x4), (9, 0)] [] (wr M V) o := by
  delta j_X16_findChecked_51 at h
  refine S_iinc dX16_findChecked_51 rfl rfl rfl ?_
  change Sem g d YX16_findChecked 54 [(1, 156), (0, x1), (1, x2), (0, x3), (0, x4 + 1), (9, 0)] [] (wr M V) o
  refine S_goto (tgt := 8) dX16_findChecked_54 rfl ?_
  exact c0 (x4 + 1, V) (some_P (P := fun r => P r) h hz)
theorem s_X16_findChecked_8 {g : GG} {d : Nat} (hD : 2 ≤ d) {x1 x2 x3 x4 : Int} {M : MM} (hM : LM M) {V : VV} {o : AV × MM} {P : ((Int × VV) ⊕ (VV)) → Prop} (c0 : ∀ s : Int × VV, P (.inl s) → Sem g d YX16_findChecked 8 [(1, 156), (0, x1), (1, x2), (0, x3), (0, s.1), (9, 0)] [] (wr M s.2) o) (r0 : ∀ r : VV, P (.inr r) → o = ((9, 0), (wr M r))) {z : (Int × VV) ⊕ (VV)} (h : b_X16_findChecked_8 x1 x2 x3 x4 V = some z) (hz : P z) : Sem g d YX16_findChecked 8 [(1, 156), (0, x1), (1, x2), (0, x3), (0, x4), (9, 0)] [] (wr M V) o := by
  delta b_X16_findChecked_8 at h
  refine S_iload dX16_findChecked_8 rfl ?_
  refine S_aload_n (i := 0) dX16_findChecked_10 rfl rfl ?_
  refine P2_gfi hM FLX16_612 rfl dX16_findChecked_11 ?_
  refine P_icmp_ge (tgt := 57) dX16_findChecked_14 rfl h (fun h => ?_) (fun h => ?_)
  · obtain ⟨z0, h, hz⟩ := xit_some' (P := fun r => P r) h hz
    obtain rfl := r0 _ (some_P (P := fun r => P (.inr r)) h hz)
    exact S_return dX16_findChecked_57 rfl
  · refine S_aload_n (i := 0) dX16_findChecked_17 rfl rfl ?_
    refine S_iload_n (i := 1) dX16_findChecked_18 rfl rfl ?_
    refine S_aload_n (i := 2) dX16_findChecked_19 rfl rfl ?_
    refine S_iload_n (i := 3) dX16_findChecked_20 rfl rfl ?_
    refine S_aload_n (i := 0) dX16_findChecked_21 rfl rfl ?_
    refine P2_gfr hM (a := 224) FLX16_219 rfl ⟨rfl, rfl⟩ dX16_findChecked_22 ?_
    refine S_iload dX16_findChecked_25 rfl ?_
    refine P2_lai hM (a := 224) (n := 30) rfl dX16_findChecked_27 h (fun v1 h => ?_)
    refine S_aload_n (i := 0) dX16_findChecked_28 rfl rfl ?_
    refine P2_gfr hM (a := 225) FLX16_222 rfl ⟨rfl, rfl⟩ dX16_findChecked_29 ?_
    refine S_iload dX16_findChecked_32 rfl ?_
    refine P2_lai hM (a := 225) (n := 30) rfl dX16_findChecked_34 h (fun v2 h => ?_)
    refine P2_invVp hM 0 [(0, x1), (1, x2), (0, x3), (0, v1), (0, v2)] [] CVX16_postingWith MLX16_568 dX16_findChecked_35 rfl rfl rfl rfl rfl (by omega) h (fun r h => F_X16_postingWith (by omega) hM h) (fun v3 h => ?_)
    refine S_istore dX16_findChecked_38 (Nat.le_of_ble_eq_true rfl) rfl rfl ?_
    change Sem g d YX16_findChecked 40 [(1, 156), (0, x1), (1, x2), (0, x3), (0, x4), (0, v3)] [] (wr M V) o
    refine S_iload dX16_findChecked_40 rfl ?_
    refine P_if_lt (tgt := 51) dX16_findChecked_42 rfl h (fun h => ?_) (fun h => ?_)
    · refine S_weak (ls' := [(1, 156), (0, x1), (1, x2), (0, x3), (0, x4), (9, 0)]) ⟨Or.inr rfl, ⟨Or.inr rfl, ⟨Or.inr rfl, ⟨Or.inr rfl, ⟨Or.inr rfl, ⟨Or.inl rfl, trivial⟩⟩⟩⟩⟩⟩ ?_
      exact s_X16_findChecked_51 hD hM c0 r0 h hz
    · refine S_aload_n (i := 0) dX16_findChecked_45 rfl rfl ?_
      refine S_iload dX16_findChecked_46 rfl ?_
      refine P2_invVm hM [(0, v3)] [] CVX16_tell MLX16_609 dX16_findChecked_48 rfl rfl rfl rfl (by omega) h (fun r h => F_X16_tell (by omega) hM h) (fun V1 h => ?_)
      refine S_weak (ls' := [(1, 156), (0, x1), (1, x2), (0, x3), (0, x4), (9, 0)]) ⟨Or.inr rfl, ⟨Or.inr rfl, ⟨Or.inr rfl, ⟨Or.inr rfl, ⟨Or.inr rfl, ⟨Or.inl rfl, trivial⟩⟩⟩⟩⟩⟩ ?_
      exact s_X16_findChecked_51 hD hM c0 r0 h hz
theorem sl_X16_findChecked_8 {g : GG} {d : Nat} (hD : 2 ≤ d) {x1 x2 x3 x4 : Int} {M : MM} (hM : LM M) {V : VV} {o : AV × MM} {P : (VV) → Prop} (r0 : ∀ r : VV, P r → o = ((9, 0), (wr M r))) {z : VV} (h : l_X16_findChecked_8 x1 x2 x3 x4 V = some z) (hz : P z) : Sem g d YX16_findChecked 8 [(1, 156), (0, x1), (1, x2), (0, x3), (0, x4), (9, 0)] [] (wr M V) o := by
  refine lp_sound (S := fun s : Int × VV => Sem g d YX16_findChecked 8 [(1, 156), (0, x1), (1, x2), (0, x3), (0, s.1), (9, 0)] [] (wr M s.2) o) (P := P) ?_ FU (x4, V) z h hz
  intro s x hx hP
  exact s_X16_findChecked_8 hD hM (P := Sum.elim (fun s : Int × VV => Sem g d YX16_findChecked 8 [(1, 156), (0, x1), (1, x2), (0, x3), (0, s.1), (9, 0)] [] (wr M s.2) o) P) (fun s h => h) (fun s h => r0 s h) hx hP
theorem s_X16_findChecked_0 {g : GG} {d : Nat} (hD : 2 ≤ d) {x1 x2 x3 : Int} {M : MM} (hM : LM M) {V : VV} {o : AV × MM} {P : (VV) → Prop} (r0 : ∀ r : VV, P r → o = ((9, 0), (wr M r))) {z : VV} (h : f_X16_findChecked x1 x2 x3 V = some z) (hz : P z) : Sem g d YX16_findChecked 0 [(1, 156), (0, x1), (1, x2), (0, x3), (9, 0), (9, 0)] [] (wr M V) o := by
  delta f_X16_findChecked at h
  refine S_aload_n (i := 0) dX16_findChecked_0 rfl rfl ?_
  refine S_iconst dX16_findChecked_1 rfl ?_
  refine P2_pfi hM FLX16_595 FPX16_595 rfl dX16_findChecked_2 h (fun V1 h => ?_)
  refine S_iconst dX16_findChecked_5 rfl ?_
  refine S_istore dX16_findChecked_6 (Nat.le_of_ble_eq_true rfl) rfl rfl ?_
  change Sem g d YX16_findChecked 8 [(1, 156), (0, x1), (1, x2), (0, x3), (0, 0), (9, 0)] [] (wr M V1) o
  exact sl_X16_findChecked_8 hD hM r0 h hz
theorem F_X16_findChecked {g : GG} {d : Nat} (hD : 2 ≤ d) {x1 x2 x3 : Int} {M : MM} (hM : LM M) {V : VV} {r : VV} (h : f_X16_findChecked x1 x2 x3 V = some r) : Sem g d YX16_findChecked 0 (ini YX16_findChecked [(1, 156), (0, x1), (1, x2), (0, x3)]) [] (wr M V) ((9, 0), (wr M r)) := by
  change Sem g d YX16_findChecked 0 [(1, 156), (0, x1), (1, x2), (0, x3), (9, 0), (9, 0)] [] (wr M V) ((9, 0), (wr M r))
  exact s_X16_findChecked_0 hD hM (P := fun x => x = r) (fun q e => by rw [e]) h rfl
/-! PeerSearchModel.bit(II)I -/
theorem dX16_bit_0 : decode cX16_bit 0 = .ok (.aload_n 0, 1) := by decide +kernel
theorem dX16_bit_1 : decode cX16_bit 1 = .ok (.getfield 574, 3) := by decide +kernel
theorem dX16_bit_4 : decode cX16_bit 4 = .ok (.iload_n 1, 1) := by decide +kernel
theorem dX16_bit_5 : decode cX16_bit 5 = .ok (.i2l, 1) := by decide +kernel
theorem dX16_bit_6 : decode cX16_bit 6 = .ok (.aload_n 0, 1) := by decide +kernel
theorem dX16_bit_7 : decode cX16_bit 7 = .ok (.getfield 578, 3) := by decide +kernel
theorem dX16_bit_10 : decode cX16_bit 10 = .ok (.lmul, 1) := by decide +kernel
theorem dX16_bit_11 : decode cX16_bit 11 = .ok (.ladd, 1) := by decide +kernel
theorem dX16_bit_12 : decode cX16_bit 12 = .ok (.ldc2_w 581, 3) := by decide +kernel
theorem dX16_bit_15 : decode cX16_bit 15 = .ok (.iload_n 2, 1) := by decide +kernel
theorem dX16_bit_16 : decode cX16_bit 16 = .ok (.i2l, 1) := by decide +kernel
theorem dX16_bit_17 : decode cX16_bit 17 = .ok (.lmul, 1) := by decide +kernel
theorem dX16_bit_18 : decode cX16_bit 18 = .ok (.lrem, 1) := by decide +kernel
theorem dX16_bit_19 : decode cX16_bit 19 = .ok (.l2i, 1) := by decide +kernel
theorem dX16_bit_20 : decode cX16_bit 20 = .ok (.ireturn, 1) := by decide +kernel
def f_X16_bit (x1 x2 : Int) (V : VV) : Option (Int) :=
  (rml ((V 156 81) + ((w32 x1) * (V 156 82))) (8 * (w32 x2))).bind fun v1 =>
  some (lcv v1)
theorem s_X16_bit_0 {g : GG} {d : Nat} (hD : 0 ≤ d) {x1 x2 : Int} {M : MM} (hM : LM M) {V : VV} {o : AV × MM} {P : (Int) → Prop} (r0 : ∀ r : Int, P r → o = ((0, r), (wr M V))) {z : Int} (h : f_X16_bit x1 x2 V = some z) (hz : P z) : Sem g d YX16_bit 0 [(1, 156), (0, x1), (0, x2)] [] (wr M V) o := by
  delta f_X16_bit at h
  refine S_aload_n (i := 0) dX16_bit_0 rfl rfl ?_
  refine P2_gfl hM FLX16_574 rfl dX16_bit_1 ?_
  refine S_iload_n (i := 1) dX16_bit_4 rfl rfl ?_
  refine S_i2l dX16_bit_5 ?_
  refine S_aload_n (i := 0) dX16_bit_6 rfl rfl ?_
  refine P2_gfl hM FLX16_578 rfl dX16_bit_7 ?_
  refine S_lmul dX16_bit_10 ?_
  refine S_ladd dX16_bit_11 ?_
  refine S_ldc2 (z := 8) kX16_581 dX16_bit_12 ?_
  refine S_iload_n (i := 2) dX16_bit_15 rfl rfl ?_
  refine S_i2l dX16_bit_16 ?_
  refine S_lmul dX16_bit_17 ?_
  refine P_rml dX16_bit_18 h (fun v1 h => ?_)
  refine S_l2i dX16_bit_19 ?_
  obtain rfl := r0 _ (some_P (P := fun r => P r) h hz)
  exact P_ret dX16_bit_20 rfl (Or.inl rfl)
theorem F_X16_bit {g : GG} {d : Nat} (hD : 0 ≤ d) {x1 x2 : Int} {M : MM} (hM : LM M) {V : VV} {r : Int} (h : f_X16_bit x1 x2 V = some r) : Sem g d YX16_bit 0 (ini YX16_bit [(1, 156), (0, x1), (0, x2)]) [] (wr M V) ((0, r), (wr M V)) := by
  change Sem g d YX16_bit 0 [(1, 156), (0, x1), (0, x2)] [] (wr M V) ((0, r), (wr M V))
  exact s_X16_bit_0 hD hM (P := fun x => x = r) (fun q e => by rw [e]) h rfl
/-! PeerSearchModel.hashPosting(II)V -/
theorem dX16_hashPosting_0 : decode cX16_hashPosting 0 = .ok (.aload_n 0, 1) := by decide +kernel
theorem dX16_hashPosting_1 : decode cX16_hashPosting 1 = .ok (.getfield 16, 3) := by decide +kernel
theorem dX16_hashPosting_4 : decode cX16_hashPosting 4 = .ok (.iconst 0, 1) := by decide +kernel
theorem dX16_hashPosting_5 : decode cX16_hashPosting 5 = .ok (.iload_n 1, 1) := by decide +kernel
theorem dX16_hashPosting_6 : decode cX16_hashPosting 6 = .ok (.iastore, 1) := by decide +kernel
theorem dX16_hashPosting_7 : decode cX16_hashPosting 7 = .ok (.aload_n 0, 1) := by decide +kernel
theorem dX16_hashPosting_8 : decode cX16_hashPosting 8 = .ok (.getfield 16, 3) := by decide +kernel
theorem dX16_hashPosting_11 : decode cX16_hashPosting 11 = .ok (.iconst 1, 1) := by decide +kernel
theorem dX16_hashPosting_12 : decode cX16_hashPosting 12 = .ok (.iload_n 2, 1) := by decide +kernel
theorem dX16_hashPosting_13 : decode cX16_hashPosting 13 = .ok (.iastore, 1) := by decide +kernel
theorem dX16_hashPosting_14 : decode cX16_hashPosting 14 = .ok (.aload_n 0, 1) := by decide +kernel
theorem dX16_hashPosting_15 : decode cX16_hashPosting 15 = .ok (.iconst 2, 1) := by decide +kernel
theorem dX16_hashPosting_16 : decode cX16_hashPosting 16 = .ok (.invokevirtual 407, 3) := by decide +kernel
theorem dX16_hashPosting_19 : decode cX16_hashPosting 19 = .ok (.aload_n 0, 1) := by decide +kernel
theorem dX16_hashPosting_20 : decode cX16_hashPosting 20 = .ok (.aload_n 0, 1) := by decide +kernel
theorem dX16_hashPosting_21 : decode cX16_hashPosting 21 = .ok (.getfield 22, 3) := by decide +kernel
theorem dX16_hashPosting_24 : decode cX16_hashPosting 24 = .ok (.iconst 0, 1) := by decide +kernel
theorem dX16_hashPosting_25 : decode cX16_hashPosting 25 = .ok (.iaload, 1) := by decide +kernel
theorem dX16_hashPosting_26 : decode cX16_hashPosting 26 = .ok (.i2l, 1) := by decide +kernel
theorem dX16_hashPosting_27 : decode cX16_hashPosting 27 = .ok (.ldc2_w 572, 3) := by decide +kernel
theorem dX16_hashPosting_30 : decode cX16_hashPosting 30 = .ok (.land, 1) := by decide +kernel
theorem dX16_hashPosting_31 : decode cX16_hashPosting 31 = .ok (.putfield 574, 3) := by decide +kernel
theorem dX16_hashPosting_34 : decode cX16_hashPosting 34 = .ok (.aload_n 0, 1) := by decide +kernel
theorem dX16_hashPosting_35 : decode cX16_hashPosting 35 = .ok (.aload_n 0, 1) := by decide +kernel
theorem dX16_hashPosting_36 : decode cX16_hashPosting 36 = .ok (.getfield 22, 3) := by decide +kernel
theorem dX16_hashPosting_39 : decode cX16_hashPosting 39 = .ok (.iconst 1, 1) := by decide +kernel
theorem dX16_hashPosting_40 : decode cX16_hashPosting 40 = .ok (.iaload, 1) := by decide +kernel
theorem dX16_hashPosting_41 : decode cX16_hashPosting 41 = .ok (.i2l, 1) := by decide +kernel
theorem dX16_hashPosting_42 : decode cX16_hashPosting 42 = .ok (.ldc2_w 572, 3) := by decide +kernel
theorem dX16_hashPosting_45 : decode cX16_hashPosting 45 = .ok (.land, 1) := by decide +kernel
theorem dX16_hashPosting_46 : decode cX16_hashPosting 46 = .ok (.putfield 578, 3) := by decide +kernel
theorem dX16_hashPosting_49 : decode cX16_hashPosting 49 = .ok (.return_, 1) := by decide +kernel
def f_X16_hashPosting (x1 x2 : Int) (V : VV) : Option (VV) :=
  (s2 159 576 0 x1 V).bind fun V1 =>
  (s2 159 576 1 x2 V1).bind fun V2 =>
  (f_X16_sha 2 V2).bind fun V3 =>
  (l2 161 5 0 V3).bind fun v1 =>
  (p2 81 (lnd (w32 v1) 4294967295) V3).bind fun V4 =>
  (l2 161 5 1 V4).bind fun v2 =>
  (p2 82 (lnd (w32 v2) 4294967295) V4).bind fun V5 =>
  some V5
theorem s_X16_hashPosting_0 {g : GG} {d : Nat} (hD : 3 ≤ d) {x1 x2 : Int} {M : MM} (hM : LM M) {V : VV} {o : AV × MM} {P : (VV) → Prop} (r0 : ∀ r : VV, P r → o = ((9, 0), (wr M r))) {z : VV} (h : f_X16_hashPosting x1 x2 V = some z) (hz : P z) : Sem g d YX16_hashPosting 0 [(1, 156), (0, x1), (0, x2)] [] (wr M V) o := by
  delta f_X16_hashPosting at h
  refine S_aload_n (i := 0) dX16_hashPosting_0 rfl rfl ?_
  refine P2_gfr hM (a := 159) FLX16_16 rfl ⟨rfl, rfl⟩ dX16_hashPosting_1 ?_
  refine S_iconst dX16_hashPosting_4 rfl ?_
  refine S_iload_n (i := 1) dX16_hashPosting_5 rfl rfl ?_
  refine P2_sai hM (a := 159) (n := 576) rfl dX16_hashPosting_6 h (fun V1 h => ?_)
  refine S_aload_n (i := 0) dX16_hashPosting_7 rfl rfl ?_
  refine P2_gfr hM (a := 159) FLX16_16 rfl ⟨rfl, rfl⟩ dX16_hashPosting_8 ?_
  refine S_iconst dX16_hashPosting_11 rfl ?_
  refine S_iload_n (i := 2) dX16_hashPosting_12 rfl rfl ?_
  refine P2_sai hM (a := 159) (n := 576) rfl dX16_hashPosting_13 h (fun V2 h => ?_)
  refine S_aload_n (i := 0) dX16_hashPosting_14 rfl rfl ?_
  refine S_iconst dX16_hashPosting_15 rfl ?_
  refine P2_invVm hM [(0, 2)] [] CVX16_sha MLX16_407 dX16_hashPosting_16 rfl rfl rfl rfl (by omega) h (fun r h => F_X16_sha (by omega) hM h) (fun V3 h => ?_)
  refine S_aload_n (i := 0) dX16_hashPosting_19 rfl rfl ?_
  refine S_aload_n (i := 0) dX16_hashPosting_20 rfl rfl ?_
  refine P2_gfr hM (a := 161) FLX16_22 rfl ⟨rfl, rfl⟩ dX16_hashPosting_21 ?_
  refine S_iconst dX16_hashPosting_24 rfl ?_
  refine P2_lai hM (a := 161) (n := 5) rfl dX16_hashPosting_25 h (fun v1 h => ?_)
  refine S_i2l dX16_hashPosting_26 ?_
  refine S_ldc2 (z := 4294967295) kX16_572 dX16_hashPosting_27 ?_
  refine S_land dX16_hashPosting_30 ?_
  refine P2_pfl hM FLX16_574 FPX16_574 rfl dX16_hashPosting_31 h (fun V4 h => ?_)
  refine S_aload_n (i := 0) dX16_hashPosting_34 rfl rfl ?_
  refine S_aload_n (i := 0) dX16_hashPosting_35 rfl rfl ?_
  refine P2_gfr hM (a := 161) FLX16_22 rfl ⟨rfl, rfl⟩ dX16_hashPosting_36 ?_
  refine S_iconst dX16_hashPosting_39 rfl ?_
  refine P2_lai hM (a := 161) (n := 5) rfl dX16_hashPosting_40 h (fun v2 h => ?_)
  refine S_i2l dX16_hashPosting_41 ?_
  refine S_ldc2 (z := 4294967295) kX16_572 dX16_hashPosting_42 ?_
  refine S_land dX16_hashPosting_45 ?_
  refine P2_pfl hM FLX16_578 FPX16_578 rfl dX16_hashPosting_46 h (fun V5 h => ?_)
  obtain rfl := r0 _ (some_P (P := fun r => P r) h hz)
  exact S_return dX16_hashPosting_49 rfl
theorem F_X16_hashPosting {g : GG} {d : Nat} (hD : 3 ≤ d) {x1 x2 : Int} {M : MM} (hM : LM M) {V : VV} {r : VV} (h : f_X16_hashPosting x1 x2 V = some r) : Sem g d YX16_hashPosting 0 (ini YX16_hashPosting [(1, 156), (0, x1), (0, x2)]) [] (wr M V) ((9, 0), (wr M r)) := by
  change Sem g d YX16_hashPosting 0 [(1, 156), (0, x1), (0, x2)] [] (wr M V) ((9, 0), (wr M r))
  exact s_X16_hashPosting_0 hD hM (P := fun x => x = r) (fun q e => by rw [e]) h rfl
/-! PeerSearchModel.matches(I)Z -/
theorem dX16_matches_0 : decode cX16_matches 0 = .ok (.aload_n 0, 1) := by decide +kernel
theorem dX16_matches_1 : decode cX16_matches 1 = .ok (.getfield 586, 3) := by decide +kernel
theorem dX16_matches_4 : decode cX16_matches 4 = .ok (.ifCond .ne 5, 3) := by decide +kernel
theorem dX16_matches_7 : decode cX16_matches 7 = .ok (.iconst 1, 1) := by decide +kernel
theorem dX16_matches_8 : decode cX16_matches 8 = .ok (.ireturn, 1) := by decide +kernel
theorem dX16_matches_9 : decode cX16_matches 9 = .ok (.aload_n 0, 1) := by decide +kernel
theorem dX16_matches_10 : decode cX16_matches 10 = .ok (.aload_n 0, 1) := by decide +kernel
theorem dX16_matches_11 : decode cX16_matches 11 = .ok (.getfield 183, 3) := by decide +kernel
theorem dX16_matches_14 : decode cX16_matches 14 = .ok (.iload_n 1, 1) := by decide +kernel
theorem dX16_matches_15 : decode cX16_matches 15 = .ok (.iaload, 1) := by decide +kernel
theorem dX16_matches_16 : decode cX16_matches 16 = .ok (.aload_n 0, 1) := by decide +kernel
theorem dX16_matches_17 : decode cX16_matches 17 = .ok (.getfield 186, 3) := by decide +kernel
theorem dX16_matches_20 : decode cX16_matches 20 = .ok (.iload_n 1, 1) := by decide +kernel
theorem dX16_matches_21 : decode cX16_matches 21 = .ok (.iaload, 1) := by decide +kernel
theorem dX16_matches_22 : decode cX16_matches 22 = .ok (.invokevirtual 589, 3) := by decide +kernel
theorem dX16_matches_25 : decode cX16_matches 25 = .ok (.iconst 1, 1) := by decide +kernel
theorem dX16_matches_26 : decode cX16_matches 26 = .ok (.istore_n 2, 1) := by decide +kernel
theorem dX16_matches_27 : decode cX16_matches 27 = .ok (.iconst 0, 1) := by decide +kernel
theorem dX16_matches_28 : decode cX16_matches 28 = .ok (.istore_n 3, 1) := by decide +kernel
theorem dX16_matches_29 : decode cX16_matches 29 = .ok (.iload_n 3, 1) := by decide +kernel
theorem dX16_matches_30 : decode cX16_matches 30 = .ok (.aload_n 0, 1) := by decide +kernel
theorem dX16_matches_31 : decode cX16_matches 31 = .ok (.getfield 583, 3) := by decide +kernel
theorem dX16_matches_34 : decode cX16_matches 34 = .ok (.if_icmp .ge 52, 3) := by decide +kernel
theorem dX16_matches_37 : decode cX16_matches 37 = .ok (.aload_n 0, 1) := by decide +kernel
theorem dX16_matches_38 : decode cX16_matches 38 = .ok (.iload_n 3, 1) := by decide +kernel
theorem dX16_matches_39 : decode cX16_matches 39 = .ok (.aload_n 0, 1) := by decide +kernel
theorem dX16_matches_40 : decode cX16_matches 40 = .ok (.getfield 586, 3) := by decide +kernel
theorem dX16_matches_43 : decode cX16_matches 43 = .ok (.invokevirtual 592, 3) := by decide +kernel
theorem dX16_matches_46 : decode cX16_matches 46 = .ok (.istore 4, 2) := by decide +kernel
theorem dX16_matches_48 : decode cX16_matches 48 = .ok (.iload_n 2, 1) := by decide +kernel
theorem dX16_matches_49 : decode cX16_matches 49 = .ok (.ifCond .eq 29, 3) := by decide +kernel
theorem dX16_matches_52 : decode cX16_matches 52 = .ok (.aload_n 0, 1) := by decide +kernel
theorem dX16_matches_53 : decode cX16_matches 53 = .ok (.getfield 207, 3) := by decide +kernel
theorem dX16_matches_56 : decode cX16_matches 56 = .ok (.iload 4, 2) := by decide +kernel
theorem dX16_matches_58 : decode cX16_matches 58 = .ok (.bipush 8, 2) := by decide +kernel
theorem dX16_matches_60 : decode cX16_matches 60 = .ok (.idiv, 1) := by decide +kernel
theorem dX16_matches_61 : decode cX16_matches 61 = .ok (.iaload, 1) := by decide +kernel
theorem dX16_matches_62 : decode cX16_matches 62 = .ok (.iload 4, 2) := by decide +kernel
theorem dX16_matches_64 : decode cX16_matches 64 = .ok (.bipush 8, 2) := by decide +kernel
theorem dX16_matches_66 : decode cX16_matches 66 = .ok (.irem, 1) := by decide +kernel
theorem dX16_matches_67 : decode cX16_matches 67 = .ok (.ishr, 1) := by decide +kernel
theorem dX16_matches_68 : decode cX16_matches 68 = .ok (.iconst 1, 1) := by decide +kernel
theorem dX16_matches_69 : decode cX16_matches 69 = .ok (.iand, 1) := by decide +kernel
theorem dX16_matches_70 : decode cX16_matches 70 = .ok (.iconst 1, 1) := by decide +kernel
theorem dX16_matches_71 : decode cX16_matches 71 = .ok (.if_icmp .ne 7, 3) := by decide +kernel
theorem dX16_matches_74 : decode cX16_matches 74 = .ok (.iconst 1, 1) := by decide +kernel
theorem dX16_matches_75 : decode cX16_matches 75 = .ok (.goto 4, 3) := by decide +kernel
theorem dX16_matches_78 : decode cX16_matches 78 = .ok (.iconst 0, 1) := by decide +kernel
theorem dX16_matches_79 : decode cX16_matches 79 = .ok (.istore_n 2, 1) := by decide +kernel
theorem dX16_matches_80 : decode cX16_matches 80 = .ok (.iinc 3 1, 3) := by decide +kernel
theorem dX16_matches_83 : decode cX16_matches 83 = .ok (.goto (-54), 3) := by decide +kernel
theorem dX16_matches_86 : decode cX16_matches 86 = .ok (.iload_n 2, 1) := by decide +kernel
theorem dX16_matches_87 : decode cX16_matches 87 = .ok (.ireturn, 1) := by decide +kernel
def j_X16_matches_79 (x3 y0 : Int) (V : VV) : Option ((Int × Int) ⊕ (Int × VV)) :=
  cnt (y0, x3 + 1)
def j_X16_matches_78 (x3 : Int) (V : VV) : Option ((Int × Int) ⊕ (Int × VV)) :=
  j_X16_matches_79 x3 0 V
def b_X16_matches_29 (x2 x3 : Int) (V : VV) : Option ((Int × Int) ⊕ (Int × VV)) :=
  if w32 x3 < w32 (w32 (V 156 79)) then
    (f_X16_bit x3 (w32 (V 156 78)) V).bind fun v1 =>
    if w32 x2 = 0 then
      j_X16_matches_78 x3 V
    else
      (dvi v1 8).bind fun v2 =>
      (l2 220 290 v2 V).bind fun v3 =>
      (rmi v1 8).bind fun v4 =>
      if w32 (band (bshr v3 v4) 1) = w32 1 then
        j_X16_matches_79 x3 1 V
      else
        j_X16_matches_78 x3 V
  else
    xit (bz x2 (some (x2, V)))
def l_X16_matches_29 (x2 x3 : Int) (V : VV) : Option (Int × VV) := lpN (fun s : Int × Int => b_X16_matches_29 s.1 s.2 V) FU (x2, x3)
def f_X16_matches (x1 : Int) (V : VV) : Option (Int × VV) :=
  if w32 (w32 (V 156 78)) = 0 then
    some (1, V)
  else
    (l2 212 6400 x1 V).bind fun v1 =>
    (l2 213 6400 x1 V).bind fun v2 =>
    (f_X16_hashPosting v1 v2 V).bind fun V1 =>
    l_X16_matches_29 1 0 V1
theorem s_X16_matches_79 {g : GG} {d : Nat} (hD : 4 ≤ d) {x3 y0 : Int} {M : MM} (hM : LM M) {V : VV} {o : AV × MM} {P : ((Int × Int) ⊕ (Int × VV)) → Prop} (c0 : ∀ s : Int × Int, P (.inl s) → Sem g d YX16_matches 29 [(1, 156), (9, 0), (0, s.1), (0, s.2), (9, 0)] [] (wr M V) o) (r0 : ∀ r : Int × VV, P (.inr r) → o = ((0, r.1), (wr M r.2))) {z : (Int × Int) ⊕ (Int × VV)} (h : j_X16_matches_79 x3 y0 V = some z) (hz : P z) : Sem g d YX16_matches 79 [(1, 156), (9, 0), (9, 0), (0, x3), (9, 0)] [(0, y0)] (wr M V) o := by
  delta j_X16_matches_79 at h
  refine S_istore_n (i := 2) dX16_matches_79 rfl (Nat.le_of_ble_eq_true rfl) rfl rfl ?_
  change Sem g d YX16_matches 80 [(1, 156), (9, 0), (0, y0), (0, x3), (9, 0)] [] (wr M V) o
  refine S_iinc dX16_matches_80 rfl rfl rfl ?_
  change Sem g d YX16_matches 83 [(1, 156), (9, 0), (0, y0), (0, x3 + 1), (9, 0)] [] (wr M V) o
  refine S_goto (tgt := 29) dX16_matches_83 rfl ?_
  exact c0 (y0, x3 + 1) (some_P (P := fun r => P r) h hz)
theorem s_X16_matches_78 {g : GG} {d : Nat} (hD : 4 ≤ d) {x3 : Int} {M : MM} (hM : LM M) {V : VV} {o : AV × MM} {P : ((Int × Int) ⊕ (Int × VV)) → Prop} (c0 : ∀ s : Int × Int, P (.inl s) → Sem g d YX16_matches 29 [(1, 156), (9, 0), (0, s.1), (0, s.2), (9, 0)] [] (wr M V) o) (r0 : ∀ r : Int × VV, P (.inr r) → o = ((0, r.1), (wr M r.2))) {z : (Int × Int) ⊕ (Int × VV)} (h : j_X16_matches_78 x3 V = some z) (hz : P z) : Sem g d YX16_matches 78 [(1, 156), (9, 0), (9, 0), (0, x3), (9, 0)] [] (wr M V) o := by
  delta j_X16_matches_78 at h
  refine S_iconst dX16_matches_78 rfl ?_
  exact s_X16_matches_79 hD hM c0 r0 h hz
theorem s_X16_matches_29 {g : GG} {d : Nat} (hD : 4 ≤ d) {x2 x3 : Int} {M : MM} (hM : LM M) {V : VV} {o : AV × MM} {P : ((Int × Int) ⊕ (Int × VV)) → Prop} (c0 : ∀ s : Int × Int, P (.inl s) → Sem g d YX16_matches 29 [(1, 156), (9, 0), (0, s.1), (0, s.2), (9, 0)] [] (wr M V) o) (r0 : ∀ r : Int × VV, P (.inr r) → o = ((0, r.1), (wr M r.2))) {z : (Int × Int) ⊕ (Int × VV)} (h : b_X16_matches_29 x2 x3 V = some z) (hz : P z) : Sem g d YX16_matches 29 [(1, 156), (9, 0), (0, x2), (0, x3), (9, 0)] [] (wr M V) o := by
  delta b_X16_matches_29 at h
  refine S_iload_n (i := 3) dX16_matches_29 rfl rfl ?_
  refine S_aload_n (i := 0) dX16_matches_30 rfl rfl ?_
  refine P2_gfi hM FLX16_583 rfl dX16_matches_31 ?_
  refine P_icmp_ge (tgt := 86) dX16_matches_34 rfl h (fun h => ?_) (fun h => ?_)
  · obtain ⟨z0, h, hz⟩ := xit_some' (P := fun r => P r) h hz
    refine S_iload_n (i := 2) dX16_matches_86 rfl rfl ?_
    obtain ⟨hb, h⟩ := bz_some h
    obtain rfl := r0 _ (some_P (P := fun r => P (.inr r)) h hz)
    exact P_ret dX16_matches_87 rfl (Or.inr ⟨rfl, hb⟩)
  · refine S_aload_n (i := 0) dX16_matches_37 rfl rfl ?_
    refine S_iload_n (i := 3) dX16_matches_38 rfl rfl ?_
    refine S_aload_n (i := 0) dX16_matches_39 rfl rfl ?_
    refine P2_gfi hM FLX16_586 rfl dX16_matches_40 ?_
    refine P2_invVp hM 0 [(0, x3), (0, w32 (V 156 78))] [] CVX16_bit MLX16_592 dX16_matches_43 rfl rfl rfl rfl rfl (by omega) h (fun r h => F_X16_bit (by omega) hM h) (fun v1 h => ?_)
    refine S_istore dX16_matches_46 (Nat.le_of_ble_eq_true rfl) rfl rfl ?_
    change Sem g d YX16_matches 48 [(1, 156), (9, 0), (0, x2), (0, x3), (0, v1)] [] (wr M V) o
    refine S_iload_n (i := 2) dX16_matches_48 rfl rfl ?_
    refine P_if_eq (tgt := 78) dX16_matches_49 rfl h (fun h => ?_) (fun h => ?_)
    · refine S_weak (ls' := [(1, 156), (9, 0), (9, 0), (0, x3), (9, 0)]) ⟨Or.inr rfl, ⟨Or.inl rfl, ⟨Or.inl rfl, ⟨Or.inr rfl, ⟨Or.inl rfl, trivial⟩⟩⟩⟩⟩ ?_
      exact s_X16_matches_78 hD hM c0 r0 h hz
    · refine S_aload_n (i := 0) dX16_matches_52 rfl rfl ?_
      refine P2_gfr hM (a := 220) FLX16_207 rfl ⟨rfl, rfl⟩ dX16_matches_53 ?_
      refine S_iload dX16_matches_56 rfl ?_
      refine S_bipush (z := 8) dX16_matches_58 rfl ?_
      refine P_dvi dX16_matches_60 h (fun v2 h => ?_)
      refine P2_lai hM (a := 220) (n := 290) rfl dX16_matches_61 h (fun v3 h => ?_)
      refine S_iload dX16_matches_62 rfl ?_
      refine S_bipush (z := 8) dX16_matches_64 rfl ?_
      refine P_rmi dX16_matches_66 h (fun v4 h => ?_)
      refine S_ishr dX16_matches_67 ?_
      refine S_iconst dX16_matches_68 rfl ?_
      refine S_iand dX16_matches_69 ?_
      refine S_iconst dX16_matches_70 rfl ?_
      refine P_icmp_ne (tgt := 78) dX16_matches_71 rfl h (fun h => ?_) (fun h => ?_)
      · refine S_weak (ls' := [(1, 156), (9, 0), (9, 0), (0, x3), (9, 0)]) ⟨Or.inr rfl, ⟨Or.inl rfl, ⟨Or.inl rfl, ⟨Or.inr rfl, ⟨Or.inl rfl, trivial⟩⟩⟩⟩⟩ ?_
        exact s_X16_matches_78 hD hM c0 r0 h hz
      · refine S_iconst dX16_matches_74 rfl ?_
        refine S_goto (tgt := 79) dX16_matches_75 rfl ?_
        refine S_weak (ls' := [(1, 156), (9, 0), (9, 0), (0, x3), (9, 0)]) ⟨Or.inr rfl, ⟨Or.inl rfl, ⟨Or.inl rfl, ⟨Or.inr rfl, ⟨Or.inl rfl, trivial⟩⟩⟩⟩⟩ ?_
        exact s_X16_matches_79 hD hM c0 r0 h hz
theorem sl_X16_matches_29 {g : GG} {d : Nat} (hD : 4 ≤ d) {x2 x3 : Int} {M : MM} (hM : LM M) {V : VV} {o : AV × MM} {P : (Int × VV) → Prop} (r0 : ∀ r : Int × VV, P r → o = ((0, r.1), (wr M r.2))) {z : Int × VV} (h : l_X16_matches_29 x2 x3 V = some z) (hz : P z) : Sem g d YX16_matches 29 [(1, 156), (9, 0), (0, x2), (0, x3), (9, 0)] [] (wr M V) o := by
  refine lp_sound (S := fun s : Int × Int => Sem g d YX16_matches 29 [(1, 156), (9, 0), (0, s.1), (0, s.2), (9, 0)] [] (wr M V) o) (P := P) ?_ FU (x2, x3) z h hz
  intro s x hx hP
  exact s_X16_matches_29 hD hM (P := Sum.elim (fun s : Int × Int => Sem g d YX16_matches 29 [(1, 156), (9, 0), (0, s.1), (0, s.2), (9, 0)] [] (wr M V) o) P) (fun s h => h) (fun s h => r0 s h) hx hP
theorem s_X16_matches_0 {g : GG} {d : Nat} (hD : 4 ≤ d) {x1 : Int} {M : MM} (hM : LM M) {V : VV} {o : AV × MM} {P : (Int × VV) → Prop} (r0 : ∀ r : Int × VV, P r → o = ((0, r.1), (wr M r.2))) {z : Int × VV} (h : f_X16_matches x1 V = some z) (hz : P z) : Sem g d YX16_matches 0 [(1, 156), (0, x1), (9, 0), (9, 0), (9, 0)] [] (wr M V) o := by
  delta f_X16_matches at h
  refine S_aload_n (i := 0) dX16_matches_0 rfl rfl ?_
  refine P2_gfi hM FLX16_586 rfl dX16_matches_1 ?_
  refine P_if_ne (tgt := 9) dX16_matches_4 rfl h (fun h => ?_) (fun h => ?_)
  · refine S_aload_n (i := 0) dX16_matches_9 rfl rfl ?_
    refine S_aload_n (i := 0) dX16_matches_10 rfl rfl ?_
    refine P2_gfr hM (a := 212) FLX16_183 rfl ⟨rfl, rfl⟩ dX16_matches_11 ?_
    refine S_iload_n (i := 1) dX16_matches_14 rfl rfl ?_
    refine P2_lai hM (a := 212) (n := 6400) rfl dX16_matches_15 h (fun v1 h => ?_)
    refine S_aload_n (i := 0) dX16_matches_16 rfl rfl ?_
    refine P2_gfr hM (a := 213) FLX16_186 rfl ⟨rfl, rfl⟩ dX16_matches_17 ?_
    refine S_iload_n (i := 1) dX16_matches_20 rfl rfl ?_
    refine P2_lai hM (a := 213) (n := 6400) rfl dX16_matches_21 h (fun v2 h => ?_)
    refine P2_invVm hM [(0, v1), (0, v2)] [] CVX16_hashPosting MLX16_589 dX16_matches_22 rfl rfl rfl rfl (by omega) h (fun r h => F_X16_hashPosting (by omega) hM h) (fun V1 h => ?_)
    refine S_iconst dX16_matches_25 rfl ?_
    refine S_istore_n (i := 2) dX16_matches_26 rfl (Nat.le_of_ble_eq_true rfl) rfl rfl ?_
    change Sem g d YX16_matches 27 [(1, 156), (0, x1), (0, 1), (9, 0), (9, 0)] [] (wr M V1) o
    refine S_iconst dX16_matches_27 rfl ?_
    refine S_istore_n (i := 3) dX16_matches_28 rfl (Nat.le_of_ble_eq_true rfl) rfl rfl ?_
    change Sem g d YX16_matches 29 [(1, 156), (0, x1), (0, 1), (0, 0), (9, 0)] [] (wr M V1) o
    refine S_weak (ls' := [(1, 156), (9, 0), (0, 1), (0, 0), (9, 0)]) ⟨Or.inr rfl, ⟨Or.inl rfl, ⟨Or.inr rfl, ⟨Or.inr rfl, ⟨Or.inl rfl, trivial⟩⟩⟩⟩⟩ ?_
    exact sl_X16_matches_29 hD hM r0 h hz
  · refine S_iconst dX16_matches_7 rfl ?_
    obtain rfl := r0 _ (some_P (P := fun r => P r) h hz)
    exact P_ret dX16_matches_8 rfl (Or.inr ⟨rfl, Or.inr rfl⟩)
theorem F_X16_matches {g : GG} {d : Nat} (hD : 4 ≤ d) {x1 : Int} {M : MM} (hM : LM M) {V : VV} {r : Int × VV} (h : f_X16_matches x1 V = some r) : Sem g d YX16_matches 0 (ini YX16_matches [(1, 156), (0, x1)]) [] (wr M V) ((0, r.1), (wr M r.2)) := by
  change Sem g d YX16_matches 0 [(1, 156), (0, x1), (9, 0), (9, 0), (9, 0)] [] (wr M V) ((0, r.1), (wr M r.2))
  exact s_X16_matches_0 hD hM (P := fun x => x = r) (fun q e => by rw [e]) h rfl
/-! PeerSearchModel.findMatches(I[III)V -/
theorem dX16_findMatches_0 : decode cX16_findMatches 0 = .ok (.aload_n 0, 1) := by decide +kernel
theorem dX16_findMatches_1 : decode cX16_findMatches 1 = .ok (.iload_n 1, 1) := by decide +kernel
theorem dX16_findMatches_2 : decode cX16_findMatches 2 = .ok (.aload_n 2, 1) := by decide +kernel
theorem dX16_findMatches_3 : decode cX16_findMatches 3 = .ok (.iload_n 3, 1) := by decide +kernel
theorem dX16_findMatches_4 : decode cX16_findMatches 4 = .ok (.invokevirtual 598, 3) := by decide +kernel
theorem dX16_findMatches_7 : decode cX16_findMatches 7 = .ok (.aload_n 0, 1) := by decide +kernel
theorem dX16_findMatches_8 : decode cX16_findMatches 8 = .ok (.iconst 0, 1) := by decide +kernel
theorem dX16_findMatches_9 : decode cX16_findMatches 9 = .ok (.putfield 595, 3) := by decide +kernel
theorem dX16_findMatches_12 : decode cX16_findMatches 12 = .ok (.aload_n 0, 1) := by decide +kernel
theorem dX16_findMatches_13 : decode cX16_findMatches 13 = .ok (.iconst 0, 1) := by decide +kernel
theorem dX16_findMatches_14 : decode cX16_findMatches 14 = .ok (.putfield 602, 3) := by decide +kernel
theorem dX16_findMatches_17 : decode cX16_findMatches 17 = .ok (.iconst 0, 1) := by decide +kernel
theorem dX16_findMatches_18 : decode cX16_findMatches 18 = .ok (.istore 5, 2) := by decide +kernel
theorem dX16_findMatches_20 : decode cX16_findMatches 20 = .ok (.iconst 0, 1) := by decide +kernel
theorem dX16_findMatches_21 : decode cX16_findMatches 21 = .ok (.istore 6, 2) := by decide +kernel
theorem dX16_findMatches_23 : decode cX16_findMatches 23 = .ok (.iload 6, 2) := by decide +kernel
theorem dX16_findMatches_25 : decode cX16_findMatches 25 = .ok (.aload_n 0, 1) := by decide +kernel
theorem dX16_findMatches_26 : decode cX16_findMatches 26 = .ok (.getfield 559, 3) := by decide +kernel
theorem dX16_findMatches_29 : decode cX16_findMatches 29 = .ok (.if_icmp .ge 69, 3) := by decide +kernel
theorem dX16_findMatches_32 : decode cX16_findMatches 32 = .ok (.aload_n 0, 1) := by decide +kernel
theorem dX16_findMatches_33 : decode cX16_findMatches 33 = .ok (.aload_n 0, 1) := by decide +kernel
theorem dX16_findMatches_34 : decode cX16_findMatches 34 = .ok (.getfield 195, 3) := by decide +kernel
theorem dX16_findMatches_37 : decode cX16_findMatches 37 = .ok (.iload 6, 2) := by decide +kernel
theorem dX16_findMatches_39 : decode cX16_findMatches 39 = .ok (.iaload, 1) := by decide +kernel
theorem dX16_findMatches_40 : decode cX16_findMatches 40 = .ok (.invokevirtual 606, 3) := by decide +kernel
theorem dX16_findMatches_43 : decode cX16_findMatches 43 = .ok (.ifCond .ne 6, 3) := by decide +kernel
theorem dX16_findMatches_46 : decode cX16_findMatches 46 = .ok (.goto 46, 3) := by decide +kernel
theorem dX16_findMatches_49 : decode cX16_findMatches 49 = .ok (.iinc 5 1, 3) := by decide +kernel
theorem dX16_findMatches_52 : decode cX16_findMatches 52 = .ok (.iload 5, 2) := by decide +kernel
theorem dX16_findMatches_54 : decode cX16_findMatches 54 = .ok (.iload 4, 2) := by decide +kernel
theorem dX16_findMatches_56 : decode cX16_findMatches 56 = .ok (.if_icmp .le 18, 3) := by decide +kernel
theorem dX16_findMatches_59 : decode cX16_findMatches 59 = .ok (.aload_n 0, 1) := by decide +kernel
theorem dX16_findMatches_60 : decode cX16_findMatches 60 = .ok (.getfield 595, 3) := by decide +kernel
theorem dX16_findMatches_63 : decode cX16_findMatches 63 = .ok (.bipush 30, 2) := by decide +kernel
theorem dX16_findMatches_65 : decode cX16_findMatches 65 = .ok (.if_icmp .ne 9, 3) := by decide +kernel
theorem dX16_findMatches_68 : decode cX16_findMatches 68 = .ok (.aload_n 0, 1) := by decide +kernel
theorem dX16_findMatches_69 : decode cX16_findMatches 69 = .ok (.iconst 1, 1) := by decide +kernel
theorem dX16_findMatches_70 : decode cX16_findMatches 70 = .ok (.putfield 602, 3) := by decide +kernel
theorem dX16_findMatches_73 : decode cX16_findMatches 73 = .ok (.return_, 1) := by decide +kernel
theorem dX16_findMatches_74 : decode cX16_findMatches 74 = .ok (.iload 5, 2) := by decide +kernel
theorem dX16_findMatches_76 : decode cX16_findMatches 76 = .ok (.iload 4, 2) := by decide +kernel
theorem dX16_findMatches_78 : decode cX16_findMatches 78 = .ok (.if_icmp .le 14, 3) := by decide +kernel
theorem dX16_findMatches_81 : decode cX16_findMatches 81 = .ok (.aload_n 0, 1) := by decide +kernel
theorem dX16_findMatches_82 : decode cX16_findMatches 82 = .ok (.aload_n 0, 1) := by decide +kernel
theorem dX16_findMatches_83 : decode cX16_findMatches 83 = .ok (.getfield 195, 3) := by decide +kernel
theorem dX16_findMatches_86 : decode cX16_findMatches 86 = .ok (.iload 6, 2) := by decide +kernel
theorem dX16_findMatches_88 : decode cX16_findMatches 88 = .ok (.iaload, 1) := by decide +kernel
theorem dX16_findMatches_89 : decode cX16_findMatches 89 = .ok (.invokevirtual 609, 3) := by decide +kernel
theorem dX16_findMatches_92 : decode cX16_findMatches 92 = .ok (.iinc 6 1, 3) := by decide +kernel
theorem dX16_findMatches_95 : decode cX16_findMatches 95 = .ok (.goto (-72), 3) := by decide +kernel
theorem dX16_findMatches_98 : decode cX16_findMatches 98 = .ok (.return_, 1) := by decide +kernel
def j_X16_findMatches_92 (x4 x5 x6 : Int) (V : VV) : Option ((Int × Int × VV) ⊕ (VV)) :=
  cnt (x5, x6 + 1, V)
def j_X16_findMatches_74 (x4 x5 x6 : Int) (V : VV) : Option ((Int × Int × VV) ⊕ (VV)) :=
  if w32 x4 < w32 x5 then
    (l2 216 200 x6 V).bind fun v1 =>
    (f_X16_tell v1 V).bind fun V1 =>
    j_X16_findMatches_92 x4 x5 x6 V1
  else
    j_X16_findMatches_92 x4 x5 x6 V
def b_X16_findMatches_23 (x4 x5 x6 : Int) (V : VV) : Option ((Int × Int × VV) ⊕ (VV)) :=
  if w32 x6 < w32 (w32 (V 156 72)) then
    (l2 216 200 x6 V).bind fun v1 =>
    (f_X16_matches v1 V).bind fun r1 =>
    if w32 r1.1 = 0 then
      j_X16_findMatches_92 x4 x5 x6 r1.2
    else
      if w32 x4 < w32 (x5 + 1) then
        if w32 (w32 (r1.2 156 83)) = w32 30 then
          xit ((p2z 84 1 r1.2).bind fun V1 => some V1)
        else
          j_X16_findMatches_74 x4 (x5 + 1) x6 r1.2
      else
        j_X16_findMatches_74 x4 (x5 + 1) x6 r1.2
  else
    xit (some V)
def l_X16_findMatches_23 (x4 x5 x6 : Int) (V : VV) : Option (VV) := lpN (fun s : Int × Int × VV => b_X16_findMatches_23 x4 s.1 s.2.1 s.2.2) FU (x5, x6, V)
def f_X16_findMatches (x1 x2 x3 x4 : Int) (V : VV) : Option (VV) :=
  (f_X16_choose x1 x2 x3 V).bind fun V1 =>
  (p2 83 0 V1).bind fun V2 =>
  (p2z 84 0 V2).bind fun V3 =>
  l_X16_findMatches_23 x4 0 0 V3
theorem s_X16_findMatches_92 {g : GG} {d : Nat} (hD : 5 ≤ d) {x4 x5 x6 : Int} {M : MM} (hM : LM M) {V : VV} {o : AV × MM} {P : ((Int × Int × VV) ⊕ (VV)) → Prop} (c0 : ∀ s : Int × Int × VV, P (.inl s) → Sem g d YX16_findMatches 23 [(1, 156), (9, 0), (9, 0), (9, 0), (0, x4), (0, s.1), (0, s.2.1)] [] (wr M s.2.2) o) (r0 : ∀ r : VV, P (.inr r) → o = ((9, 0), (wr M r))) {z : (Int × Int × VV) ⊕ (VV)} (h : j_X16_findMatches_92 x4 x5 x6 V = some z) (hz : P z) : Sem g d YX16_findMatches 92 [(1, 156), (9, 0), (9, 0), (9, 0), (0, x4), (0, x5), (0, x6)] [] (wr M V) o := by
  delta j_X16_findMatches_92 at h
  refine S_iinc dX16_findMatches_92 rfl rfl rfl ?_
  change Sem g d YX16_findMatches 95 [(1, 156), (9, 0), (9, 0), (9, 0), (0, x4), (0, x5), (0, x6 + 1)] [] (wr M V) o
  refine S_goto (tgt := 23) dX16_findMatches_95 rfl ?_
  exact c0 (x5, x6 + 1, V) (some_P (P := fun r => P r) h hz)
theorem s_X16_findMatches_74 {g : GG} {d : Nat} (hD : 5 ≤ d) {x4 x5 x6 : Int} {M : MM} (hM : LM M) {V : VV} {o : AV × MM} {P : ((Int × Int × VV) ⊕ (VV)) → Prop} (c0 : ∀ s : Int × Int × VV, P (.inl s) → Sem g d YX16_findMatches 23 [(1, 156), (9, 0), (9, 0), (9, 0), (0, x4), (0, s.1), (0, s.2.1)] [] (wr M s.2.2) o) (r0 : ∀ r : VV, P (.inr r) → o = ((9, 0), (wr M r))) {z : (Int × Int × VV) ⊕ (VV)} (h : j_X16_findMatches_74 x4 x5 x6 V = some z) (hz : P z) : Sem g d YX16_findMatches 74 [(1, 156), (9, 0), (9, 0), (9, 0), (0, x4), (0, x5), (0, x6)] [] (wr M V) o := by
  delta j_X16_findMatches_74 at h
  refine S_iload dX16_findMatches_74 rfl ?_
  refine S_iload dX16_findMatches_76 rfl ?_
  refine P_icmp_le (tgt := 92) dX16_findMatches_78 rfl h (fun h => ?_) (fun h => ?_)
  · exact s_X16_findMatches_92 hD hM c0 r0 h hz
  · refine S_aload_n (i := 0) dX16_findMatches_81 rfl rfl ?_
    refine S_aload_n (i := 0) dX16_findMatches_82 rfl rfl ?_
    refine P2_gfr hM (a := 216) FLX16_195 rfl ⟨rfl, rfl⟩ dX16_findMatches_83 ?_
    refine S_iload dX16_findMatches_86 rfl ?_
    refine P2_lai hM (a := 216) (n := 200) rfl dX16_findMatches_88 h (fun v1 h => ?_)
    refine P2_invVm hM [(0, v1)] [] CVX16_tell MLX16_609 dX16_findMatches_89 rfl rfl rfl rfl (by omega) h (fun r h => F_X16_tell (by omega) hM h) (fun V1 h => ?_)
    exact s_X16_findMatches_92 hD hM c0 r0 h hz
theorem s_X16_findMatches_23 {g : GG} {d : Nat} (hD : 5 ≤ d) {x4 x5 x6 : Int} {M : MM} (hM : LM M) {V : VV} {o : AV × MM} {P : ((Int × Int × VV) ⊕ (VV)) → Prop} (c0 : ∀ s : Int × Int × VV, P (.inl s) → Sem g d YX16_findMatches 23 [(1, 156), (9, 0), (9, 0), (9, 0), (0, x4), (0, s.1), (0, s.2.1)] [] (wr M s.2.2) o) (r0 : ∀ r : VV, P (.inr r) → o = ((9, 0), (wr M r))) {z : (Int × Int × VV) ⊕ (VV)} (h : b_X16_findMatches_23 x4 x5 x6 V = some z) (hz : P z) : Sem g d YX16_findMatches 23 [(1, 156), (9, 0), (9, 0), (9, 0), (0, x4), (0, x5), (0, x6)] [] (wr M V) o := by
  delta b_X16_findMatches_23 at h
  refine S_iload dX16_findMatches_23 rfl ?_
  refine S_aload_n (i := 0) dX16_findMatches_25 rfl rfl ?_
  refine P2_gfi hM FLX16_559 rfl dX16_findMatches_26 ?_
  refine P_icmp_ge (tgt := 98) dX16_findMatches_29 rfl h (fun h => ?_) (fun h => ?_)
  · obtain ⟨z0, h, hz⟩ := xit_some' (P := fun r => P r) h hz
    obtain rfl := r0 _ (some_P (P := fun r => P (.inr r)) h hz)
    exact S_return dX16_findMatches_98 rfl
  · refine S_aload_n (i := 0) dX16_findMatches_32 rfl rfl ?_
    refine S_aload_n (i := 0) dX16_findMatches_33 rfl rfl ?_
    refine P2_gfr hM (a := 216) FLX16_195 rfl ⟨rfl, rfl⟩ dX16_findMatches_34 ?_
    refine S_iload dX16_findMatches_37 rfl ?_
    refine P2_lai hM (a := 216) (n := 200) rfl dX16_findMatches_39 h (fun v1 h => ?_)
    refine P2_invVe hM 0 [(0, v1)] [] CVX16_matches MLX16_606 dX16_findMatches_40 rfl rfl rfl rfl rfl (by omega) h (fun r h => F_X16_matches (by omega) hM h) (fun r1 h => ?_)
    refine P_if_ne (tgt := 49) dX16_findMatches_43 rfl h (fun h => ?_) (fun h => ?_)
    · refine S_iinc dX16_findMatches_49 rfl rfl rfl ?_
      change Sem g d YX16_findMatches 52 [(1, 156), (9, 0), (9, 0), (9, 0), (0, x4), (0, x5 + 1), (0, x6)] [] (wr M r1.2) o
      refine S_iload dX16_findMatches_52 rfl ?_
      refine S_iload dX16_findMatches_54 rfl ?_
      refine P_icmp_le (tgt := 74) dX16_findMatches_56 rfl h (fun h => ?_) (fun h => ?_)
      · exact s_X16_findMatches_74 hD hM c0 r0 h hz
      · refine S_aload_n (i := 0) dX16_findMatches_59 rfl rfl ?_
        refine P2_gfi hM FLX16_595 rfl dX16_findMatches_60 ?_
        refine S_bipush (z := 30) dX16_findMatches_63 rfl ?_
        refine P_icmp_ne (tgt := 74) dX16_findMatches_65 rfl h (fun h => ?_) (fun h => ?_)
        · exact s_X16_findMatches_74 hD hM c0 r0 h hz
        · obtain ⟨z0, h, hz⟩ := xit_some' (P := fun r => P r) h hz
          refine S_aload_n (i := 0) dX16_findMatches_68 rfl rfl ?_
          refine S_iconst dX16_findMatches_69 rfl ?_
          refine P2_pfz hM FLX16_602 FPX16_602 rfl dX16_findMatches_70 h (fun V1 h => ?_)
          obtain rfl := r0 _ (some_P (P := fun r => P (.inr r)) h hz)
          exact S_return dX16_findMatches_73 rfl
    · refine S_goto (tgt := 92) dX16_findMatches_46 rfl ?_
      exact s_X16_findMatches_92 hD hM c0 r0 h hz
theorem sl_X16_findMatches_23 {g : GG} {d : Nat} (hD : 5 ≤ d) {x4 x5 x6 : Int} {M : MM} (hM : LM M) {V : VV} {o : AV × MM} {P : (VV) → Prop} (r0 : ∀ r : VV, P r → o = ((9, 0), (wr M r))) {z : VV} (h : l_X16_findMatches_23 x4 x5 x6 V = some z) (hz : P z) : Sem g d YX16_findMatches 23 [(1, 156), (9, 0), (9, 0), (9, 0), (0, x4), (0, x5), (0, x6)] [] (wr M V) o := by
  refine lp_sound (S := fun s : Int × Int × VV => Sem g d YX16_findMatches 23 [(1, 156), (9, 0), (9, 0), (9, 0), (0, x4), (0, s.1), (0, s.2.1)] [] (wr M s.2.2) o) (P := P) ?_ FU (x5, x6, V) z h hz
  intro s x hx hP
  exact s_X16_findMatches_23 hD hM (P := Sum.elim (fun s : Int × Int × VV => Sem g d YX16_findMatches 23 [(1, 156), (9, 0), (9, 0), (9, 0), (0, x4), (0, s.1), (0, s.2.1)] [] (wr M s.2.2) o) P) (fun s h => h) (fun s h => r0 s h) hx hP
theorem s_X16_findMatches_0 {g : GG} {d : Nat} (hD : 5 ≤ d) {x1 x2 x3 x4 : Int} {M : MM} (hM : LM M) {V : VV} {o : AV × MM} {P : (VV) → Prop} (r0 : ∀ r : VV, P r → o = ((9, 0), (wr M r))) {z : VV} (h : f_X16_findMatches x1 x2 x3 x4 V = some z) (hz : P z) : Sem g d YX16_findMatches 0 [(1, 156), (0, x1), (1, x2), (0, x3), (0, x4), (9, 0), (9, 0)] [] (wr M V) o := by
  delta f_X16_findMatches at h
  refine S_aload_n (i := 0) dX16_findMatches_0 rfl rfl ?_
  refine S_iload_n (i := 1) dX16_findMatches_1 rfl rfl ?_
  refine S_aload_n (i := 2) dX16_findMatches_2 rfl rfl ?_
  refine S_iload_n (i := 3) dX16_findMatches_3 rfl rfl ?_
  refine P2_invVm hM [(0, x1), (1, x2), (0, x3)] [] CVX16_choose MLX16_598 dX16_findMatches_4 rfl rfl rfl rfl (by omega) h (fun r h => F_X16_choose (by omega) hM h) (fun V1 h => ?_)
  refine S_aload_n (i := 0) dX16_findMatches_7 rfl rfl ?_
  refine S_iconst dX16_findMatches_8 rfl ?_
  refine P2_pfi hM FLX16_595 FPX16_595 rfl dX16_findMatches_9 h (fun V2 h => ?_)
  refine S_aload_n (i := 0) dX16_findMatches_12 rfl rfl ?_
  refine S_iconst dX16_findMatches_13 rfl ?_
  refine P2_pfz hM FLX16_602 FPX16_602 rfl dX16_findMatches_14 h (fun V3 h => ?_)
  refine S_iconst dX16_findMatches_17 rfl ?_
  refine S_istore dX16_findMatches_18 (Nat.le_of_ble_eq_true rfl) rfl rfl ?_
  change Sem g d YX16_findMatches 20 [(1, 156), (0, x1), (1, x2), (0, x3), (0, x4), (0, 0), (9, 0)] [] (wr M V3) o
  refine S_iconst dX16_findMatches_20 rfl ?_
  refine S_istore dX16_findMatches_21 (Nat.le_of_ble_eq_true rfl) rfl rfl ?_
  change Sem g d YX16_findMatches 23 [(1, 156), (0, x1), (1, x2), (0, x3), (0, x4), (0, 0), (0, 0)] [] (wr M V3) o
  refine S_weak (ls' := [(1, 156), (9, 0), (9, 0), (9, 0), (0, x4), (0, 0), (0, 0)]) ⟨Or.inr rfl, ⟨Or.inl rfl, ⟨Or.inl rfl, ⟨Or.inl rfl, ⟨Or.inr rfl, ⟨Or.inr rfl, ⟨Or.inr rfl, trivial⟩⟩⟩⟩⟩⟩⟩ ?_
  exact sl_X16_findMatches_23 hD hM r0 h hz
theorem F_X16_findMatches {g : GG} {d : Nat} (hD : 5 ≤ d) {x1 x2 x3 x4 : Int} {M : MM} (hM : LM M) {V : VV} {r : VV} (h : f_X16_findMatches x1 x2 x3 x4 V = some r) : Sem g d YX16_findMatches 0 (ini YX16_findMatches [(1, 156), (0, x1), (1, x2), (0, x3), (0, x4)]) [] (wr M V) ((9, 0), (wr M r)) := by
  change Sem g d YX16_findMatches 0 [(1, 156), (0, x1), (1, x2), (0, x3), (0, x4), (9, 0), (9, 0)] [] (wr M V) ((9, 0), (wr M r))
  exact s_X16_findMatches_0 hD hM (P := fun x => x = r) (fun q e => by rw [e]) h rfl
/-! PeerSearchModel.makeFilter()V -/
theorem dX16_makeFilter_0 : decode cX16_makeFilter 0 = .ok (.aload_n 0, 1) := by decide +kernel
theorem dX16_makeFilter_1 : decode cX16_makeFilter 1 = .ok (.aload_n 0, 1) := by decide +kernel
theorem dX16_makeFilter_2 : decode cX16_makeFilter 2 = .ok (.getfield 25, 3) := by decide +kernel
theorem dX16_makeFilter_5 : decode cX16_makeFilter 5 = .ok (.bipush 9, 2) := by decide +kernel
theorem dX16_makeFilter_7 : decode cX16_makeFilter 7 = .ok (.iaload, 1) := by decide +kernel
theorem dX16_makeFilter_8 : decode cX16_makeFilter 8 = .ok (.putfield 583, 3) := by decide +kernel
theorem dX16_makeFilter_11 : decode cX16_makeFilter 11 = .ok (.aload_n 0, 1) := by decide +kernel
theorem dX16_makeFilter_12 : decode cX16_makeFilter 12 = .ok (.aload_n 0, 1) := by decide +kernel
theorem dX16_makeFilter_13 : decode cX16_makeFilter 13 = .ok (.getfield 559, 3) := by decide +kernel
theorem dX16_makeFilter_16 : decode cX16_makeFilter 16 = .ok (.aload_n 0, 1) := by decide +kernel
theorem dX16_makeFilter_17 : decode cX16_makeFilter 17 = .ok (.getfield 583, 3) := by decide +kernel
theorem dX16_makeFilter_20 : decode cX16_makeFilter 20 = .ok (.imul, 1) := by decide +kernel
theorem dX16_makeFilter_21 : decode cX16_makeFilter 21 = .ok (.sipush 1443, 3) := by decide +kernel
theorem dX16_makeFilter_24 : decode cX16_makeFilter 24 = .ok (.imul, 1) := by decide +kernel
theorem dX16_makeFilter_25 : decode cX16_makeFilter 25 = .ok (.sipush 7999, 3) := by decide +kernel
theorem dX16_makeFilter_28 : decode cX16_makeFilter 28 = .ok (.iadd, 1) := by decide +kernel
theorem dX16_makeFilter_29 : decode cX16_makeFilter 29 = .ok (.sipush 8000, 3) := by decide +kernel
theorem dX16_makeFilter_32 : decode cX16_makeFilter 32 = .ok (.idiv, 1) := by decide +kernel
theorem dX16_makeFilter_33 : decode cX16_makeFilter 33 = .ok (.putfield 586, 3) := by decide +kernel
theorem dX16_makeFilter_36 : decode cX16_makeFilter 36 = .ok (.iconst 0, 1) := by decide +kernel
theorem dX16_makeFilter_37 : decode cX16_makeFilter 37 = .ok (.istore_n 1, 1) := by decide +kernel
theorem dX16_makeFilter_38 : decode cX16_makeFilter 38 = .ok (.iload_n 1, 1) := by decide +kernel
theorem dX16_makeFilter_39 : decode cX16_makeFilter 39 = .ok (.aload_n 0, 1) := by decide +kernel
theorem dX16_makeFilter_40 : decode cX16_makeFilter 40 = .ok (.getfield 586, 3) := by decide +kernel
theorem dX16_makeFilter_43 : decode cX16_makeFilter 43 = .ok (.if_icmp .ge 16, 3) := by decide +kernel
theorem dX16_makeFilter_46 : decode cX16_makeFilter 46 = .ok (.aload_n 0, 1) := by decide +kernel
theorem dX16_makeFilter_47 : decode cX16_makeFilter 47 = .ok (.getfield 207, 3) := by decide +kernel
theorem dX16_makeFilter_50 : decode cX16_makeFilter 50 = .ok (.iload_n 1, 1) := by decide +kernel
theorem dX16_makeFilter_51 : decode cX16_makeFilter 51 = .ok (.iconst 0, 1) := by decide +kernel
theorem dX16_makeFilter_52 : decode cX16_makeFilter 52 = .ok (.iastore, 1) := by decide +kernel
theorem dX16_makeFilter_53 : decode cX16_makeFilter 53 = .ok (.iinc 1 1, 3) := by decide +kernel
theorem dX16_makeFilter_56 : decode cX16_makeFilter 56 = .ok (.goto (-18), 3) := by decide +kernel
theorem dX16_makeFilter_59 : decode cX16_makeFilter 59 = .ok (.iconst 0, 1) := by decide +kernel
theorem dX16_makeFilter_60 : decode cX16_makeFilter 60 = .ok (.istore_n 1, 1) := by decide +kernel
theorem dX16_makeFilter_61 : decode cX16_makeFilter 61 = .ok (.iload_n 1, 1) := by decide +kernel
theorem dX16_makeFilter_62 : decode cX16_makeFilter 62 = .ok (.aload_n 0, 1) := by decide +kernel
theorem dX16_makeFilter_63 : decode cX16_makeFilter 63 = .ok (.getfield 559, 3) := by decide +kernel
theorem dX16_makeFilter_66 : decode cX16_makeFilter 66 = .ok (.if_icmp .ge 86, 3) := by decide +kernel
theorem dX16_makeFilter_69 : decode cX16_makeFilter 69 = .ok (.aload_n 0, 1) := by decide +kernel
theorem dX16_makeFilter_70 : decode cX16_makeFilter 70 = .ok (.aload_n 0, 1) := by decide +kernel
theorem dX16_makeFilter_71 : decode cX16_makeFilter 71 = .ok (.getfield 183, 3) := by decide +kernel
theorem dX16_makeFilter_74 : decode cX16_makeFilter 74 = .ok (.aload_n 0, 1) := by decide +kernel
theorem dX16_makeFilter_75 : decode cX16_makeFilter 75 = .ok (.getfield 195, 3) := by decide +kernel
theorem dX16_makeFilter_78 : decode cX16_makeFilter 78 = .ok (.iload_n 1, 1) := by decide +kernel
theorem dX16_makeFilter_79 : decode cX16_makeFilter 79 = .ok (.iaload, 1) := by decide +kernel
theorem dX16_makeFilter_80 : decode cX16_makeFilter 80 = .ok (.iaload, 1) := by decide +kernel
theorem dX16_makeFilter_81 : decode cX16_makeFilter 81 = .ok (.aload_n 0, 1) := by decide +kernel
theorem dX16_makeFilter_82 : decode cX16_makeFilter 82 = .ok (.getfield 186, 3) := by decide +kernel
theorem dX16_makeFilter_85 : decode cX16_makeFilter 85 = .ok (.aload_n 0, 1) := by decide +kernel
theorem dX16_makeFilter_86 : decode cX16_makeFilter 86 = .ok (.getfield 195, 3) := by decide +kernel
theorem dX16_makeFilter_89 : decode cX16_makeFilter 89 = .ok (.iload_n 1, 1) := by decide +kernel
theorem dX16_makeFilter_90 : decode cX16_makeFilter 90 = .ok (.iaload, 1) := by decide +kernel
theorem dX16_makeFilter_91 : decode cX16_makeFilter 91 = .ok (.iaload, 1) := by decide +kernel
theorem dX16_makeFilter_92 : decode cX16_makeFilter 92 = .ok (.invokevirtual 589, 3) := by decide +kernel
theorem dX16_makeFilter_95 : decode cX16_makeFilter 95 = .ok (.iconst 0, 1) := by decide +kernel
theorem dX16_makeFilter_96 : decode cX16_makeFilter 96 = .ok (.istore_n 2, 1) := by decide +kernel
theorem dX16_makeFilter_97 : decode cX16_makeFilter 97 = .ok (.iload_n 2, 1) := by decide +kernel
theorem dX16_makeFilter_98 : decode cX16_makeFilter 98 = .ok (.aload_n 0, 1) := by decide +kernel
theorem dX16_makeFilter_99 : decode cX16_makeFilter 99 = .ok (.getfield 583, 3) := by decide +kernel
theorem dX16_makeFilter_102 : decode cX16_makeFilter 102 = .ok (.if_icmp .ge 44, 3) := by decide +kernel
theorem dX16_makeFilter_105 : decode cX16_makeFilter 105 = .ok (.aload_n 0, 1) := by decide +kernel
theorem dX16_makeFilter_106 : decode cX16_makeFilter 106 = .ok (.iload_n 2, 1) := by decide +kernel
theorem dX16_makeFilter_107 : decode cX16_makeFilter 107 = .ok (.aload_n 0, 1) := by decide +kernel
theorem dX16_makeFilter_108 : decode cX16_makeFilter 108 = .ok (.getfield 586, 3) := by decide +kernel
theorem dX16_makeFilter_111 : decode cX16_makeFilter 111 = .ok (.invokevirtual 592, 3) := by decide +kernel
theorem dX16_makeFilter_114 : decode cX16_makeFilter 114 = .ok (.istore_n 3, 1) := by decide +kernel
theorem dX16_makeFilter_115 : decode cX16_makeFilter 115 = .ok (.aload_n 0, 1) := by decide +kernel
theorem dX16_makeFilter_116 : decode cX16_makeFilter 116 = .ok (.getfield 207, 3) := by decide +kernel
theorem dX16_makeFilter_119 : decode cX16_makeFilter 119 = .ok (.iload_n 3, 1) := by decide +kernel
theorem dX16_makeFilter_120 : decode cX16_makeFilter 120 = .ok (.bipush 8, 2) := by decide +kernel
theorem dX16_makeFilter_122 : decode cX16_makeFilter 122 = .ok (.idiv, 1) := by decide +kernel
theorem dX16_makeFilter_123 : decode cX16_makeFilter 123 = .ok (.aload_n 0, 1) := by decide +kernel
theorem dX16_makeFilter_124 : decode cX16_makeFilter 124 = .ok (.getfield 207, 3) := by decide +kernel
theorem dX16_makeFilter_127 : decode cX16_makeFilter 127 = .ok (.iload_n 3, 1) := by decide +kernel
theorem dX16_makeFilter_128 : decode cX16_makeFilter 128 = .ok (.bipush 8, 2) := by decide +kernel
theorem dX16_makeFilter_130 : decode cX16_makeFilter 130 = .ok (.idiv, 1) := by decide +kernel
theorem dX16_makeFilter_131 : decode cX16_makeFilter 131 = .ok (.iaload, 1) := by decide +kernel
theorem dX16_makeFilter_132 : decode cX16_makeFilter 132 = .ok (.iconst 1, 1) := by decide +kernel
theorem dX16_makeFilter_133 : decode cX16_makeFilter 133 = .ok (.iload_n 3, 1) := by decide +kernel
theorem dX16_makeFilter_134 : decode cX16_makeFilter 134 = .ok (.bipush 8, 2) := by decide +kernel
theorem dX16_makeFilter_136 : decode cX16_makeFilter 136 = .ok (.irem, 1) := by decide +kernel
theorem dX16_makeFilter_137 : decode cX16_makeFilter 137 = .ok (.ishl, 1) := by decide +kernel
theorem dX16_makeFilter_138 : decode cX16_makeFilter 138 = .ok (.ior, 1) := by decide +kernel
theorem dX16_makeFilter_139 : decode cX16_makeFilter 139 = .ok (.iastore, 1) := by decide +kernel
theorem dX16_makeFilter_140 : decode cX16_makeFilter 140 = .ok (.iinc 2 1, 3) := by decide +kernel
theorem dX16_makeFilter_143 : decode cX16_makeFilter 143 = .ok (.goto (-46), 3) := by decide +kernel
theorem dX16_makeFilter_146 : decode cX16_makeFilter 146 = .ok (.iinc 1 1, 3) := by decide +kernel
theorem dX16_makeFilter_149 : decode cX16_makeFilter 149 = .ok (.goto (-88), 3) := by decide +kernel
theorem dX16_makeFilter_152 : decode cX16_makeFilter 152 = .ok (.return_, 1) := by decide +kernel
def j_X16_makeFilter_146 (x1 : Int) (V : VV) : Option ((Int × VV) ⊕ (VV)) :=
  cnt (x1 + 1, V)
def b_X16_makeFilter_97 (x1 x2 : Int) (V : VV) : Option ((Int × VV) ⊕ ((Int × VV) ⊕ (VV))) :=
  if w32 x2 < w32 (w32 (V 156 79)) then
    (f_X16_bit x2 (w32 (V 156 78)) V).bind fun v1 =>
    (dvi v1 8).bind fun v2 =>
    (dvi v1 8).bind fun v3 =>
    (l2 220 290 v3 V).bind fun v4 =>
    (rmi v1 8).bind fun v5 =>
    (s2 220 290 v2 (bor v4 (bshl 1 v5)) V).bind fun V1 =>
    cnt (x2 + 1, V1)
  else
    xit (j_X16_makeFilter_146 x1 V)
def l_X16_makeFilter_97 (x1 x2 : Int) (V : VV) : Option ((Int × VV) ⊕ (VV)) := lpN (fun s : Int × VV => b_X16_makeFilter_97 x1 s.1 s.2) FU (x2, V)
def b_X16_makeFilter_61 (x1 : Int) (V : VV) : Option ((Int × VV) ⊕ (VV)) :=
  if w32 x1 < w32 (w32 (V 156 72)) then
    (l2 216 200 x1 V).bind fun v1 =>
    (l2 212 6400 v1 V).bind fun v2 =>
    (l2 216 200 x1 V).bind fun v3 =>
    (l2 213 6400 v3 V).bind fun v4 =>
    (f_X16_hashPosting v2 v4 V).bind fun V1 =>
    l_X16_makeFilter_97 x1 0 V1
  else
    xit (some V)
def l_X16_makeFilter_61 (x1 : Int) (V : VV) : Option (VV) := lpN (fun s : Int × VV => b_X16_makeFilter_61 s.1 s.2) FU (x1, V)
def j_X16_makeFilter_59 (V : VV) : Option (VV) :=
  l_X16_makeFilter_61 0 V
def b_X16_makeFilter_38 (x1 : Int) (V : VV) : Option ((Int × VV) ⊕ (VV)) :=
  if w32 x1 < w32 (w32 (V 156 78)) then
    (s2 220 290 x1 0 V).bind fun V1 =>
    cnt (x1 + 1, V1)
  else
    xit (j_X16_makeFilter_59 V)
def l_X16_makeFilter_38 (x1 : Int) (V : VV) : Option (VV) := lpN (fun s : Int × VV => b_X16_makeFilter_38 s.1 s.2) FU (x1, V)
def f_X16_makeFilter (V : VV) : Option (VV) :=
  (l2 162 11 9 V).bind fun v1 =>
  (p2 79 v1 V).bind fun V1 =>
  (dvi ((((w32 (V1 156 72)) * (w32 (V1 156 79))) * 1443) + 7999) 8000).bind fun v2 =>
  (p2 78 v2 V1).bind fun V2 =>
  l_X16_makeFilter_38 0 V2
theorem s_X16_makeFilter_146 {g : GG} {d : Nat} (hD : 4 ≤ d) {x1 : Int} {M : MM} (hM : LM M) {V : VV} {o : AV × MM} {P : ((Int × VV) ⊕ (VV)) → Prop} (c0 : ∀ s : Int × VV, P (.inl s) → Sem g d YX16_makeFilter 61 [(1, 156), (0, s.1), (9, 0), (9, 0)] [] (wr M s.2) o) (r0 : ∀ r : VV, P (.inr r) → o = ((9, 0), (wr M r))) {z : (Int × VV) ⊕ (VV)} (h : j_X16_makeFilter_146 x1 V = some z) (hz : P z) : Sem g d YX16_makeFilter 146 [(1, 156), (0, x1), (9, 0), (9, 0)] [] (wr M V) o := by
  delta j_X16_makeFilter_146 at h
  refine S_iinc dX16_makeFilter_146 rfl rfl rfl ?_
  change Sem g d YX16_makeFilter 149 [(1, 156), (0, x1 + 1), (9, 0), (9, 0)] [] (wr M V) o
  refine S_goto (tgt := 61) dX16_makeFilter_149 rfl ?_
  exact c0 (x1 + 1, V) (some_P (P := fun r => P r) h hz)
theorem s_X16_makeFilter_97 {g : GG} {d : Nat} (hD : 4 ≤ d) {x1 x2 : Int} {M : MM} (hM : LM M) {V : VV} {o : AV × MM} {P : ((Int × VV) ⊕ ((Int × VV) ⊕ (VV))) → Prop} (c1 : ∀ s : Int × VV, P (.inl s) → Sem g d YX16_makeFilter 97 [(1, 156), (0, x1), (0, s.1), (9, 0)] [] (wr M s.2) o) (c0 : ∀ s : Int × VV, P (.inr (.inl s)) → Sem g d YX16_makeFilter 61 [(1, 156), (0, s.1), (9, 0), (9, 0)] [] (wr M s.2) o) (r0 : ∀ r : VV, P (.inr (.inr r)) → o = ((9, 0), (wr M r))) {z : (Int × VV) ⊕ ((Int × VV) ⊕ (VV))} (h : b_X16_makeFilter_97 x1 x2 V = some z) (hz : P z) : Sem g d YX16_makeFilter 97 [(1, 156), (0, x1), (0, x2), (9, 0)] [] (wr M V) o := by
  delta b_X16_makeFilter_97 at h
  refine S_iload_n (i := 2) dX16_makeFilter_97 rfl rfl ?_
  refine S_aload_n (i := 0) dX16_makeFilter_98 rfl rfl ?_
  refine P2_gfi hM FLX16_583 rfl dX16_makeFilter_99 ?_
  refine P_icmp_ge (tgt := 146) dX16_makeFilter_102 rfl h (fun h => ?_) (fun h => ?_)
  · refine S_weak (ls' := [(1, 156), (0, x1), (9, 0), (9, 0)]) ⟨Or.inr rfl, ⟨Or.inr rfl, ⟨Or.inl rfl, ⟨Or.inl rfl, trivial⟩⟩⟩⟩ ?_
    obtain ⟨z0, h, hz⟩ := xit_some' (P := fun r => P r) h hz
    exact s_X16_makeFilter_146 hD hM (P := fun r => P (.inr r)) c0 r0 h hz
  · refine S_aload_n (i := 0) dX16_makeFilter_105 rfl rfl ?_
    refine S_iload_n (i := 2) dX16_makeFilter_106 rfl rfl ?_
    refine S_aload_n (i := 0) dX16_makeFilter_107 rfl rfl ?_
    refine P2_gfi hM FLX16_586 rfl dX16_makeFilter_108 ?_
    refine P2_invVp hM 0 [(0, x2), (0, w32 (V 156 78))] [] CVX16_bit MLX16_592 dX16_makeFilter_111 rfl rfl rfl rfl rfl (by omega) h (fun r h => F_X16_bit (by omega) hM h) (fun v1 h => ?_)
    refine S_istore_n (i := 3) dX16_makeFilter_114 rfl (Nat.le_of_ble_eq_true rfl) rfl rfl ?_
    change Sem g d YX16_makeFilter 115 [(1, 156), (0, x1), (0, x2), (0, v1)] [] (wr M V) o
    refine S_aload_n (i := 0) dX16_makeFilter_115 rfl rfl ?_
    refine P2_gfr hM (a := 220) FLX16_207 rfl ⟨rfl, rfl⟩ dX16_makeFilter_116 ?_
    refine S_iload_n (i := 3) dX16_makeFilter_119 rfl rfl ?_
    refine S_bipush (z := 8) dX16_makeFilter_120 rfl ?_
    refine P_dvi dX16_makeFilter_122 h (fun v2 h => ?_)
    refine S_aload_n (i := 0) dX16_makeFilter_123 rfl rfl ?_
    refine P2_gfr hM (a := 220) FLX16_207 rfl ⟨rfl, rfl⟩ dX16_makeFilter_124 ?_
    refine S_iload_n (i := 3) dX16_makeFilter_127 rfl rfl ?_
    refine S_bipush (z := 8) dX16_makeFilter_128 rfl ?_
    refine P_dvi dX16_makeFilter_130 h (fun v3 h => ?_)
    refine P2_lai hM (a := 220) (n := 290) rfl dX16_makeFilter_131 h (fun v4 h => ?_)
    refine S_iconst dX16_makeFilter_132 rfl ?_
    refine S_iload_n (i := 3) dX16_makeFilter_133 rfl rfl ?_
    refine S_bipush (z := 8) dX16_makeFilter_134 rfl ?_
    refine P_rmi dX16_makeFilter_136 h (fun v5 h => ?_)
    refine S_ishl dX16_makeFilter_137 ?_
    refine S_ior dX16_makeFilter_138 ?_
    refine P2_sai hM (a := 220) (n := 290) rfl dX16_makeFilter_139 h (fun V1 h => ?_)
    refine S_iinc dX16_makeFilter_140 rfl rfl rfl ?_
    change Sem g d YX16_makeFilter 143 [(1, 156), (0, x1), (0, x2 + 1), (0, v1)] [] (wr M V1) o
    refine S_goto (tgt := 97) dX16_makeFilter_143 rfl ?_
    refine S_weak (ls' := [(1, 156), (0, x1), (0, x2 + 1), (9, 0)]) ⟨Or.inr rfl, ⟨Or.inr rfl, ⟨Or.inr rfl, ⟨Or.inl rfl, trivial⟩⟩⟩⟩ ?_
    exact c1 (x2 + 1, V1) (some_P (P := fun r => P r) h hz)
theorem sl_X16_makeFilter_97 {g : GG} {d : Nat} (hD : 4 ≤ d) {x1 x2 : Int} {M : MM} (hM : LM M) {V : VV} {o : AV × MM} {P : ((Int × VV) ⊕ (VV)) → Prop} (c0 : ∀ s : Int × VV, P (.inl s) → Sem g d YX16_makeFilter 61 [(1, 156), (0, s.1), (9, 0), (9, 0)] [] (wr M s.2) o) (r0 : ∀ r : VV, P (.inr r) → o = ((9, 0), (wr M r))) {z : (Int × VV) ⊕ (VV)} (h : l_X16_makeFilter_97 x1 x2 V = some z) (hz : P z) : Sem g d YX16_makeFilter 97 [(1, 156), (0, x1), (0, x2), (9, 0)] [] (wr M V) o := by
  refine lp_sound (S := fun s : Int × VV => Sem g d YX16_makeFilter 97 [(1, 156), (0, x1), (0, s.1), (9, 0)] [] (wr M s.2) o) (P := P) ?_ FU (x2, V) z h hz
  intro s x hx hP
  exact s_X16_makeFilter_97 hD hM (P := Sum.elim (fun s : Int × VV => Sem g d YX16_makeFilter 97 [(1, 156), (0, x1), (0, s.1), (9, 0)] [] (wr M s.2) o) P) (fun s h => h) (fun s h => c0 s h) (fun s h => r0 s h) hx hP
theorem s_X16_makeFilter_61 {g : GG} {d : Nat} (hD : 4 ≤ d) {x1 : Int} {M : MM} (hM : LM M) {V : VV} {o : AV × MM} {P : ((Int × VV) ⊕ (VV)) → Prop} (c0 : ∀ s : Int × VV, P (.inl s) → Sem g d YX16_makeFilter 61 [(1, 156), (0, s.1), (9, 0), (9, 0)] [] (wr M s.2) o) (r0 : ∀ r : VV, P (.inr r) → o = ((9, 0), (wr M r))) {z : (Int × VV) ⊕ (VV)} (h : b_X16_makeFilter_61 x1 V = some z) (hz : P z) : Sem g d YX16_makeFilter 61 [(1, 156), (0, x1), (9, 0), (9, 0)] [] (wr M V) o := by
  delta b_X16_makeFilter_61 at h
  refine S_iload_n (i := 1) dX16_makeFilter_61 rfl rfl ?_
  refine S_aload_n (i := 0) dX16_makeFilter_62 rfl rfl ?_
  refine P2_gfi hM FLX16_559 rfl dX16_makeFilter_63 ?_
  refine P_icmp_ge (tgt := 152) dX16_makeFilter_66 rfl h (fun h => ?_) (fun h => ?_)
  · obtain ⟨z0, h, hz⟩ := xit_some' (P := fun r => P r) h hz
    obtain rfl := r0 _ (some_P (P := fun r => P (.inr r)) h hz)
    exact S_return dX16_makeFilter_152 rfl
  · refine S_aload_n (i := 0) dX16_makeFilter_69 rfl rfl ?_
    refine S_aload_n (i := 0) dX16_makeFilter_70 rfl rfl ?_
    refine P2_gfr hM (a := 212) FLX16_183 rfl ⟨rfl, rfl⟩ dX16_makeFilter_71 ?_
    refine S_aload_n (i := 0) dX16_makeFilter_74 rfl rfl ?_
    refine P2_gfr hM (a := 216) FLX16_195 rfl ⟨rfl, rfl⟩ dX16_makeFilter_75 ?_
    refine S_iload_n (i := 1) dX16_makeFilter_78 rfl rfl ?_
    refine P2_lai hM (a := 216) (n := 200) rfl dX16_makeFilter_79 h (fun v1 h => ?_)
    refine P2_lai hM (a := 212) (n := 6400) rfl dX16_makeFilter_80 h (fun v2 h => ?_)
    refine S_aload_n (i := 0) dX16_makeFilter_81 rfl rfl ?_
    refine P2_gfr hM (a := 213) FLX16_186 rfl ⟨rfl, rfl⟩ dX16_makeFilter_82 ?_
    refine S_aload_n (i := 0) dX16_makeFilter_85 rfl rfl ?_
    refine P2_gfr hM (a := 216) FLX16_195 rfl ⟨rfl, rfl⟩ dX16_makeFilter_86 ?_
    refine S_iload_n (i := 1) dX16_makeFilter_89 rfl rfl ?_
    refine P2_lai hM (a := 216) (n := 200) rfl dX16_makeFilter_90 h (fun v3 h => ?_)
    refine P2_lai hM (a := 213) (n := 6400) rfl dX16_makeFilter_91 h (fun v4 h => ?_)
    refine P2_invVm hM [(0, v2), (0, v4)] [] CVX16_hashPosting MLX16_589 dX16_makeFilter_92 rfl rfl rfl rfl (by omega) h (fun r h => F_X16_hashPosting (by omega) hM h) (fun V1 h => ?_)
    refine S_iconst dX16_makeFilter_95 rfl ?_
    refine S_istore_n (i := 2) dX16_makeFilter_96 rfl (Nat.le_of_ble_eq_true rfl) rfl rfl ?_
    change Sem g d YX16_makeFilter 97 [(1, 156), (0, x1), (0, 0), (9, 0)] [] (wr M V1) o
    exact sl_X16_makeFilter_97 hD hM c0 r0 h hz
theorem sl_X16_makeFilter_61 {g : GG} {d : Nat} (hD : 4 ≤ d) {x1 : Int} {M : MM} (hM : LM M) {V : VV} {o : AV × MM} {P : (VV) → Prop} (r0 : ∀ r : VV, P r → o = ((9, 0), (wr M r))) {z : VV} (h : l_X16_makeFilter_61 x1 V = some z) (hz : P z) : Sem g d YX16_makeFilter 61 [(1, 156), (0, x1), (9, 0), (9, 0)] [] (wr M V) o := by
  refine lp_sound (S := fun s : Int × VV => Sem g d YX16_makeFilter 61 [(1, 156), (0, s.1), (9, 0), (9, 0)] [] (wr M s.2) o) (P := P) ?_ FU (x1, V) z h hz
  intro s x hx hP
  exact s_X16_makeFilter_61 hD hM (P := Sum.elim (fun s : Int × VV => Sem g d YX16_makeFilter 61 [(1, 156), (0, s.1), (9, 0), (9, 0)] [] (wr M s.2) o) P) (fun s h => h) (fun s h => r0 s h) hx hP
theorem s_X16_makeFilter_59 {g : GG} {d : Nat} (hD : 4 ≤ d) {M : MM} (hM : LM M) {V : VV} {o : AV × MM} {P : (VV) → Prop} (r0 : ∀ r : VV, P r → o = ((9, 0), (wr M r))) {z : VV} (h : j_X16_makeFilter_59 V = some z) (hz : P z) : Sem g d YX16_makeFilter 59 [(1, 156), (9, 0), (9, 0), (9, 0)] [] (wr M V) o := by
  delta j_X16_makeFilter_59 at h
  refine S_iconst dX16_makeFilter_59 rfl ?_
  refine S_istore_n (i := 1) dX16_makeFilter_60 rfl (Nat.le_of_ble_eq_true rfl) rfl rfl ?_
  change Sem g d YX16_makeFilter 61 [(1, 156), (0, 0), (9, 0), (9, 0)] [] (wr M V) o
  exact sl_X16_makeFilter_61 hD hM r0 h hz
theorem s_X16_makeFilter_38 {g : GG} {d : Nat} (hD : 4 ≤ d) {x1 : Int} {M : MM} (hM : LM M) {V : VV} {o : AV × MM} {P : ((Int × VV) ⊕ (VV)) → Prop} (c0 : ∀ s : Int × VV, P (.inl s) → Sem g d YX16_makeFilter 38 [(1, 156), (0, s.1), (9, 0), (9, 0)] [] (wr M s.2) o) (r0 : ∀ r : VV, P (.inr r) → o = ((9, 0), (wr M r))) {z : (Int × VV) ⊕ (VV)} (h : b_X16_makeFilter_38 x1 V = some z) (hz : P z) : Sem g d YX16_makeFilter 38 [(1, 156), (0, x1), (9, 0), (9, 0)] [] (wr M V) o := by
  delta b_X16_makeFilter_38 at h
  refine S_iload_n (i := 1) dX16_makeFilter_38 rfl rfl ?_
  refine S_aload_n (i := 0) dX16_makeFilter_39 rfl rfl ?_
  refine P2_gfi hM FLX16_586 rfl dX16_makeFilter_40 ?_
  refine P_icmp_ge (tgt := 59) dX16_makeFilter_43 rfl h (fun h => ?_) (fun h => ?_)
  · refine S_weak (ls' := [(1, 156), (9, 0), (9, 0), (9, 0)]) ⟨Or.inr rfl, ⟨Or.inl rfl, ⟨Or.inl rfl, ⟨Or.inl rfl, trivial⟩⟩⟩⟩ ?_
    obtain ⟨z0, h, hz⟩ := xit_some' (P := fun r => P r) h hz
    exact s_X16_makeFilter_59 hD hM (P := fun r => P (.inr r)) r0 h hz
  · refine S_aload_n (i := 0) dX16_makeFilter_46 rfl rfl ?_
    refine P2_gfr hM (a := 220) FLX16_207 rfl ⟨rfl, rfl⟩ dX16_makeFilter_47 ?_
    refine S_iload_n (i := 1) dX16_makeFilter_50 rfl rfl ?_
    refine S_iconst dX16_makeFilter_51 rfl ?_
    refine P2_sai hM (a := 220) (n := 290) rfl dX16_makeFilter_52 h (fun V1 h => ?_)
    refine S_iinc dX16_makeFilter_53 rfl rfl rfl ?_
    change Sem g d YX16_makeFilter 56 [(1, 156), (0, x1 + 1), (9, 0), (9, 0)] [] (wr M V1) o
    refine S_goto (tgt := 38) dX16_makeFilter_56 rfl ?_
    exact c0 (x1 + 1, V1) (some_P (P := fun r => P r) h hz)
theorem sl_X16_makeFilter_38 {g : GG} {d : Nat} (hD : 4 ≤ d) {x1 : Int} {M : MM} (hM : LM M) {V : VV} {o : AV × MM} {P : (VV) → Prop} (r0 : ∀ r : VV, P r → o = ((9, 0), (wr M r))) {z : VV} (h : l_X16_makeFilter_38 x1 V = some z) (hz : P z) : Sem g d YX16_makeFilter 38 [(1, 156), (0, x1), (9, 0), (9, 0)] [] (wr M V) o := by
  refine lp_sound (S := fun s : Int × VV => Sem g d YX16_makeFilter 38 [(1, 156), (0, s.1), (9, 0), (9, 0)] [] (wr M s.2) o) (P := P) ?_ FU (x1, V) z h hz
  intro s x hx hP
  exact s_X16_makeFilter_38 hD hM (P := Sum.elim (fun s : Int × VV => Sem g d YX16_makeFilter 38 [(1, 156), (0, s.1), (9, 0), (9, 0)] [] (wr M s.2) o) P) (fun s h => h) (fun s h => r0 s h) hx hP
theorem s_X16_makeFilter_0 {g : GG} {d : Nat} (hD : 4 ≤ d) {M : MM} (hM : LM M) {V : VV} {o : AV × MM} {P : (VV) → Prop} (r0 : ∀ r : VV, P r → o = ((9, 0), (wr M r))) {z : VV} (h : f_X16_makeFilter V = some z) (hz : P z) : Sem g d YX16_makeFilter 0 [(1, 156), (9, 0), (9, 0), (9, 0)] [] (wr M V) o := by
  delta f_X16_makeFilter at h
  refine S_aload_n (i := 0) dX16_makeFilter_0 rfl rfl ?_
  refine S_aload_n (i := 0) dX16_makeFilter_1 rfl rfl ?_
  refine P2_gfr hM (a := 162) FLX16_25 rfl ⟨rfl, rfl⟩ dX16_makeFilter_2 ?_
  refine S_bipush (z := 9) dX16_makeFilter_5 rfl ?_
  refine P2_lai hM (a := 162) (n := 11) rfl dX16_makeFilter_7 h (fun v1 h => ?_)
  refine P2_pfi hM FLX16_583 FPX16_583 rfl dX16_makeFilter_8 h (fun V1 h => ?_)
  refine S_aload_n (i := 0) dX16_makeFilter_11 rfl rfl ?_
  refine S_aload_n (i := 0) dX16_makeFilter_12 rfl rfl ?_
  refine P2_gfi hM FLX16_559 rfl dX16_makeFilter_13 ?_
  refine S_aload_n (i := 0) dX16_makeFilter_16 rfl rfl ?_
  refine P2_gfi hM FLX16_583 rfl dX16_makeFilter_17 ?_
  refine S_imul dX16_makeFilter_20 ?_
  refine S_sipush (z := 1443) dX16_makeFilter_21 rfl ?_
  refine S_imul dX16_makeFilter_24 ?_
  refine S_sipush (z := 7999) dX16_makeFilter_25 rfl ?_
  refine S_iadd dX16_makeFilter_28 ?_
  refine S_sipush (z := 8000) dX16_makeFilter_29 rfl ?_
  refine P_dvi dX16_makeFilter_32 h (fun v2 h => ?_)
  refine P2_pfi hM FLX16_586 FPX16_586 rfl dX16_makeFilter_33 h (fun V2 h => ?_)
  refine S_iconst dX16_makeFilter_36 rfl ?_
  refine S_istore_n (i := 1) dX16_makeFilter_37 rfl (Nat.le_of_ble_eq_true rfl) rfl rfl ?_
  change Sem g d YX16_makeFilter 38 [(1, 156), (0, 0), (9, 0), (9, 0)] [] (wr M V2) o
  exact sl_X16_makeFilter_38 hD hM r0 h hz
theorem F_X16_makeFilter {g : GG} {d : Nat} (hD : 4 ≤ d) {M : MM} (hM : LM M) {V : VV} {r : VV} (h : f_X16_makeFilter V = some r) : Sem g d YX16_makeFilter 0 (ini YX16_makeFilter [(1, 156)]) [] (wr M V) ((9, 0), (wr M r)) := by
  change Sem g d YX16_makeFilter 0 [(1, 156), (9, 0), (9, 0), (9, 0)] [] (wr M V) ((9, 0), (wr M r))
  exact s_X16_makeFilter_0 hD hM (P := fun x => x = r) (fun q e => by rw [e]) h rfl
/-! PeerSearchModel.tookBits(I)V -/
theorem dX16_tookBits_0 : decode cX16_tookBits 0 = .ok (.aload_n 0, 1) := by decide +kernel
theorem dX16_tookBits_1 : decode cX16_tookBits 1 = .ok (.getfield 312, 3) := by decide +kernel
theorem dX16_tookBits_4 : decode cX16_tookBits 4 = .ok (.iload_n 1, 1) := by decide +kernel
theorem dX16_tookBits_5 : decode cX16_tookBits 5 = .ok (.aload_n 0, 1) := by decide +kernel
theorem dX16_tookBits_6 : decode cX16_tookBits 6 = .ok (.getfield 586, 3) := by decide +kernel
theorem dX16_tookBits_9 : decode cX16_tookBits 9 = .ok (.iastore, 1) := by decide +kernel
theorem dX16_tookBits_10 : decode cX16_tookBits 10 = .ok (.aload_n 0, 1) := by decide +kernel
theorem dX16_tookBits_11 : decode cX16_tookBits 11 = .ok (.getfield 315, 3) := by decide +kernel
theorem dX16_tookBits_14 : decode cX16_tookBits 14 = .ok (.iload_n 1, 1) := by decide +kernel
theorem dX16_tookBits_15 : decode cX16_tookBits 15 = .ok (.aload_n 0, 1) := by decide +kernel
theorem dX16_tookBits_16 : decode cX16_tookBits 16 = .ok (.getfield 583, 3) := by decide +kernel
theorem dX16_tookBits_19 : decode cX16_tookBits 19 = .ok (.iastore, 1) := by decide +kernel
theorem dX16_tookBits_20 : decode cX16_tookBits 20 = .ok (.iconst 0, 1) := by decide +kernel
theorem dX16_tookBits_21 : decode cX16_tookBits 21 = .ok (.istore_n 2, 1) := by decide +kernel
theorem dX16_tookBits_22 : decode cX16_tookBits 22 = .ok (.iload_n 2, 1) := by decide +kernel
theorem dX16_tookBits_23 : decode cX16_tookBits 23 = .ok (.aload_n 0, 1) := by decide +kernel
theorem dX16_tookBits_24 : decode cX16_tookBits 24 = .ok (.getfield 586, 3) := by decide +kernel
theorem dX16_tookBits_27 : decode cX16_tookBits 27 = .ok (.if_icmp .ge 27, 3) := by decide +kernel
theorem dX16_tookBits_30 : decode cX16_tookBits 30 = .ok (.aload_n 0, 1) := by decide +kernel
theorem dX16_tookBits_31 : decode cX16_tookBits 31 = .ok (.getfield 318, 3) := by decide +kernel
theorem dX16_tookBits_34 : decode cX16_tookBits 34 = .ok (.sipush 290, 3) := by decide +kernel
theorem dX16_tookBits_37 : decode cX16_tookBits 37 = .ok (.iload_n 1, 1) := by decide +kernel
theorem dX16_tookBits_38 : decode cX16_tookBits 38 = .ok (.imul, 1) := by decide +kernel
theorem dX16_tookBits_39 : decode cX16_tookBits 39 = .ok (.iload_n 2, 1) := by decide +kernel
theorem dX16_tookBits_40 : decode cX16_tookBits 40 = .ok (.iadd, 1) := by decide +kernel
theorem dX16_tookBits_41 : decode cX16_tookBits 41 = .ok (.aload_n 0, 1) := by decide +kernel
theorem dX16_tookBits_42 : decode cX16_tookBits 42 = .ok (.getfield 207, 3) := by decide +kernel
theorem dX16_tookBits_45 : decode cX16_tookBits 45 = .ok (.iload_n 2, 1) := by decide +kernel
theorem dX16_tookBits_46 : decode cX16_tookBits 46 = .ok (.iaload, 1) := by decide +kernel
theorem dX16_tookBits_47 : decode cX16_tookBits 47 = .ok (.iastore, 1) := by decide +kernel
theorem dX16_tookBits_48 : decode cX16_tookBits 48 = .ok (.iinc 2 1, 3) := by decide +kernel
theorem dX16_tookBits_51 : decode cX16_tookBits 51 = .ok (.goto (-29), 3) := by decide +kernel
theorem dX16_tookBits_54 : decode cX16_tookBits 54 = .ok (.aload_n 0, 1) := by decide +kernel
theorem dX16_tookBits_55 : decode cX16_tookBits 55 = .ok (.getfield 237, 3) := by decide +kernel
theorem dX16_tookBits_58 : decode cX16_tookBits 58 = .ok (.iload_n 1, 1) := by decide +kernel
theorem dX16_tookBits_59 : decode cX16_tookBits 59 = .ok (.iconst 4, 1) := by decide +kernel
theorem dX16_tookBits_60 : decode cX16_tookBits 60 = .ok (.iastore, 1) := by decide +kernel
theorem dX16_tookBits_61 : decode cX16_tookBits 61 = .ok (.return_, 1) := by decide +kernel
def j_X16_tookBits_54 (x1 : Int) (V : VV) : Option (VV) :=
  (s2 230 44 x1 4 V).bind fun V1 =>
  some V1
def b_X16_tookBits_22 (x1 x2 : Int) (V : VV) : Option ((Int × VV) ⊕ (VV)) :=
  if w32 x2 < w32 (w32 (V 156 78)) then
    (l2 220 290 x2 V).bind fun v1 =>
    (s2 257 12760 ((290 * x1) + x2) v1 V).bind fun V1 =>
    cnt (x2 + 1, V1)
  else
    xit (j_X16_tookBits_54 x1 V)
def l_X16_tookBits_22 (x1 x2 : Int) (V : VV) : Option (VV) := lpN (fun s : Int × VV => b_X16_tookBits_22 x1 s.1 s.2) FU (x2, V)
def f_X16_tookBits (x1 : Int) (V : VV) : Option (VV) :=
  (s2 255 44 x1 (w32 (V 156 78)) V).bind fun V1 =>
  (s2 256 44 x1 (w32 (V1 156 79)) V1).bind fun V2 =>
  l_X16_tookBits_22 x1 0 V2
theorem s_X16_tookBits_54 {g : GG} {d : Nat} (hD : 0 ≤ d) {x1 : Int} {M : MM} (hM : LM M) {V : VV} {o : AV × MM} {P : (VV) → Prop} (r0 : ∀ r : VV, P r → o = ((9, 0), (wr M r))) {z : VV} (h : j_X16_tookBits_54 x1 V = some z) (hz : P z) : Sem g d YX16_tookBits 54 [(1, 156), (0, x1), (9, 0)] [] (wr M V) o := by
  delta j_X16_tookBits_54 at h
  refine S_aload_n (i := 0) dX16_tookBits_54 rfl rfl ?_
  refine P2_gfr hM (a := 230) FLX16_237 rfl ⟨rfl, rfl⟩ dX16_tookBits_55 ?_
  refine S_iload_n (i := 1) dX16_tookBits_58 rfl rfl ?_
  refine S_iconst dX16_tookBits_59 rfl ?_
  refine P2_sai hM (a := 230) (n := 44) rfl dX16_tookBits_60 h (fun V1 h => ?_)
  obtain rfl := r0 _ (some_P (P := fun r => P r) h hz)
  exact S_return dX16_tookBits_61 rfl
theorem s_X16_tookBits_22 {g : GG} {d : Nat} (hD : 0 ≤ d) {x1 x2 : Int} {M : MM} (hM : LM M) {V : VV} {o : AV × MM} {P : ((Int × VV) ⊕ (VV)) → Prop} (c0 : ∀ s : Int × VV, P (.inl s) → Sem g d YX16_tookBits 22 [(1, 156), (0, x1), (0, s.1)] [] (wr M s.2) o) (r0 : ∀ r : VV, P (.inr r) → o = ((9, 0), (wr M r))) {z : (Int × VV) ⊕ (VV)} (h : b_X16_tookBits_22 x1 x2 V = some z) (hz : P z) : Sem g d YX16_tookBits 22 [(1, 156), (0, x1), (0, x2)] [] (wr M V) o := by
  delta b_X16_tookBits_22 at h
  refine S_iload_n (i := 2) dX16_tookBits_22 rfl rfl ?_
  refine S_aload_n (i := 0) dX16_tookBits_23 rfl rfl ?_
  refine P2_gfi hM FLX16_586 rfl dX16_tookBits_24 ?_
  refine P_icmp_ge (tgt := 54) dX16_tookBits_27 rfl h (fun h => ?_) (fun h => ?_)
  · refine S_weak (ls' := [(1, 156), (0, x1), (9, 0)]) ⟨Or.inr rfl, ⟨Or.inr rfl, ⟨Or.inl rfl, trivial⟩⟩⟩ ?_
    obtain ⟨z0, h, hz⟩ := xit_some' (P := fun r => P r) h hz
    exact s_X16_tookBits_54 hD hM (P := fun r => P (.inr r)) r0 h hz
  · refine S_aload_n (i := 0) dX16_tookBits_30 rfl rfl ?_
    refine P2_gfr hM (a := 257) FLX16_318 rfl ⟨rfl, rfl⟩ dX16_tookBits_31 ?_
    refine S_sipush (z := 290) dX16_tookBits_34 rfl ?_
    refine S_iload_n (i := 1) dX16_tookBits_37 rfl rfl ?_
    refine S_imul dX16_tookBits_38 ?_
    refine S_iload_n (i := 2) dX16_tookBits_39 rfl rfl ?_
    refine S_iadd dX16_tookBits_40 ?_
    refine S_aload_n (i := 0) dX16_tookBits_41 rfl rfl ?_
    refine P2_gfr hM (a := 220) FLX16_207 rfl ⟨rfl, rfl⟩ dX16_tookBits_42 ?_
    refine S_iload_n (i := 2) dX16_tookBits_45 rfl rfl ?_
    refine P2_lai hM (a := 220) (n := 290) rfl dX16_tookBits_46 h (fun v1 h => ?_)
    refine P2_sai hM (a := 257) (n := 12760) rfl dX16_tookBits_47 h (fun V1 h => ?_)
    refine S_iinc dX16_tookBits_48 rfl rfl rfl ?_
    change Sem g d YX16_tookBits 51 [(1, 156), (0, x1), (0, x2 + 1)] [] (wr M V1) o
    refine S_goto (tgt := 22) dX16_tookBits_51 rfl ?_
    exact c0 (x2 + 1, V1) (some_P (P := fun r => P r) h hz)
theorem sl_X16_tookBits_22 {g : GG} {d : Nat} (hD : 0 ≤ d) {x1 x2 : Int} {M : MM} (hM : LM M) {V : VV} {o : AV × MM} {P : (VV) → Prop} (r0 : ∀ r : VV, P r → o = ((9, 0), (wr M r))) {z : VV} (h : l_X16_tookBits_22 x1 x2 V = some z) (hz : P z) : Sem g d YX16_tookBits 22 [(1, 156), (0, x1), (0, x2)] [] (wr M V) o := by
  refine lp_sound (S := fun s : Int × VV => Sem g d YX16_tookBits 22 [(1, 156), (0, x1), (0, s.1)] [] (wr M s.2) o) (P := P) ?_ FU (x2, V) z h hz
  intro s x hx hP
  exact s_X16_tookBits_22 hD hM (P := Sum.elim (fun s : Int × VV => Sem g d YX16_tookBits 22 [(1, 156), (0, x1), (0, s.1)] [] (wr M s.2) o) P) (fun s h => h) (fun s h => r0 s h) hx hP
theorem s_X16_tookBits_0 {g : GG} {d : Nat} (hD : 0 ≤ d) {x1 : Int} {M : MM} (hM : LM M) {V : VV} {o : AV × MM} {P : (VV) → Prop} (r0 : ∀ r : VV, P r → o = ((9, 0), (wr M r))) {z : VV} (h : f_X16_tookBits x1 V = some z) (hz : P z) : Sem g d YX16_tookBits 0 [(1, 156), (0, x1), (9, 0)] [] (wr M V) o := by
  delta f_X16_tookBits at h
  refine S_aload_n (i := 0) dX16_tookBits_0 rfl rfl ?_
  refine P2_gfr hM (a := 255) FLX16_312 rfl ⟨rfl, rfl⟩ dX16_tookBits_1 ?_
  refine S_iload_n (i := 1) dX16_tookBits_4 rfl rfl ?_
  refine S_aload_n (i := 0) dX16_tookBits_5 rfl rfl ?_
  refine P2_gfi hM FLX16_586 rfl dX16_tookBits_6 ?_
  refine P2_sai hM (a := 255) (n := 44) rfl dX16_tookBits_9 h (fun V1 h => ?_)
  refine S_aload_n (i := 0) dX16_tookBits_10 rfl rfl ?_
  refine P2_gfr hM (a := 256) FLX16_315 rfl ⟨rfl, rfl⟩ dX16_tookBits_11 ?_
  refine S_iload_n (i := 1) dX16_tookBits_14 rfl rfl ?_
  refine S_aload_n (i := 0) dX16_tookBits_15 rfl rfl ?_
  refine P2_gfi hM FLX16_583 rfl dX16_tookBits_16 ?_
  refine P2_sai hM (a := 256) (n := 44) rfl dX16_tookBits_19 h (fun V2 h => ?_)
  refine S_iconst dX16_tookBits_20 rfl ?_
  refine S_istore_n (i := 2) dX16_tookBits_21 rfl (Nat.le_of_ble_eq_true rfl) rfl rfl ?_
  change Sem g d YX16_tookBits 22 [(1, 156), (0, x1), (0, 0)] [] (wr M V2) o
  exact sl_X16_tookBits_22 hD hM r0 h hz
theorem F_X16_tookBits {g : GG} {d : Nat} (hD : 0 ≤ d) {x1 : Int} {M : MM} (hM : LM M) {V : VV} {r : VV} (h : f_X16_tookBits x1 V = some r) : Sem g d YX16_tookBits 0 (ini YX16_tookBits [(1, 156), (0, x1)]) [] (wr M V) ((9, 0), (wr M r)) := by
  change Sem g d YX16_tookBits 0 [(1, 156), (0, x1), (9, 0)] [] (wr M V) ((9, 0), (wr M r))
  exact s_X16_tookBits_0 hD hM (P := fun x => x = r) (fun q e => by rw [e]) h rfl
/-! PeerSearchModel.better(II)Z -/
theorem dX16_better_0 : decode cX16_better 0 = .ok (.aload_n 0, 1) := by decide +kernel
theorem dX16_better_1 : decode cX16_better 1 = .ok (.getfield 330, 3) := by decide +kernel
theorem dX16_better_4 : decode cX16_better 4 = .ok (.iload_n 1, 1) := by decide +kernel
theorem dX16_better_5 : decode cX16_better 5 = .ok (.iaload, 1) := by decide +kernel
theorem dX16_better_6 : decode cX16_better 6 = .ok (.aload_n 0, 1) := by decide +kernel
theorem dX16_better_7 : decode cX16_better 7 = .ok (.getfield 330, 3) := by decide +kernel
theorem dX16_better_10 : decode cX16_better 10 = .ok (.iload_n 2, 1) := by decide +kernel
theorem dX16_better_11 : decode cX16_better 11 = .ok (.iaload, 1) := by decide +kernel
theorem dX16_better_12 : decode cX16_better 12 = .ok (.if_icmp .eq 24, 3) := by decide +kernel
theorem dX16_better_15 : decode cX16_better 15 = .ok (.aload_n 0, 1) := by decide +kernel
theorem dX16_better_16 : decode cX16_better 16 = .ok (.getfield 330, 3) := by decide +kernel
theorem dX16_better_19 : decode cX16_better 19 = .ok (.iload_n 1, 1) := by decide +kernel
theorem dX16_better_20 : decode cX16_better 20 = .ok (.iaload, 1) := by decide +kernel
theorem dX16_better_21 : decode cX16_better 21 = .ok (.aload_n 0, 1) := by decide +kernel
theorem dX16_better_22 : decode cX16_better 22 = .ok (.getfield 330, 3) := by decide +kernel
theorem dX16_better_25 : decode cX16_better 25 = .ok (.iload_n 2, 1) := by decide +kernel
theorem dX16_better_26 : decode cX16_better 26 = .ok (.iaload, 1) := by decide +kernel
theorem dX16_better_27 : decode cX16_better 27 = .ok (.if_icmp .le 7, 3) := by decide +kernel
theorem dX16_better_30 : decode cX16_better 30 = .ok (.iconst 1, 1) := by decide +kernel
theorem dX16_better_31 : decode cX16_better 31 = .ok (.goto 4, 3) := by decide +kernel
theorem dX16_better_34 : decode cX16_better 34 = .ok (.iconst 0, 1) := by decide +kernel
theorem dX16_better_35 : decode cX16_better 35 = .ok (.ireturn, 1) := by decide +kernel
theorem dX16_better_36 : decode cX16_better 36 = .ok (.aload_n 0, 1) := by decide +kernel
theorem dX16_better_37 : decode cX16_better 37 = .ok (.getfield 324, 3) := by decide +kernel
theorem dX16_better_40 : decode cX16_better 40 = .ok (.iload_n 1, 1) := by decide +kernel
theorem dX16_better_41 : decode cX16_better 41 = .ok (.iaload, 1) := by decide +kernel
theorem dX16_better_42 : decode cX16_better 42 = .ok (.aload_n 0, 1) := by decide +kernel
theorem dX16_better_43 : decode cX16_better 43 = .ok (.getfield 324, 3) := by decide +kernel
theorem dX16_better_46 : decode cX16_better 46 = .ok (.iload_n 2, 1) := by decide +kernel
theorem dX16_better_47 : decode cX16_better 47 = .ok (.iaload, 1) := by decide +kernel
theorem dX16_better_48 : decode cX16_better 48 = .ok (.if_icmp .lt 33, 3) := by decide +kernel
theorem dX16_better_51 : decode cX16_better 51 = .ok (.aload_n 0, 1) := by decide +kernel
theorem dX16_better_52 : decode cX16_better 52 = .ok (.getfield 324, 3) := by decide +kernel
theorem dX16_better_55 : decode cX16_better 55 = .ok (.iload_n 1, 1) := by decide +kernel
theorem dX16_better_56 : decode cX16_better 56 = .ok (.iaload, 1) := by decide +kernel
theorem dX16_better_57 : decode cX16_better 57 = .ok (.aload_n 0, 1) := by decide +kernel
theorem dX16_better_58 : decode cX16_better 58 = .ok (.getfield 324, 3) := by decide +kernel
theorem dX16_better_61 : decode cX16_better 61 = .ok (.iload_n 2, 1) := by decide +kernel
theorem dX16_better_62 : decode cX16_better 62 = .ok (.iaload, 1) := by decide +kernel
theorem dX16_better_63 : decode cX16_better 63 = .ok (.if_icmp .ne 22, 3) := by decide +kernel
theorem dX16_better_66 : decode cX16_better 66 = .ok (.aload_n 0, 1) := by decide +kernel
theorem dX16_better_67 : decode cX16_better 67 = .ok (.getfield 327, 3) := by decide +kernel
theorem dX16_better_70 : decode cX16_better 70 = .ok (.iload_n 1, 1) := by decide +kernel
theorem dX16_better_71 : decode cX16_better 71 = .ok (.iaload, 1) := by decide +kernel
theorem dX16_better_72 : decode cX16_better 72 = .ok (.aload_n 0, 1) := by decide +kernel
theorem dX16_better_73 : decode cX16_better 73 = .ok (.getfield 327, 3) := by decide +kernel
theorem dX16_better_76 : decode cX16_better 76 = .ok (.iload_n 2, 1) := by decide +kernel
theorem dX16_better_77 : decode cX16_better 77 = .ok (.iaload, 1) := by decide +kernel
theorem dX16_better_78 : decode cX16_better 78 = .ok (.if_icmp .ge 7, 3) := by decide +kernel
theorem dX16_better_81 : decode cX16_better 81 = .ok (.iconst 1, 1) := by decide +kernel
theorem dX16_better_82 : decode cX16_better 82 = .ok (.goto 4, 3) := by decide +kernel
theorem dX16_better_85 : decode cX16_better 85 = .ok (.iconst 0, 1) := by decide +kernel
theorem dX16_better_86 : decode cX16_better 86 = .ok (.ireturn, 1) := by decide +kernel
def j_X16_better_86 (y0 : Int) (V : VV) : Option (Int) :=
  bz y0 (some y0)
def j_X16_better_85 (V : VV) : Option (Int) :=
  j_X16_better_86 0 V
def j_X16_better_81 (V : VV) : Option (Int) :=
  j_X16_better_86 1 V
def j_X16_better_35 (y0 : Int) (V : VV) : Option (Int) :=
  bz y0 (some y0)
def f_X16_better (x1 x2 : Int) (V : VV) : Option (Int) :=
  (l2 261 8800 x1 V).bind fun v1 =>
  (l2 261 8800 x2 V).bind fun v2 =>
  if w32 v1 = w32 v2 then
    (l2 259 8800 x1 V).bind fun v3 =>
    (l2 259 8800 x2 V).bind fun v4 =>
    if w32 v3 < w32 v4 then
      j_X16_better_81 V
    else
      (l2 259 8800 x1 V).bind fun v5 =>
      (l2 259 8800 x2 V).bind fun v6 =>
      if w32 v5 = w32 v6 then
        (l2 260 8800 x1 V).bind fun v7 =>
        (l2 260 8800 x2 V).bind fun v8 =>
        if w32 v7 < w32 v8 then
          j_X16_better_81 V
        else
          j_X16_better_85 V
      else
        j_X16_better_85 V
  else
    (l2 261 8800 x1 V).bind fun v9 =>
    (l2 261 8800 x2 V).bind fun v10 =>
    if w32 v10 < w32 v9 then
      j_X16_better_35 1 V
    else
      j_X16_better_35 0 V
theorem s_X16_better_86 {g : GG} {d : Nat} (hD : 0 ≤ d) {y0 : Int} {M : MM} (hM : LM M) {V : VV} {o : AV × MM} {P : (Int) → Prop} (r0 : ∀ r : Int, P r → o = ((0, r), (wr M V))) {z : Int} (h : j_X16_better_86 y0 V = some z) (hz : P z) : Sem g d YX16_better 86 [(9, 0), (9, 0), (9, 0)] [(0, y0)] (wr M V) o := by
  delta j_X16_better_86 at h
  obtain ⟨hb, h⟩ := bz_some h
  obtain rfl := r0 _ (some_P (P := fun r => P r) h hz)
  exact P_ret dX16_better_86 rfl (Or.inr ⟨rfl, hb⟩)
theorem s_X16_better_85 {g : GG} {d : Nat} (hD : 0 ≤ d) {M : MM} (hM : LM M) {V : VV} {o : AV × MM} {P : (Int) → Prop} (r0 : ∀ r : Int, P r → o = ((0, r), (wr M V))) {z : Int} (h : j_X16_better_85 V = some z) (hz : P z) : Sem g d YX16_better 85 [(9, 0), (9, 0), (9, 0)] [] (wr M V) o := by
  delta j_X16_better_85 at h
  refine S_iconst dX16_better_85 rfl ?_
  exact s_X16_better_86 hD hM r0 h hz
theorem s_X16_better_81 {g : GG} {d : Nat} (hD : 0 ≤ d) {M : MM} (hM : LM M) {V : VV} {o : AV × MM} {P : (Int) → Prop} (r0 : ∀ r : Int, P r → o = ((0, r), (wr M V))) {z : Int} (h : j_X16_better_81 V = some z) (hz : P z) : Sem g d YX16_better 81 [(9, 0), (9, 0), (9, 0)] [] (wr M V) o := by
  delta j_X16_better_81 at h
  refine S_iconst dX16_better_81 rfl ?_
  refine S_goto (tgt := 86) dX16_better_82 rfl ?_
  exact s_X16_better_86 hD hM r0 h hz
theorem s_X16_better_35 {g : GG} {d : Nat} (hD : 0 ≤ d) {y0 : Int} {M : MM} (hM : LM M) {V : VV} {o : AV × MM} {P : (Int) → Prop} (r0 : ∀ r : Int, P r → o = ((0, r), (wr M V))) {z : Int} (h : j_X16_better_35 y0 V = some z) (hz : P z) : Sem g d YX16_better 35 [(9, 0), (9, 0), (9, 0)] [(0, y0)] (wr M V) o := by
  delta j_X16_better_35 at h
  obtain ⟨hb, h⟩ := bz_some h
  obtain rfl := r0 _ (some_P (P := fun r => P r) h hz)
  exact P_ret dX16_better_35 rfl (Or.inr ⟨rfl, hb⟩)
theorem s_X16_better_0 {g : GG} {d : Nat} (hD : 0 ≤ d) {x1 x2 : Int} {M : MM} (hM : LM M) {V : VV} {o : AV × MM} {P : (Int) → Prop} (r0 : ∀ r : Int, P r → o = ((0, r), (wr M V))) {z : Int} (h : f_X16_better x1 x2 V = some z) (hz : P z) : Sem g d YX16_better 0 [(1, 156), (0, x1), (0, x2)] [] (wr M V) o := by
  delta f_X16_better at h
  refine S_aload_n (i := 0) dX16_better_0 rfl rfl ?_
  refine P2_gfr hM (a := 261) FLX16_330 rfl ⟨rfl, rfl⟩ dX16_better_1 ?_
  refine S_iload_n (i := 1) dX16_better_4 rfl rfl ?_
  refine P2_lai hM (a := 261) (n := 8800) rfl dX16_better_5 h (fun v1 h => ?_)
  refine S_aload_n (i := 0) dX16_better_6 rfl rfl ?_
  refine P2_gfr hM (a := 261) FLX16_330 rfl ⟨rfl, rfl⟩ dX16_better_7 ?_
  refine S_iload_n (i := 2) dX16_better_10 rfl rfl ?_
  refine P2_lai hM (a := 261) (n := 8800) rfl dX16_better_11 h (fun v2 h => ?_)
  refine P_icmp_eq (tgt := 36) dX16_better_12 rfl h (fun h => ?_) (fun h => ?_)
  · refine S_aload_n (i := 0) dX16_better_36 rfl rfl ?_
    refine P2_gfr hM (a := 259) FLX16_324 rfl ⟨rfl, rfl⟩ dX16_better_37 ?_
    refine S_iload_n (i := 1) dX16_better_40 rfl rfl ?_
    refine P2_lai hM (a := 259) (n := 8800) rfl dX16_better_41 h (fun v3 h => ?_)
    refine S_aload_n (i := 0) dX16_better_42 rfl rfl ?_
    refine P2_gfr hM (a := 259) FLX16_324 rfl ⟨rfl, rfl⟩ dX16_better_43 ?_
    refine S_iload_n (i := 2) dX16_better_46 rfl rfl ?_
    refine P2_lai hM (a := 259) (n := 8800) rfl dX16_better_47 h (fun v4 h => ?_)
    refine P_icmp_lt (tgt := 81) dX16_better_48 rfl h (fun h => ?_) (fun h => ?_)
    · refine S_weak (ls' := [(9, 0), (9, 0), (9, 0)]) ⟨Or.inl rfl, ⟨Or.inl rfl, ⟨Or.inl rfl, trivial⟩⟩⟩ ?_
      exact s_X16_better_81 hD hM r0 h hz
    · refine S_aload_n (i := 0) dX16_better_51 rfl rfl ?_
      refine P2_gfr hM (a := 259) FLX16_324 rfl ⟨rfl, rfl⟩ dX16_better_52 ?_
      refine S_iload_n (i := 1) dX16_better_55 rfl rfl ?_
      refine P2_lai hM (a := 259) (n := 8800) rfl dX16_better_56 h (fun v5 h => ?_)
      refine S_aload_n (i := 0) dX16_better_57 rfl rfl ?_
      refine P2_gfr hM (a := 259) FLX16_324 rfl ⟨rfl, rfl⟩ dX16_better_58 ?_
      refine S_iload_n (i := 2) dX16_better_61 rfl rfl ?_
      refine P2_lai hM (a := 259) (n := 8800) rfl dX16_better_62 h (fun v6 h => ?_)
      refine P_icmp_ne (tgt := 85) dX16_better_63 rfl h (fun h => ?_) (fun h => ?_)
      · refine S_weak (ls' := [(9, 0), (9, 0), (9, 0)]) ⟨Or.inl rfl, ⟨Or.inl rfl, ⟨Or.inl rfl, trivial⟩⟩⟩ ?_
        exact s_X16_better_85 hD hM r0 h hz
      · refine S_aload_n (i := 0) dX16_better_66 rfl rfl ?_
        refine P2_gfr hM (a := 260) FLX16_327 rfl ⟨rfl, rfl⟩ dX16_better_67 ?_
        refine S_iload_n (i := 1) dX16_better_70 rfl rfl ?_
        refine P2_lai hM (a := 260) (n := 8800) rfl dX16_better_71 h (fun v7 h => ?_)
        refine S_aload_n (i := 0) dX16_better_72 rfl rfl ?_
        refine P2_gfr hM (a := 260) FLX16_327 rfl ⟨rfl, rfl⟩ dX16_better_73 ?_
        refine S_iload_n (i := 2) dX16_better_76 rfl rfl ?_
        refine P2_lai hM (a := 260) (n := 8800) rfl dX16_better_77 h (fun v8 h => ?_)
        refine P_icmp_ge (tgt := 85) dX16_better_78 rfl h (fun h => ?_) (fun h => ?_)
        · refine S_weak (ls' := [(9, 0), (9, 0), (9, 0)]) ⟨Or.inl rfl, ⟨Or.inl rfl, ⟨Or.inl rfl, trivial⟩⟩⟩ ?_
          exact s_X16_better_85 hD hM r0 h hz
        · refine S_weak (ls' := [(9, 0), (9, 0), (9, 0)]) ⟨Or.inl rfl, ⟨Or.inl rfl, ⟨Or.inl rfl, trivial⟩⟩⟩ ?_
          exact s_X16_better_81 hD hM r0 h hz
  · refine S_aload_n (i := 0) dX16_better_15 rfl rfl ?_
    refine P2_gfr hM (a := 261) FLX16_330 rfl ⟨rfl, rfl⟩ dX16_better_16 ?_
    refine S_iload_n (i := 1) dX16_better_19 rfl rfl ?_
    refine P2_lai hM (a := 261) (n := 8800) rfl dX16_better_20 h (fun v9 h => ?_)
    refine S_aload_n (i := 0) dX16_better_21 rfl rfl ?_
    refine P2_gfr hM (a := 261) FLX16_330 rfl ⟨rfl, rfl⟩ dX16_better_22 ?_
    refine S_iload_n (i := 2) dX16_better_25 rfl rfl ?_
    refine P2_lai hM (a := 261) (n := 8800) rfl dX16_better_26 h (fun v10 h => ?_)
    refine P_icmp_le (tgt := 34) dX16_better_27 rfl h (fun h => ?_) (fun h => ?_)
    · refine S_iconst dX16_better_34 rfl ?_
      refine S_weak (ls' := [(9, 0), (9, 0), (9, 0)]) ⟨Or.inl rfl, ⟨Or.inl rfl, ⟨Or.inl rfl, trivial⟩⟩⟩ ?_
      exact s_X16_better_35 hD hM r0 h hz
    · refine S_iconst dX16_better_30 rfl ?_
      refine S_goto (tgt := 35) dX16_better_31 rfl ?_
      refine S_weak (ls' := [(9, 0), (9, 0), (9, 0)]) ⟨Or.inl rfl, ⟨Or.inl rfl, ⟨Or.inl rfl, trivial⟩⟩⟩ ?_
      exact s_X16_better_35 hD hM r0 h hz
theorem F_X16_better {g : GG} {d : Nat} (hD : 0 ≤ d) {x1 x2 : Int} {M : MM} (hM : LM M) {V : VV} {r : Int} (h : f_X16_better x1 x2 V = some r) : Sem g d YX16_better 0 (ini YX16_better [(1, 156), (0, x1), (0, x2)]) [] (wr M V) ((0, r), (wr M V)) := by
  change Sem g d YX16_better 0 [(1, 156), (0, x1), (0, x2)] [] (wr M V) ((0, r), (wr M V))
  exact s_X16_better_0 hD hM (P := fun x => x = r) (fun q e => by rw [e]) h rfl
/-! PeerSearchModel.ranked(I)V -/
theorem dX16_ranked_0 : decode cX16_ranked 0 = .ok (.aload_n 0, 1) := by decide +kernel
theorem dX16_ranked_1 : decode cX16_ranked 1 = .ok (.getfield 234, 3) := by decide +kernel
theorem dX16_ranked_4 : decode cX16_ranked 4 = .ok (.iload_n 1, 1) := by decide +kernel
theorem dX16_ranked_5 : decode cX16_ranked 5 = .ok (.iaload, 1) := by decide +kernel
theorem dX16_ranked_6 : decode cX16_ranked 6 = .ok (.istore_n 2, 1) := by decide +kernel
theorem dX16_ranked_7 : decode cX16_ranked 7 = .ok (.aload_n 0, 1) := by decide +kernel
theorem dX16_ranked_8 : decode cX16_ranked 8 = .ok (.getfield 321, 3) := by decide +kernel
theorem dX16_ranked_11 : decode cX16_ranked 11 = .ok (.iload_n 1, 1) := by decide +kernel
theorem dX16_ranked_12 : decode cX16_ranked 12 = .ok (.iaload, 1) := by decide +kernel
theorem dX16_ranked_13 : decode cX16_ranked 13 = .ok (.bipush 60, 2) := by decide +kernel
theorem dX16_ranked_15 : decode cX16_ranked 15 = .ok (.if_icmp .ge 12, 3) := by decide +kernel
theorem dX16_ranked_18 : decode cX16_ranked 18 = .ok (.aload_n 0, 1) := by decide +kernel
theorem dX16_ranked_19 : decode cX16_ranked 19 = .ok (.getfield 321, 3) := by decide +kernel
theorem dX16_ranked_22 : decode cX16_ranked 22 = .ok (.iload_n 1, 1) := by decide +kernel
theorem dX16_ranked_23 : decode cX16_ranked 23 = .ok (.iaload, 1) := by decide +kernel
theorem dX16_ranked_24 : decode cX16_ranked 24 = .ok (.goto 5, 3) := by decide +kernel
theorem dX16_ranked_27 : decode cX16_ranked 27 = .ok (.bipush 60, 2) := by decide +kernel
theorem dX16_ranked_29 : decode cX16_ranked 29 = .ok (.istore_n 3, 1) := by decide +kernel
theorem dX16_ranked_30 : decode cX16_ranked 30 = .ok (.iconst 0, 1) := by decide +kernel
theorem dX16_ranked_31 : decode cX16_ranked 31 = .ok (.istore 4, 2) := by decide +kernel
theorem dX16_ranked_33 : decode cX16_ranked 33 = .ok (.iload 4, 2) := by decide +kernel
theorem dX16_ranked_35 : decode cX16_ranked 35 = .ok (.aload_n 0, 1) := by decide +kernel
theorem dX16_ranked_36 : decode cX16_ranked 36 = .ok (.getfield 321, 3) := by decide +kernel
theorem dX16_ranked_39 : decode cX16_ranked 39 = .ok (.iload_n 1, 1) := by decide +kernel
theorem dX16_ranked_40 : decode cX16_ranked 40 = .ok (.iaload, 1) := by decide +kernel
theorem dX16_ranked_41 : decode cX16_ranked 41 = .ok (.if_icmp .ge 23, 3) := by decide +kernel
theorem dX16_ranked_44 : decode cX16_ranked 44 = .ok (.aload_n 0, 1) := by decide +kernel
theorem dX16_ranked_45 : decode cX16_ranked 45 = .ok (.getfield 333, 3) := by decide +kernel
theorem dX16_ranked_48 : decode cX16_ranked 48 = .ok (.sipush 200, 3) := by decide +kernel
theorem dX16_ranked_51 : decode cX16_ranked 51 = .ok (.iload_n 1, 1) := by decide +kernel
theorem dX16_ranked_52 : decode cX16_ranked 52 = .ok (.imul, 1) := by decide +kernel
theorem dX16_ranked_53 : decode cX16_ranked 53 = .ok (.iload 4, 2) := by decide +kernel
theorem dX16_ranked_55 : decode cX16_ranked 55 = .ok (.iadd, 1) := by decide +kernel
theorem dX16_ranked_56 : decode cX16_ranked 56 = .ok (.iconst 1, 1) := by decide +kernel
theorem dX16_ranked_57 : decode cX16_ranked 57 = .ok (.bastore, 1) := by decide +kernel
theorem dX16_ranked_58 : decode cX16_ranked 58 = .ok (.iinc 4 1, 3) := by decide +kernel
theorem dX16_ranked_61 : decode cX16_ranked 61 = .ok (.goto (-28), 3) := by decide +kernel
theorem dX16_ranked_64 : decode cX16_ranked 64 = .ok (.iconst 0, 1) := by decide +kernel
theorem dX16_ranked_65 : decode cX16_ranked 65 = .ok (.istore 4, 2) := by decide +kernel
theorem dX16_ranked_67 : decode cX16_ranked 67 = .ok (.iload 4, 2) := by decide +kernel
theorem dX16_ranked_69 : decode cX16_ranked 69 = .ok (.iload_n 3, 1) := by decide +kernel
theorem dX16_ranked_70 : decode cX16_ranked 70 = .ok (.if_icmp .ge 150, 3) := by decide +kernel
theorem dX16_ranked_73 : decode cX16_ranked 73 = .ok (.iconst (-1), 1) := by decide +kernel
theorem dX16_ranked_74 : decode cX16_ranked 74 = .ok (.istore 5, 2) := by decide +kernel
theorem dX16_ranked_76 : decode cX16_ranked 76 = .ok (.sipush 200, 3) := by decide +kernel
theorem dX16_ranked_79 : decode cX16_ranked 79 = .ok (.iload_n 1, 1) := by decide +kernel
theorem dX16_ranked_80 : decode cX16_ranked 80 = .ok (.imul, 1) := by decide +kernel
theorem dX16_ranked_81 : decode cX16_ranked 81 = .ok (.istore 6, 2) := by decide +kernel
theorem dX16_ranked_83 : decode cX16_ranked 83 = .ok (.iload 6, 2) := by decide +kernel
theorem dX16_ranked_85 : decode cX16_ranked 85 = .ok (.sipush 200, 3) := by decide +kernel
theorem dX16_ranked_88 : decode cX16_ranked 88 = .ok (.iload_n 1, 1) := by decide +kernel
theorem dX16_ranked_89 : decode cX16_ranked 89 = .ok (.imul, 1) := by decide +kernel
theorem dX16_ranked_90 : decode cX16_ranked 90 = .ok (.aload_n 0, 1) := by decide +kernel
theorem dX16_ranked_91 : decode cX16_ranked 91 = .ok (.getfield 321, 3) := by decide +kernel
theorem dX16_ranked_94 : decode cX16_ranked 94 = .ok (.iload_n 1, 1) := by decide +kernel
theorem dX16_ranked_95 : decode cX16_ranked 95 = .ok (.iaload, 1) := by decide +kernel
theorem dX16_ranked_96 : decode cX16_ranked 96 = .ok (.iadd, 1) := by decide +kernel
theorem dX16_ranked_97 : decode cX16_ranked 97 = .ok (.if_icmp .ge 39, 3) := by decide +kernel
theorem dX16_ranked_100 : decode cX16_ranked 100 = .ok (.aload_n 0, 1) := by decide +kernel
theorem dX16_ranked_101 : decode cX16_ranked 101 = .ok (.getfield 333, 3) := by decide +kernel
theorem dX16_ranked_104 : decode cX16_ranked 104 = .ok (.iload 6, 2) := by decide +kernel
theorem dX16_ranked_106 : decode cX16_ranked 106 = .ok (.baload, 1) := by decide +kernel
theorem dX16_ranked_107 : decode cX16_ranked 107 = .ok (.ifCond .eq 23, 3) := by decide +kernel
theorem dX16_ranked_110 : decode cX16_ranked 110 = .ok (.iload 5, 2) := by decide +kernel
theorem dX16_ranked_112 : decode cX16_ranked 112 = .ok (.ifCond .lt 14, 3) := by decide +kernel
theorem dX16_ranked_115 : decode cX16_ranked 115 = .ok (.aload_n 0, 1) := by decide +kernel
theorem dX16_ranked_116 : decode cX16_ranked 116 = .ok (.iload 6, 2) := by decide +kernel
theorem dX16_ranked_118 : decode cX16_ranked 118 = .ok (.iload 5, 2) := by decide +kernel
theorem dX16_ranked_120 : decode cX16_ranked 120 = .ok (.invokevirtual 711, 3) := by decide +kernel
theorem dX16_ranked_123 : decode cX16_ranked 123 = .ok (.ifCond .eq 7, 3) := by decide +kernel
theorem dX16_ranked_126 : decode cX16_ranked 126 = .ok (.iload 6, 2) := by decide +kernel
theorem dX16_ranked_128 : decode cX16_ranked 128 = .ok (.istore 5, 2) := by decide +kernel
theorem dX16_ranked_130 : decode cX16_ranked 130 = .ok (.iinc 6 1, 3) := by decide +kernel
theorem dX16_ranked_133 : decode cX16_ranked 133 = .ok (.goto (-50), 3) := by decide +kernel
theorem dX16_ranked_136 : decode cX16_ranked 136 = .ok (.aload_n 0, 1) := by decide +kernel
theorem dX16_ranked_137 : decode cX16_ranked 137 = .ok (.getfield 333, 3) := by decide +kernel
theorem dX16_ranked_140 : decode cX16_ranked 140 = .ok (.iload 5, 2) := by decide +kernel
theorem dX16_ranked_142 : decode cX16_ranked 142 = .ok (.iconst 0, 1) := by decide +kernel
theorem dX16_ranked_143 : decode cX16_ranked 143 = .ok (.bastore, 1) := by decide +kernel
theorem dX16_ranked_144 : decode cX16_ranked 144 = .ok (.aload_n 0, 1) := by decide +kernel
theorem dX16_ranked_145 : decode cX16_ranked 145 = .ok (.getfield 358, 3) := by decide +kernel
theorem dX16_ranked_148 : decode cX16_ranked 148 = .ok (.sipush 180, 3) := by decide +kernel
theorem dX16_ranked_151 : decode cX16_ranked 151 = .ok (.iload_n 2, 1) := by decide +kernel
theorem dX16_ranked_152 : decode cX16_ranked 152 = .ok (.imul, 1) := by decide +kernel
theorem dX16_ranked_153 : decode cX16_ranked 153 = .ok (.iconst 3, 1) := by decide +kernel
theorem dX16_ranked_154 : decode cX16_ranked 154 = .ok (.iload 4, 2) := by decide +kernel
theorem dX16_ranked_156 : decode cX16_ranked 156 = .ok (.imul, 1) := by decide +kernel
theorem dX16_ranked_157 : decode cX16_ranked 157 = .ok (.iadd, 1) := by decide +kernel
theorem dX16_ranked_158 : decode cX16_ranked 158 = .ok (.aload_n 0, 1) := by decide +kernel
theorem dX16_ranked_159 : decode cX16_ranked 159 = .ok (.getfield 324, 3) := by decide +kernel
theorem dX16_ranked_162 : decode cX16_ranked 162 = .ok (.iload 5, 2) := by decide +kernel
theorem dX16_ranked_164 : decode cX16_ranked 164 = .ok (.iaload, 1) := by decide +kernel
theorem dX16_ranked_165 : decode cX16_ranked 165 = .ok (.iastore, 1) := by decide +kernel
theorem dX16_ranked_166 : decode cX16_ranked 166 = .ok (.aload_n 0, 1) := by decide +kernel
theorem dX16_ranked_167 : decode cX16_ranked 167 = .ok (.getfield 358, 3) := by decide +kernel
theorem dX16_ranked_170 : decode cX16_ranked 170 = .ok (.sipush 180, 3) := by decide +kernel
theorem dX16_ranked_173 : decode cX16_ranked 173 = .ok (.iload_n 2, 1) := by decide +kernel
theorem dX16_ranked_174 : decode cX16_ranked 174 = .ok (.imul, 1) := by decide +kernel
theorem dX16_ranked_175 : decode cX16_ranked 175 = .ok (.iconst 3, 1) := by decide +kernel
theorem dX16_ranked_176 : decode cX16_ranked 176 = .ok (.iload 4, 2) := by decide +kernel
theorem dX16_ranked_178 : decode cX16_ranked 178 = .ok (.imul, 1) := by decide +kernel
theorem dX16_ranked_179 : decode cX16_ranked 179 = .ok (.iadd, 1) := by decide +kernel
theorem dX16_ranked_180 : decode cX16_ranked 180 = .ok (.iconst 1, 1) := by decide +kernel
theorem dX16_ranked_181 : decode cX16_ranked 181 = .ok (.iadd, 1) := by decide +kernel
theorem dX16_ranked_182 : decode cX16_ranked 182 = .ok (.aload_n 0, 1) := by decide +kernel
theorem dX16_ranked_183 : decode cX16_ranked 183 = .ok (.getfield 327, 3) := by decide +kernel
theorem dX16_ranked_186 : decode cX16_ranked 186 = .ok (.iload 5, 2) := by decide +kernel
theorem dX16_ranked_188 : decode cX16_ranked 188 = .ok (.iaload, 1) := by decide +kernel
theorem dX16_ranked_189 : decode cX16_ranked 189 = .ok (.iastore, 1) := by decide +kernel
theorem dX16_ranked_190 : decode cX16_ranked 190 = .ok (.aload_n 0, 1) := by decide +kernel
theorem dX16_ranked_191 : decode cX16_ranked 191 = .ok (.getfield 358, 3) := by decide +kernel
theorem dX16_ranked_194 : decode cX16_ranked 194 = .ok (.sipush 180, 3) := by decide +kernel
theorem dX16_ranked_197 : decode cX16_ranked 197 = .ok (.iload_n 2, 1) := by decide +kernel
theorem dX16_ranked_198 : decode cX16_ranked 198 = .ok (.imul, 1) := by decide +kernel
theorem dX16_ranked_199 : decode cX16_ranked 199 = .ok (.iconst 3, 1) := by decide +kernel
theorem dX16_ranked_200 : decode cX16_ranked 200 = .ok (.iload 4, 2) := by decide +kernel
theorem dX16_ranked_202 : decode cX16_ranked 202 = .ok (.imul, 1) := by decide +kernel
theorem dX16_ranked_203 : decode cX16_ranked 203 = .ok (.iadd, 1) := by decide +kernel
theorem dX16_ranked_204 : decode cX16_ranked 204 = .ok (.iconst 2, 1) := by decide +kernel
theorem dX16_ranked_205 : decode cX16_ranked 205 = .ok (.iadd, 1) := by decide +kernel
theorem dX16_ranked_206 : decode cX16_ranked 206 = .ok (.aload_n 0, 1) := by decide +kernel
theorem dX16_ranked_207 : decode cX16_ranked 207 = .ok (.getfield 330, 3) := by decide +kernel
theorem dX16_ranked_210 : decode cX16_ranked 210 = .ok (.iload 5, 2) := by decide +kernel
theorem dX16_ranked_212 : decode cX16_ranked 212 = .ok (.iaload, 1) := by decide +kernel
theorem dX16_ranked_213 : decode cX16_ranked 213 = .ok (.iastore, 1) := by decide +kernel
theorem dX16_ranked_214 : decode cX16_ranked 214 = .ok (.iinc 4 1, 3) := by decide +kernel
theorem dX16_ranked_217 : decode cX16_ranked 217 = .ok (.goto (-150), 3) := by decide +kernel
theorem dX16_ranked_220 : decode cX16_ranked 220 = .ok (.aload_n 0, 1) := by decide +kernel
theorem dX16_ranked_221 : decode cX16_ranked 221 = .ok (.getfield 354, 3) := by decide +kernel
theorem dX16_ranked_224 : decode cX16_ranked 224 = .ok (.iload_n 2, 1) := by decide +kernel
theorem dX16_ranked_225 : decode cX16_ranked 225 = .ok (.iload_n 3, 1) := by decide +kernel
theorem dX16_ranked_226 : decode cX16_ranked 226 = .ok (.iastore, 1) := by decide +kernel
theorem dX16_ranked_227 : decode cX16_ranked 227 = .ok (.aload_n 0, 1) := by decide +kernel
theorem dX16_ranked_228 : decode cX16_ranked 228 = .ok (.iload_n 1, 1) := by decide +kernel
theorem dX16_ranked_229 : decode cX16_ranked 229 = .ok (.iconst 1, 1) := by decide +kernel
theorem dX16_ranked_230 : decode cX16_ranked 230 = .ok (.invokevirtual 659, 3) := by decide +kernel
theorem dX16_ranked_233 : decode cX16_ranked 233 = .ok (.return_, 1) := by decide +kernel
def j_X16_ranked_220 (x1 x2 x3 : Int) (V : VV) : Option (VV) :=
  (s2 269 256 x2 x3 V).bind fun V1 =>
  (f_X16_close x1 1 V1).bind fun V2 =>
  some V2
def j_X16_ranked_136 (x1 x2 x3 x4 x5 : Int) (V : VV) : Option ((Int × VV) ⊕ (VV)) :=
  (s2z 262 8800 x5 0 V).bind fun V1 =>
  (l2 259 8800 x5 V1).bind fun v1 =>
  (s2 270 46080 ((180 * x2) + (3 * x4)) v1 V1).bind fun V2 =>
  (l2 260 8800 x5 V2).bind fun v2 =>
  (s2 270 46080 (((180 * x2) + (3 * x4)) + 1) v2 V2).bind fun V3 =>
  (l2 261 8800 x5 V3).bind fun v3 =>
  (s2 270 46080 (((180 * x2) + (3 * x4)) + 2) v3 V3).bind fun V4 =>
  cnt (x4 + 1, V4)
def j_X16_ranked_130 (x1 x2 x3 x4 x5 x6 : Int) (V : VV) : Option ((Int × Int) ⊕ ((Int × VV) ⊕ (VV))) :=
  cnt (x5, x6 + 1)
def j_X16_ranked_126 (x1 x2 x3 x4 x6 : Int) (V : VV) : Option ((Int × Int) ⊕ ((Int × VV) ⊕ (VV))) :=
  j_X16_ranked_130 x1 x2 x3 x4 x6 x6 V
def b_X16_ranked_83 (x1 x2 x3 x4 x5 x6 : Int) (V : VV) : Option ((Int × Int) ⊕ ((Int × VV) ⊕ (VV))) :=
  (l2 258 44 x1 V).bind fun v1 =>
  if w32 x6 < w32 ((200 * x1) + v1) then
    (l2 262 8800 x6 V).bind fun v2 =>
    if w32 v2 = 0 then
      j_X16_ranked_130 x1 x2 x3 x4 x5 x6 V
    else
      if w32 x5 < 0 then
        j_X16_ranked_126 x1 x2 x3 x4 x6 V
      else
        (f_X16_better x6 x5 V).bind fun v3 =>
        if w32 v3 = 0 then
          j_X16_ranked_130 x1 x2 x3 x4 x5 x6 V
        else
          j_X16_ranked_126 x1 x2 x3 x4 x6 V
  else
    xit (j_X16_ranked_136 x1 x2 x3 x4 x5 V)
def l_X16_ranked_83 (x1 x2 x3 x4 x5 x6 : Int) (V : VV) : Option ((Int × VV) ⊕ (VV)) := lpN (fun s : Int × Int => b_X16_ranked_83 x1 x2 x3 x4 s.1 s.2 V) FU (x5, x6)
def b_X16_ranked_67 (x1 x2 x3 x4 : Int) (V : VV) : Option ((Int × VV) ⊕ (VV)) :=
  if w32 x4 < w32 x3 then
    l_X16_ranked_83 x1 x2 x3 x4 (-1) (200 * x1) V
  else
    xit (j_X16_ranked_220 x1 x2 x3 V)
def l_X16_ranked_67 (x1 x2 x3 x4 : Int) (V : VV) : Option (VV) := lpN (fun s : Int × VV => b_X16_ranked_67 x1 x2 x3 s.1 s.2) FU (x4, V)
def j_X16_ranked_64 (x1 x2 x3 : Int) (V : VV) : Option (VV) :=
  l_X16_ranked_67 x1 x2 x3 0 V
def b_X16_ranked_33 (x1 x2 x3 x4 : Int) (V : VV) : Option ((Int × VV) ⊕ (VV)) :=
  (l2 258 44 x1 V).bind fun v1 =>
  if w32 x4 < w32 v1 then
    (s2z 262 8800 ((200 * x1) + x4) 1 V).bind fun V1 =>
    cnt (x4 + 1, V1)
  else
    xit (j_X16_ranked_64 x1 x2 x3 V)
def l_X16_ranked_33 (x1 x2 x3 x4 : Int) (V : VV) : Option (VV) := lpN (fun s : Int × VV => b_X16_ranked_33 x1 x2 x3 s.1 s.2) FU (x4, V)
def j_X16_ranked_29 (x1 x2 y0 : Int) (V : VV) : Option (VV) :=
  l_X16_ranked_33 x1 x2 y0 0 V
def f_X16_ranked (x1 : Int) (V : VV) : Option (VV) :=
  (l2 229 44 x1 V).bind fun v1 =>
  (l2 258 44 x1 V).bind fun v2 =>
  if w32 v2 < w32 60 then
    (l2 258 44 x1 V).bind fun v3 =>
    j_X16_ranked_29 x1 v1 v3 V
  else
    j_X16_ranked_29 x1 v1 60 V
theorem s_X16_ranked_220 {g : GG} {d : Nat} (hD : 1 ≤ d) {x1 x2 x3 : Int} {M : MM} (hM : LM M) {V : VV} {o : AV × MM} {P : (VV) → Prop} (r0 : ∀ r : VV, P r → o = ((9, 0), (wr M r))) {z : VV} (h : j_X16_ranked_220 x1 x2 x3 V = some z) (hz : P z) : Sem g d YX16_ranked 220 [(1, 156), (0, x1), (0, x2), (0, x3), (9, 0), (9, 0), (9, 0)] [] (wr M V) o := by
  delta j_X16_ranked_220 at h
  refine S_aload_n (i := 0) dX16_ranked_220 rfl rfl ?_
  refine P2_gfr hM (a := 269) FLX16_354 rfl ⟨rfl, rfl⟩ dX16_ranked_221 ?_
  refine S_iload_n (i := 2) dX16_ranked_224 rfl rfl ?_
  refine S_iload_n (i := 3) dX16_ranked_225 rfl rfl ?_
  refine P2_sai hM (a := 269) (n := 256) rfl dX16_ranked_226 h (fun V1 h => ?_)
  refine S_aload_n (i := 0) dX16_ranked_227 rfl rfl ?_
  refine S_iload_n (i := 1) dX16_ranked_228 rfl rfl ?_
  refine S_iconst dX16_ranked_229 rfl ?_
  refine P2_invVm hM [(0, x1), (0, 1)] [] CVX16_close MLX16_659 dX16_ranked_230 rfl rfl rfl rfl (by omega) h (fun r h => F_X16_close (by omega) hM h) (fun V2 h => ?_)
  obtain rfl := r0 _ (some_P (P := fun r => P r) h hz)
  exact S_return dX16_ranked_233 rfl
theorem s_X16_ranked_136 {g : GG} {d : Nat} (hD : 1 ≤ d) {x1 x2 x3 x4 x5 : Int} {M : MM} (hM : LM M) {V : VV} {o : AV × MM} {P : ((Int × VV) ⊕ (VV)) → Prop} (c0 : ∀ s : Int × VV, P (.inl s) → Sem g d YX16_ranked 67 [(1, 156), (0, x1), (0, x2), (0, x3), (0, s.1), (9, 0), (9, 0)] [] (wr M s.2) o) (r0 : ∀ r : VV, P (.inr r) → o = ((9, 0), (wr M r))) {z : (Int × VV) ⊕ (VV)} (h : j_X16_ranked_136 x1 x2 x3 x4 x5 V = some z) (hz : P z) : Sem g d YX16_ranked 136 [(1, 156), (0, x1), (0, x2), (0, x3), (0, x4), (0, x5), (9, 0)] [] (wr M V) o := by
  delta j_X16_ranked_136 at h
  refine S_aload_n (i := 0) dX16_ranked_136 rfl rfl ?_
  refine P2_gfr hM (a := 262) FLX16_333 rfl ⟨rfl, rfl⟩ dX16_ranked_137 ?_
  refine S_iload dX16_ranked_140 rfl ?_
  refine S_iconst dX16_ranked_142 rfl ?_
  refine P2_saz hM (a := 262) (n := 8800) rfl dX16_ranked_143 h (fun V1 h => ?_)
  refine S_aload_n (i := 0) dX16_ranked_144 rfl rfl ?_
  refine P2_gfr hM (a := 270) FLX16_358 rfl ⟨rfl, rfl⟩ dX16_ranked_145 ?_
  refine S_sipush (z := 180) dX16_ranked_148 rfl ?_
  refine S_iload_n (i := 2) dX16_ranked_151 rfl rfl ?_
  refine S_imul dX16_ranked_152 ?_
  refine S_iconst dX16_ranked_153 rfl ?_
  refine S_iload dX16_ranked_154 rfl ?_
  refine S_imul dX16_ranked_156 ?_
  refine S_iadd dX16_ranked_157 ?_
  refine S_aload_n (i := 0) dX16_ranked_158 rfl rfl ?_
  refine P2_gfr hM (a := 259) FLX16_324 rfl ⟨rfl, rfl⟩ dX16_ranked_159 ?_
  refine S_iload dX16_ranked_162 rfl ?_
  refine P2_lai hM (a := 259) (n := 8800) rfl dX16_ranked_164 h (fun v1 h => ?_)
  refine P2_sai hM (a := 270) (n := 46080) rfl dX16_ranked_165 h (fun V2 h => ?_)
  refine S_aload_n (i := 0) dX16_ranked_166 rfl rfl ?_
  refine P2_gfr hM (a := 270) FLX16_358 rfl ⟨rfl, rfl⟩ dX16_ranked_167 ?_
  refine S_sipush (z := 180) dX16_ranked_170 rfl ?_
  refine S_iload_n (i := 2) dX16_ranked_173 rfl rfl ?_
  refine S_imul dX16_ranked_174 ?_
  refine S_iconst dX16_ranked_175 rfl ?_
  refine S_iload dX16_ranked_176 rfl ?_
  refine S_imul dX16_ranked_178 ?_
  refine S_iadd dX16_ranked_179 ?_
  refine S_iconst dX16_ranked_180 rfl ?_
  refine S_iadd dX16_ranked_181 ?_
  refine S_aload_n (i := 0) dX16_ranked_182 rfl rfl ?_
  refine P2_gfr hM (a := 260) FLX16_327 rfl ⟨rfl, rfl⟩ dX16_ranked_183 ?_
  refine S_iload dX16_ranked_186 rfl ?_
  refine P2_lai hM (a := 260) (n := 8800) rfl dX16_ranked_188 h (fun v2 h => ?_)
  refine P2_sai hM (a := 270) (n := 46080) rfl dX16_ranked_189 h (fun V3 h => ?_)
  refine S_aload_n (i := 0) dX16_ranked_190 rfl rfl ?_
  refine P2_gfr hM (a := 270) FLX16_358 rfl ⟨rfl, rfl⟩ dX16_ranked_191 ?_
  refine S_sipush (z := 180) dX16_ranked_194 rfl ?_
  refine S_iload_n (i := 2) dX16_ranked_197 rfl rfl ?_
  refine S_imul dX16_ranked_198 ?_
  refine S_iconst dX16_ranked_199 rfl ?_
  refine S_iload dX16_ranked_200 rfl ?_
  refine S_imul dX16_ranked_202 ?_
  refine S_iadd dX16_ranked_203 ?_
  refine S_iconst dX16_ranked_204 rfl ?_
  refine S_iadd dX16_ranked_205 ?_
  refine S_aload_n (i := 0) dX16_ranked_206 rfl rfl ?_
  refine P2_gfr hM (a := 261) FLX16_330 rfl ⟨rfl, rfl⟩ dX16_ranked_207 ?_
  refine S_iload dX16_ranked_210 rfl ?_
  refine P2_lai hM (a := 261) (n := 8800) rfl dX16_ranked_212 h (fun v3 h => ?_)
  refine P2_sai hM (a := 270) (n := 46080) rfl dX16_ranked_213 h (fun V4 h => ?_)
  refine S_iinc dX16_ranked_214 rfl rfl rfl ?_
  change Sem g d YX16_ranked 217 [(1, 156), (0, x1), (0, x2), (0, x3), (0, x4 + 1), (0, x5), (9, 0)] [] (wr M V4) o
  refine S_goto (tgt := 67) dX16_ranked_217 rfl ?_
  refine S_weak (ls' := [(1, 156), (0, x1), (0, x2), (0, x3), (0, x4 + 1), (9, 0), (9, 0)]) ⟨Or.inr rfl, ⟨Or.inr rfl, ⟨Or.inr rfl, ⟨Or.inr rfl, ⟨Or.inr rfl, ⟨Or.inl rfl, ⟨Or.inl rfl, trivial⟩⟩⟩⟩⟩⟩⟩ ?_
  exact c0 (x4 + 1, V4) (some_P (P := fun r => P r) h hz)
theorem s_X16_ranked_130 {g : GG} {d : Nat} (hD : 1 ≤ d) {x1 x2 x3 x4 x5 x6 : Int} {M : MM} (hM : LM M) {V : VV} {o : AV × MM} {P : ((Int × Int) ⊕ ((Int × VV) ⊕ (VV))) → Prop} (c1 : ∀ s : Int × Int, P (.inl s) → Sem g d YX16_ranked 83 [(1, 156), (0, x1), (0, x2), (0, x3), (0, x4), (0, s.1), (0, s.2)] [] (wr M V) o) (c0 : ∀ s : Int × VV, P (.inr (.inl s)) → Sem g d YX16_ranked 67 [(1, 156), (0, x1), (0, x2), (0, x3), (0, s.1), (9, 0), (9, 0)] [] (wr M s.2) o) (r0 : ∀ r : VV, P (.inr (.inr r)) → o = ((9, 0), (wr M r))) {z : (Int × Int) ⊕ ((Int × VV) ⊕ (VV))} (h : j_X16_ranked_130 x1 x2 x3 x4 x5 x6 V = some z) (hz : P z) : Sem g d YX16_ranked 130 [(1, 156), (0, x1), (0, x2), (0, x3), (0, x4), (0, x5), (0, x6)] [] (wr M V) o := by
  delta j_X16_ranked_130 at h
  refine S_iinc dX16_ranked_130 rfl rfl rfl ?_
  change Sem g d YX16_ranked 133 [(1, 156), (0, x1), (0, x2), (0, x3), (0, x4), (0, x5), (0, x6 + 1)] [] (wr M V) o
  refine S_goto (tgt := 83) dX16_ranked_133 rfl ?_
  exact c1 (x5, x6 + 1) (some_P (P := fun r => P r) h hz)
theorem s_X16_ranked_126 {g : GG} {d : Nat} (hD : 1 ≤ d) {x1 x2 x3 x4 x6 : Int} {M : MM} (hM : LM M) {V : VV} {o : AV × MM} {P : ((Int × Int) ⊕ ((Int × VV) ⊕ (VV))) → Prop} (c1 : ∀ s : Int × Int, P (.inl s) → Sem g d YX16_ranked 83 [(1, 156), (0, x1), (0, x2), (0, x3), (0, x4), (0, s.1), (0, s.2)] [] (wr M V) o) (c0 : ∀ s : Int × VV, P (.inr (.inl s)) → Sem g d YX16_ranked 67 [(1, 156), (0, x1), (0, x2), (0, x3), (0, s.1), (9, 0), (9, 0)] [] (wr M s.2) o) (r0 : ∀ r : VV, P (.inr (.inr r)) → o = ((9, 0), (wr M r))) {z : (Int × Int) ⊕ ((Int × VV) ⊕ (VV))} (h : j_X16_ranked_126 x1 x2 x3 x4 x6 V = some z) (hz : P z) : Sem g d YX16_ranked 126 [(1, 156), (0, x1), (0, x2), (0, x3), (0, x4), (9, 0), (0, x6)] [] (wr M V) o := by
  delta j_X16_ranked_126 at h
  refine S_iload dX16_ranked_126 rfl ?_
  refine S_istore dX16_ranked_128 (Nat.le_of_ble_eq_true rfl) rfl rfl ?_
  change Sem g d YX16_ranked 130 [(1, 156), (0, x1), (0, x2), (0, x3), (0, x4), (0, x6), (0, x6)] [] (wr M V) o
  exact s_X16_ranked_130 hD hM c1 c0 r0 h hz
theorem s_X16_ranked_83 {g : GG} {d : Nat} (hD : 1 ≤ d) {x1 x2 x3 x4 x5 x6 : Int} {M : MM} (hM : LM M) {V : VV} {o : AV × MM} {P : ((Int × Int) ⊕ ((Int × VV) ⊕ (VV))) → Prop} (c1 : ∀ s : Int × Int, P (.inl s) → Sem g d YX16_ranked 83 [(1, 156), (0, x1), (0, x2), (0, x3), (0, x4), (0, s.1), (0, s.2)] [] (wr M V) o) (c0 : ∀ s : Int × VV, P (.inr (.inl s)) → Sem g d YX16_ranked 67 [(1, 156), (0, x1), (0, x2), (0, x3), (0, s.1), (9, 0), (9, 0)] [] (wr M s.2) o) (r0 : ∀ r : VV, P (.inr (.inr r)) → o = ((9, 0), (wr M r))) {z : (Int × Int) ⊕ ((Int × VV) ⊕ (VV))} (h : b_X16_ranked_83 x1 x2 x3 x4 x5 x6 V = some z) (hz : P z) : Sem g d YX16_ranked 83 [(1, 156), (0, x1), (0, x2), (0, x3), (0, x4), (0, x5), (0, x6)] [] (wr M V) o := by
  delta b_X16_ranked_83 at h
  refine S_iload dX16_ranked_83 rfl ?_
  refine S_sipush (z := 200) dX16_ranked_85 rfl ?_
  refine S_iload_n (i := 1) dX16_ranked_88 rfl rfl ?_
  refine S_imul dX16_ranked_89 ?_
  refine S_aload_n (i := 0) dX16_ranked_90 rfl rfl ?_
  refine P2_gfr hM (a := 258) FLX16_321 rfl ⟨rfl, rfl⟩ dX16_ranked_91 ?_
  refine S_iload_n (i := 1) dX16_ranked_94 rfl rfl ?_
  refine P2_lai hM (a := 258) (n := 44) rfl dX16_ranked_95 h (fun v1 h => ?_)
  refine S_iadd dX16_ranked_96 ?_
  refine P_icmp_ge (tgt := 136) dX16_ranked_97 rfl h (fun h => ?_) (fun h => ?_)
  · refine S_weak (ls' := [(1, 156), (0, x1), (0, x2), (0, x3), (0, x4), (0, x5), (9, 0)]) ⟨Or.inr rfl, ⟨Or.inr rfl, ⟨Or.inr rfl, ⟨Or.inr rfl, ⟨Or.inr rfl, ⟨Or.inr rfl, ⟨Or.inl rfl, trivial⟩⟩⟩⟩⟩⟩⟩ ?_
    obtain ⟨z0, h, hz⟩ := xit_some' (P := fun r => P r) h hz
    exact s_X16_ranked_136 hD hM (P := fun r => P (.inr r)) c0 r0 h hz
  · refine S_aload_n (i := 0) dX16_ranked_100 rfl rfl ?_
    refine P2_gfr hM (a := 262) FLX16_333 rfl ⟨rfl, rfl⟩ dX16_ranked_101 ?_
    refine S_iload dX16_ranked_104 rfl ?_
    refine P2_laz hM (a := 262) (n := 8800) rfl dX16_ranked_106 h (fun v2 h => ?_)
    refine P_if_eq (tgt := 130) dX16_ranked_107 rfl h (fun h => ?_) (fun h => ?_)
    · exact s_X16_ranked_130 hD hM c1 c0 r0 h hz
    · refine S_iload dX16_ranked_110 rfl ?_
      refine P_if_lt (tgt := 126) dX16_ranked_112 rfl h (fun h => ?_) (fun h => ?_)
      · refine S_weak (ls' := [(1, 156), (0, x1), (0, x2), (0, x3), (0, x4), (9, 0), (0, x6)]) ⟨Or.inr rfl, ⟨Or.inr rfl, ⟨Or.inr rfl, ⟨Or.inr rfl, ⟨Or.inr rfl, ⟨Or.inl rfl, ⟨Or.inr rfl, trivial⟩⟩⟩⟩⟩⟩⟩ ?_
        exact s_X16_ranked_126 hD hM c1 c0 r0 h hz
      · refine S_aload_n (i := 0) dX16_ranked_115 rfl rfl ?_
        refine S_iload dX16_ranked_116 rfl ?_
        refine S_iload dX16_ranked_118 rfl ?_
        refine P2_invVp hM 0 [(0, x6), (0, x5)] [] CVX16_better MLX16_711 dX16_ranked_120 rfl rfl rfl rfl rfl (by omega) h (fun r h => F_X16_better (by omega) hM h) (fun v3 h => ?_)
        refine P_if_eq (tgt := 130) dX16_ranked_123 rfl h (fun h => ?_) (fun h => ?_)
        · exact s_X16_ranked_130 hD hM c1 c0 r0 h hz
        · refine S_weak (ls' := [(1, 156), (0, x1), (0, x2), (0, x3), (0, x4), (9, 0), (0, x6)]) ⟨Or.inr rfl, ⟨Or.inr rfl, ⟨Or.inr rfl, ⟨Or.inr rfl, ⟨Or.inr rfl, ⟨Or.inl rfl, ⟨Or.inr rfl, trivial⟩⟩⟩⟩⟩⟩⟩ ?_
          exact s_X16_ranked_126 hD hM c1 c0 r0 h hz
theorem sl_X16_ranked_83 {g : GG} {d : Nat} (hD : 1 ≤ d) {x1 x2 x3 x4 x5 x6 : Int} {M : MM} (hM : LM M) {V : VV} {o : AV × MM} {P : ((Int × VV) ⊕ (VV)) → Prop} (c0 : ∀ s : Int × VV, P (.inl s) → Sem g d YX16_ranked 67 [(1, 156), (0, x1), (0, x2), (0, x3), (0, s.1), (9, 0), (9, 0)] [] (wr M s.2) o) (r0 : ∀ r : VV, P (.inr r) → o = ((9, 0), (wr M r))) {z : (Int × VV) ⊕ (VV)} (h : l_X16_ranked_83 x1 x2 x3 x4 x5 x6 V = some z) (hz : P z) : Sem g d YX16_ranked 83 [(1, 156), (0, x1), (0, x2), (0, x3), (0, x4), (0, x5), (0, x6)] [] (wr M V) o := by
  refine lp_sound (S := fun s : Int × Int => Sem g d YX16_ranked 83 [(1, 156), (0, x1), (0, x2), (0, x3), (0, x4), (0, s.1), (0, s.2)] [] (wr M V) o) (P := P) ?_ FU (x5, x6) z h hz
  intro s x hx hP
  exact s_X16_ranked_83 hD hM (P := Sum.elim (fun s : Int × Int => Sem g d YX16_ranked 83 [(1, 156), (0, x1), (0, x2), (0, x3), (0, x4), (0, s.1), (0, s.2)] [] (wr M V) o) P) (fun s h => h) (fun s h => c0 s h) (fun s h => r0 s h) hx hP
theorem s_X16_ranked_67 {g : GG} {d : Nat} (hD : 1 ≤ d) {x1 x2 x3 x4 : Int} {M : MM} (hM : LM M) {V : VV} {o : AV × MM} {P : ((Int × VV) ⊕ (VV)) → Prop} (c0 : ∀ s : Int × VV, P (.inl s) → Sem g d YX16_ranked 67 [(1, 156), (0, x1), (0, x2), (0, x3), (0, s.1), (9, 0), (9, 0)] [] (wr M s.2) o) (r0 : ∀ r : VV, P (.inr r) → o = ((9, 0), (wr M r))) {z : (Int × VV) ⊕ (VV)} (h : b_X16_ranked_67 x1 x2 x3 x4 V = some z) (hz : P z) : Sem g d YX16_ranked 67 [(1, 156), (0, x1), (0, x2), (0, x3), (0, x4), (9, 0), (9, 0)] [] (wr M V) o := by
  delta b_X16_ranked_67 at h
  refine S_iload dX16_ranked_67 rfl ?_
  refine S_iload_n (i := 3) dX16_ranked_69 rfl rfl ?_
  refine P_icmp_ge (tgt := 220) dX16_ranked_70 rfl h (fun h => ?_) (fun h => ?_)
  · refine S_weak (ls' := [(1, 156), (0, x1), (0, x2), (0, x3), (9, 0), (9, 0), (9, 0)]) ⟨Or.inr rfl, ⟨Or.inr rfl, ⟨Or.inr rfl, ⟨Or.inr rfl, ⟨Or.inl rfl, ⟨Or.inl rfl, ⟨Or.inl rfl, trivial⟩⟩⟩⟩⟩⟩⟩ ?_
    obtain ⟨z0, h, hz⟩ := xit_some' (P := fun r => P r) h hz
    exact s_X16_ranked_220 hD hM (P := fun r => P (.inr r)) r0 h hz
  · refine S_iconst dX16_ranked_73 rfl ?_
    refine S_istore dX16_ranked_74 (Nat.le_of_ble_eq_true rfl) rfl rfl ?_
    change Sem g d YX16_ranked 76 [(1, 156), (0, x1), (0, x2), (0, x3), (0, x4), (0, (-1)), (9, 0)] [] (wr M V) o
    refine S_sipush (z := 200) dX16_ranked_76 rfl ?_
    refine S_iload_n (i := 1) dX16_ranked_79 rfl rfl ?_
    refine S_imul dX16_ranked_80 ?_
    refine S_istore dX16_ranked_81 (Nat.le_of_ble_eq_true rfl) rfl rfl ?_
    change Sem g d YX16_ranked 83 [(1, 156), (0, x1), (0, x2), (0, x3), (0, x4), (0, (-1)), (0, 200 * x1)] [] (wr M V) o
    exact sl_X16_ranked_83 hD hM c0 r0 h hz
theorem sl_X16_ranked_67 {g : GG} {d : Nat} (hD : 1 ≤ d) {x1 x2 x3 x4 : Int} {M : MM} (hM : LM M) {V : VV} {o : AV × MM} {P : (VV) → Prop} (r0 : ∀ r : VV, P r → o = ((9, 0), (wr M r))) {z : VV} (h : l_X16_ranked_67 x1 x2 x3 x4 V = some z) (hz : P z) : Sem g d YX16_ranked 67 [(1, 156), (0, x1), (0, x2), (0, x3), (0, x4), (9, 0), (9, 0)] [] (wr M V) o := by
  refine lp_sound (S := fun s : Int × VV => Sem g d YX16_ranked 67 [(1, 156), (0, x1), (0, x2), (0, x3), (0, s.1), (9, 0), (9, 0)] [] (wr M s.2) o) (P := P) ?_ FU (x4, V) z h hz
  intro s x hx hP
  exact s_X16_ranked_67 hD hM (P := Sum.elim (fun s : Int × VV => Sem g d YX16_ranked 67 [(1, 156), (0, x1), (0, x2), (0, x3), (0, s.1), (9, 0), (9, 0)] [] (wr M s.2) o) P) (fun s h => h) (fun s h => r0 s h) hx hP
theorem s_X16_ranked_64 {g : GG} {d : Nat} (hD : 1 ≤ d) {x1 x2 x3 : Int} {M : MM} (hM : LM M) {V : VV} {o : AV × MM} {P : (VV) → Prop} (r0 : ∀ r : VV, P r → o = ((9, 0), (wr M r))) {z : VV} (h : j_X16_ranked_64 x1 x2 x3 V = some z) (hz : P z) : Sem g d YX16_ranked 64 [(1, 156), (0, x1), (0, x2), (0, x3), (9, 0), (9, 0), (9, 0)] [] (wr M V) o := by
  delta j_X16_ranked_64 at h
  refine S_iconst dX16_ranked_64 rfl ?_
  refine S_istore dX16_ranked_65 (Nat.le_of_ble_eq_true rfl) rfl rfl ?_
  change Sem g d YX16_ranked 67 [(1, 156), (0, x1), (0, x2), (0, x3), (0, 0), (9, 0), (9, 0)] [] (wr M V) o
  exact sl_X16_ranked_67 hD hM r0 h hz
theorem s_X16_ranked_33 {g : GG} {d : Nat} (hD : 1 ≤ d) {x1 x2 x3 x4 : Int} {M : MM} (hM : LM M) {V : VV} {o : AV × MM} {P : ((Int × VV) ⊕ (VV)) → Prop} (c0 : ∀ s : Int × VV, P (.inl s) → Sem g d YX16_ranked 33 [(1, 156), (0, x1), (0, x2), (0, x3), (0, s.1), (9, 0), (9, 0)] [] (wr M s.2) o) (r0 : ∀ r : VV, P (.inr r) → o = ((9, 0), (wr M r))) {z : (Int × VV) ⊕ (VV)} (h : b_X16_ranked_33 x1 x2 x3 x4 V = some z) (hz : P z) : Sem g d YX16_ranked 33 [(1, 156), (0, x1), (0, x2), (0, x3), (0, x4), (9, 0), (9, 0)] [] (wr M V) o := by
  delta b_X16_ranked_33 at h
  refine S_iload dX16_ranked_33 rfl ?_
  refine S_aload_n (i := 0) dX16_ranked_35 rfl rfl ?_
  refine P2_gfr hM (a := 258) FLX16_321 rfl ⟨rfl, rfl⟩ dX16_ranked_36 ?_
  refine S_iload_n (i := 1) dX16_ranked_39 rfl rfl ?_
  refine P2_lai hM (a := 258) (n := 44) rfl dX16_ranked_40 h (fun v1 h => ?_)
  refine P_icmp_ge (tgt := 64) dX16_ranked_41 rfl h (fun h => ?_) (fun h => ?_)
  · refine S_weak (ls' := [(1, 156), (0, x1), (0, x2), (0, x3), (9, 0), (9, 0), (9, 0)]) ⟨Or.inr rfl, ⟨Or.inr rfl, ⟨Or.inr rfl, ⟨Or.inr rfl, ⟨Or.inl rfl, ⟨Or.inl rfl, ⟨Or.inl rfl, trivial⟩⟩⟩⟩⟩⟩⟩ ?_
    obtain ⟨z0, h, hz⟩ := xit_some' (P := fun r => P r) h hz
    exact s_X16_ranked_64 hD hM (P := fun r => P (.inr r)) r0 h hz
  · refine S_aload_n (i := 0) dX16_ranked_44 rfl rfl ?_
    refine P2_gfr hM (a := 262) FLX16_333 rfl ⟨rfl, rfl⟩ dX16_ranked_45 ?_
    refine S_sipush (z := 200) dX16_ranked_48 rfl ?_
    refine S_iload_n (i := 1) dX16_ranked_51 rfl rfl ?_
    refine S_imul dX16_ranked_52 ?_
    refine S_iload dX16_ranked_53 rfl ?_
    refine S_iadd dX16_ranked_55 ?_
    refine S_iconst dX16_ranked_56 rfl ?_
    refine P2_saz hM (a := 262) (n := 8800) rfl dX16_ranked_57 h (fun V1 h => ?_)
    refine S_iinc dX16_ranked_58 rfl rfl rfl ?_
    change Sem g d YX16_ranked 61 [(1, 156), (0, x1), (0, x2), (0, x3), (0, x4 + 1), (9, 0), (9, 0)] [] (wr M V1) o
    refine S_goto (tgt := 33) dX16_ranked_61 rfl ?_
    exact c0 (x4 + 1, V1) (some_P (P := fun r => P r) h hz)
theorem sl_X16_ranked_33 {g : GG} {d : Nat} (hD : 1 ≤ d) {x1 x2 x3 x4 : Int} {M : MM} (hM : LM M) {V : VV} {o : AV × MM} {P : (VV) → Prop} (r0 : ∀ r : VV, P r → o = ((9, 0), (wr M r))) {z : VV} (h : l_X16_ranked_33 x1 x2 x3 x4 V = some z) (hz : P z) : Sem g d YX16_ranked 33 [(1, 156), (0, x1), (0, x2), (0, x3), (0, x4), (9, 0), (9, 0)] [] (wr M V) o := by
  refine lp_sound (S := fun s : Int × VV => Sem g d YX16_ranked 33 [(1, 156), (0, x1), (0, x2), (0, x3), (0, s.1), (9, 0), (9, 0)] [] (wr M s.2) o) (P := P) ?_ FU (x4, V) z h hz
  intro s x hx hP
  exact s_X16_ranked_33 hD hM (P := Sum.elim (fun s : Int × VV => Sem g d YX16_ranked 33 [(1, 156), (0, x1), (0, x2), (0, x3), (0, s.1), (9, 0), (9, 0)] [] (wr M s.2) o) P) (fun s h => h) (fun s h => r0 s h) hx hP
theorem s_X16_ranked_29 {g : GG} {d : Nat} (hD : 1 ≤ d) {x1 x2 y0 : Int} {M : MM} (hM : LM M) {V : VV} {o : AV × MM} {P : (VV) → Prop} (r0 : ∀ r : VV, P r → o = ((9, 0), (wr M r))) {z : VV} (h : j_X16_ranked_29 x1 x2 y0 V = some z) (hz : P z) : Sem g d YX16_ranked 29 [(1, 156), (0, x1), (0, x2), (9, 0), (9, 0), (9, 0), (9, 0)] [(0, y0)] (wr M V) o := by
  delta j_X16_ranked_29 at h
  refine S_istore_n (i := 3) dX16_ranked_29 rfl (Nat.le_of_ble_eq_true rfl) rfl rfl ?_
  change Sem g d YX16_ranked 30 [(1, 156), (0, x1), (0, x2), (0, y0), (9, 0), (9, 0), (9, 0)] [] (wr M V) o
  refine S_iconst dX16_ranked_30 rfl ?_
  refine S_istore dX16_ranked_31 (Nat.le_of_ble_eq_true rfl) rfl rfl ?_
  change Sem g d YX16_ranked 33 [(1, 156), (0, x1), (0, x2), (0, y0), (0, 0), (9, 0), (9, 0)] [] (wr M V) o
  exact sl_X16_ranked_33 hD hM r0 h hz
theorem s_X16_ranked_0 {g : GG} {d : Nat} (hD : 1 ≤ d) {x1 : Int} {M : MM} (hM : LM M) {V : VV} {o : AV × MM} {P : (VV) → Prop} (r0 : ∀ r : VV, P r → o = ((9, 0), (wr M r))) {z : VV} (h : f_X16_ranked x1 V = some z) (hz : P z) : Sem g d YX16_ranked 0 [(1, 156), (0, x1), (9, 0), (9, 0), (9, 0), (9, 0), (9, 0)] [] (wr M V) o := by
  delta f_X16_ranked at h
  refine S_aload_n (i := 0) dX16_ranked_0 rfl rfl ?_
  refine P2_gfr hM (a := 229) FLX16_234 rfl ⟨rfl, rfl⟩ dX16_ranked_1 ?_
  refine S_iload_n (i := 1) dX16_ranked_4 rfl rfl ?_
  refine P2_lai hM (a := 229) (n := 44) rfl dX16_ranked_5 h (fun v1 h => ?_)
  refine S_istore_n (i := 2) dX16_ranked_6 rfl (Nat.le_of_ble_eq_true rfl) rfl rfl ?_
  change Sem g d YX16_ranked 7 [(1, 156), (0, x1), (0, v1), (9, 0), (9, 0), (9, 0), (9, 0)] [] (wr M V) o
  refine S_aload_n (i := 0) dX16_ranked_7 rfl rfl ?_
  refine P2_gfr hM (a := 258) FLX16_321 rfl ⟨rfl, rfl⟩ dX16_ranked_8 ?_
  refine S_iload_n (i := 1) dX16_ranked_11 rfl rfl ?_
  refine P2_lai hM (a := 258) (n := 44) rfl dX16_ranked_12 h (fun v2 h => ?_)
  refine S_bipush (z := 60) dX16_ranked_13 rfl ?_
  refine P_icmp_ge (tgt := 27) dX16_ranked_15 rfl h (fun h => ?_) (fun h => ?_)
  · refine S_bipush (z := 60) dX16_ranked_27 rfl ?_
    exact s_X16_ranked_29 hD hM r0 h hz
  · refine S_aload_n (i := 0) dX16_ranked_18 rfl rfl ?_
    refine P2_gfr hM (a := 258) FLX16_321 rfl ⟨rfl, rfl⟩ dX16_ranked_19 ?_
    refine S_iload_n (i := 1) dX16_ranked_22 rfl rfl ?_
    refine P2_lai hM (a := 258) (n := 44) rfl dX16_ranked_23 h (fun v3 h => ?_)
    refine S_goto (tgt := 29) dX16_ranked_24 rfl ?_
    exact s_X16_ranked_29 hD hM r0 h hz
theorem F_X16_ranked {g : GG} {d : Nat} (hD : 1 ≤ d) {x1 : Int} {M : MM} (hM : LM M) {V : VV} {r : VV} (h : f_X16_ranked x1 V = some r) : Sem g d YX16_ranked 0 (ini YX16_ranked [(1, 156), (0, x1)]) [] (wr M V) ((9, 0), (wr M r)) := by
  change Sem g d YX16_ranked 0 [(1, 156), (0, x1), (9, 0), (9, 0), (9, 0), (9, 0), (9, 0)] [] (wr M V) ((9, 0), (wr M r))
  exact s_X16_ranked_0 hD hM (P := fun x => x = r) (fun q e => by rw [e]) h rfl
/-! PeerSearchModel.tookChecked(I)V -/
theorem dX16_tookChecked_0 : decode cX16_tookChecked 0 = .ok (.aload_n 0, 1) := by decide +kernel
theorem dX16_tookChecked_1 : decode cX16_tookChecked 1 = .ok (.getfield 339, 3) := by decide +kernel
theorem dX16_tookChecked_4 : decode cX16_tookChecked 4 = .ok (.iload_n 1, 1) := by decide +kernel
theorem dX16_tookChecked_5 : decode cX16_tookChecked 5 = .ok (.iaload, 1) := by decide +kernel
theorem dX16_tookChecked_6 : decode cX16_tookChecked 6 = .ok (.bipush 30, 2) := by decide +kernel
theorem dX16_tookChecked_8 : decode cX16_tookChecked 8 = .ok (.iadd, 1) := by decide +kernel
theorem dX16_tookChecked_9 : decode cX16_tookChecked 9 = .ok (.aload_n 0, 1) := by decide +kernel
theorem dX16_tookChecked_10 : decode cX16_tookChecked 10 = .ok (.getfield 321, 3) := by decide +kernel
theorem dX16_tookChecked_13 : decode cX16_tookChecked 13 = .ok (.iload_n 1, 1) := by decide +kernel
theorem dX16_tookChecked_14 : decode cX16_tookChecked 14 = .ok (.iaload, 1) := by decide +kernel
theorem dX16_tookChecked_15 : decode cX16_tookChecked 15 = .ok (.if_icmp .ge 15, 3) := by decide +kernel
theorem dX16_tookChecked_18 : decode cX16_tookChecked 18 = .ok (.aload_n 0, 1) := by decide +kernel
theorem dX16_tookChecked_19 : decode cX16_tookChecked 19 = .ok (.getfield 339, 3) := by decide +kernel
theorem dX16_tookChecked_22 : decode cX16_tookChecked 22 = .ok (.iload_n 1, 1) := by decide +kernel
theorem dX16_tookChecked_23 : decode cX16_tookChecked 23 = .ok (.iaload, 1) := by decide +kernel
theorem dX16_tookChecked_24 : decode cX16_tookChecked 24 = .ok (.bipush 30, 2) := by decide +kernel
theorem dX16_tookChecked_26 : decode cX16_tookChecked 26 = .ok (.iadd, 1) := by decide +kernel
theorem dX16_tookChecked_27 : decode cX16_tookChecked 27 = .ok (.goto 9, 3) := by decide +kernel
theorem dX16_tookChecked_30 : decode cX16_tookChecked 30 = .ok (.aload_n 0, 1) := by decide +kernel
theorem dX16_tookChecked_31 : decode cX16_tookChecked 31 = .ok (.getfield 321, 3) := by decide +kernel
theorem dX16_tookChecked_34 : decode cX16_tookChecked 34 = .ok (.iload_n 1, 1) := by decide +kernel
theorem dX16_tookChecked_35 : decode cX16_tookChecked 35 = .ok (.iaload, 1) := by decide +kernel
theorem dX16_tookChecked_36 : decode cX16_tookChecked 36 = .ok (.istore_n 2, 1) := by decide +kernel
theorem dX16_tookChecked_37 : decode cX16_tookChecked 37 = .ok (.aload_n 0, 1) := by decide +kernel
theorem dX16_tookChecked_38 : decode cX16_tookChecked 38 = .ok (.getfield 339, 3) := by decide +kernel
theorem dX16_tookChecked_41 : decode cX16_tookChecked 41 = .ok (.iload_n 1, 1) := by decide +kernel
theorem dX16_tookChecked_42 : decode cX16_tookChecked 42 = .ok (.iaload, 1) := by decide +kernel
theorem dX16_tookChecked_43 : decode cX16_tookChecked 43 = .ok (.istore_n 3, 1) := by decide +kernel
theorem dX16_tookChecked_44 : decode cX16_tookChecked 44 = .ok (.iload_n 3, 1) := by decide +kernel
theorem dX16_tookChecked_45 : decode cX16_tookChecked 45 = .ok (.iload_n 2, 1) := by decide +kernel
theorem dX16_tookChecked_46 : decode cX16_tookChecked 46 = .ok (.if_icmp .ge 113, 3) := by decide +kernel
theorem dX16_tookChecked_49 : decode cX16_tookChecked 49 = .ok (.sipush 200, 3) := by decide +kernel
theorem dX16_tookChecked_52 : decode cX16_tookChecked 52 = .ok (.iload_n 1, 1) := by decide +kernel
theorem dX16_tookChecked_53 : decode cX16_tookChecked 53 = .ok (.imul, 1) := by decide +kernel
theorem dX16_tookChecked_54 : decode cX16_tookChecked 54 = .ok (.iload_n 3, 1) := by decide +kernel
theorem dX16_tookChecked_55 : decode cX16_tookChecked 55 = .ok (.iadd, 1) := by decide +kernel
theorem dX16_tookChecked_56 : decode cX16_tookChecked 56 = .ok (.istore 4, 2) := by decide +kernel
theorem dX16_tookChecked_58 : decode cX16_tookChecked 58 = .ok (.aload_n 0, 1) := by decide +kernel
theorem dX16_tookChecked_59 : decode cX16_tookChecked 59 = .ok (.getfield 333, 3) := by decide +kernel
theorem dX16_tookChecked_62 : decode cX16_tookChecked 62 = .ok (.iload 4, 2) := by decide +kernel
theorem dX16_tookChecked_64 : decode cX16_tookChecked 64 = .ok (.iconst 0, 1) := by decide +kernel
theorem dX16_tookChecked_65 : decode cX16_tookChecked 65 = .ok (.bastore, 1) := by decide +kernel
theorem dX16_tookChecked_66 : decode cX16_tookChecked 66 = .ok (.iconst 0, 1) := by decide +kernel
theorem dX16_tookChecked_67 : decode cX16_tookChecked 67 = .ok (.istore 5, 2) := by decide +kernel
theorem dX16_tookChecked_69 : decode cX16_tookChecked 69 = .ok (.iload 5, 2) := by decide +kernel
theorem dX16_tookChecked_71 : decode cX16_tookChecked 71 = .ok (.aload_n 0, 1) := by decide +kernel
theorem dX16_tookChecked_72 : decode cX16_tookChecked 72 = .ok (.getfield 595, 3) := by decide +kernel
theorem dX16_tookChecked_75 : decode cX16_tookChecked 75 = .ok (.if_icmp .ge 78, 3) := by decide +kernel
theorem dX16_tookChecked_78 : decode cX16_tookChecked 78 = .ok (.aload_n 0, 1) := by decide +kernel
theorem dX16_tookChecked_79 : decode cX16_tookChecked 79 = .ok (.getfield 333, 3) := by decide +kernel
theorem dX16_tookChecked_82 : decode cX16_tookChecked 82 = .ok (.iload 4, 2) := by decide +kernel
theorem dX16_tookChecked_84 : decode cX16_tookChecked 84 = .ok (.baload, 1) := by decide +kernel
theorem dX16_tookChecked_85 : decode cX16_tookChecked 85 = .ok (.ifCond .ne 62, 3) := by decide +kernel
theorem dX16_tookChecked_88 : decode cX16_tookChecked 88 = .ok (.aload_n 0, 1) := by decide +kernel
theorem dX16_tookChecked_89 : decode cX16_tookChecked 89 = .ok (.getfield 324, 3) := by decide +kernel
theorem dX16_tookChecked_92 : decode cX16_tookChecked 92 = .ok (.iload 4, 2) := by decide +kernel
theorem dX16_tookChecked_94 : decode cX16_tookChecked 94 = .ok (.iaload, 1) := by decide +kernel
theorem dX16_tookChecked_95 : decode cX16_tookChecked 95 = .ok (.aload_n 0, 1) := by decide +kernel
theorem dX16_tookChecked_96 : decode cX16_tookChecked 96 = .ok (.getfield 210, 3) := by decide +kernel
theorem dX16_tookChecked_99 : decode cX16_tookChecked 99 = .ok (.iload 5, 2) := by decide +kernel
theorem dX16_tookChecked_101 : decode cX16_tookChecked 101 = .ok (.iaload, 1) := by decide +kernel
theorem dX16_tookChecked_102 : decode cX16_tookChecked 102 = .ok (.if_icmp .ne 45, 3) := by decide +kernel
theorem dX16_tookChecked_105 : decode cX16_tookChecked 105 = .ok (.aload_n 0, 1) := by decide +kernel
theorem dX16_tookChecked_106 : decode cX16_tookChecked 106 = .ok (.getfield 327, 3) := by decide +kernel
theorem dX16_tookChecked_109 : decode cX16_tookChecked 109 = .ok (.iload 4, 2) := by decide +kernel
theorem dX16_tookChecked_111 : decode cX16_tookChecked 111 = .ok (.iaload, 1) := by decide +kernel
theorem dX16_tookChecked_112 : decode cX16_tookChecked 112 = .ok (.aload_n 0, 1) := by decide +kernel
theorem dX16_tookChecked_113 : decode cX16_tookChecked 113 = .ok (.getfield 213, 3) := by decide +kernel
theorem dX16_tookChecked_116 : decode cX16_tookChecked 116 = .ok (.iload 5, 2) := by decide +kernel
theorem dX16_tookChecked_118 : decode cX16_tookChecked 118 = .ok (.iaload, 1) := by decide +kernel
theorem dX16_tookChecked_119 : decode cX16_tookChecked 119 = .ok (.if_icmp .ne 28, 3) := by decide +kernel
theorem dX16_tookChecked_122 : decode cX16_tookChecked 122 = .ok (.aload_n 0, 1) := by decide +kernel
theorem dX16_tookChecked_123 : decode cX16_tookChecked 123 = .ok (.getfield 333, 3) := by decide +kernel
theorem dX16_tookChecked_126 : decode cX16_tookChecked 126 = .ok (.iload 4, 2) := by decide +kernel
theorem dX16_tookChecked_128 : decode cX16_tookChecked 128 = .ok (.iconst 1, 1) := by decide +kernel
theorem dX16_tookChecked_129 : decode cX16_tookChecked 129 = .ok (.bastore, 1) := by decide +kernel
theorem dX16_tookChecked_130 : decode cX16_tookChecked 130 = .ok (.aload_n 0, 1) := by decide +kernel
theorem dX16_tookChecked_131 : decode cX16_tookChecked 131 = .ok (.getfield 330, 3) := by decide +kernel
theorem dX16_tookChecked_134 : decode cX16_tookChecked 134 = .ok (.iload 4, 2) := by decide +kernel
theorem dX16_tookChecked_136 : decode cX16_tookChecked 136 = .ok (.dup2, 1) := by decide +kernel
theorem dX16_tookChecked_137 : decode cX16_tookChecked 137 = .ok (.iaload, 1) := by decide +kernel
theorem dX16_tookChecked_138 : decode cX16_tookChecked 138 = .ok (.aload_n 0, 1) := by decide +kernel
theorem dX16_tookChecked_139 : decode cX16_tookChecked 139 = .ok (.getfield 216, 3) := by decide +kernel
theorem dX16_tookChecked_142 : decode cX16_tookChecked 142 = .ok (.iload 5, 2) := by decide +kernel
theorem dX16_tookChecked_144 : decode cX16_tookChecked 144 = .ok (.iaload, 1) := by decide +kernel
theorem dX16_tookChecked_145 : decode cX16_tookChecked 145 = .ok (.iadd, 1) := by decide +kernel
theorem dX16_tookChecked_146 : decode cX16_tookChecked 146 = .ok (.iastore, 1) := by decide +kernel
theorem dX16_tookChecked_147 : decode cX16_tookChecked 147 = .ok (.iinc 5 1, 3) := by decide +kernel
theorem dX16_tookChecked_150 : decode cX16_tookChecked 150 = .ok (.goto (-81), 3) := by decide +kernel
theorem dX16_tookChecked_153 : decode cX16_tookChecked 153 = .ok (.iinc 3 1, 3) := by decide +kernel
theorem dX16_tookChecked_156 : decode cX16_tookChecked 156 = .ok (.goto (-112), 3) := by decide +kernel
theorem dX16_tookChecked_159 : decode cX16_tookChecked 159 = .ok (.aload_n 0, 1) := by decide +kernel
theorem dX16_tookChecked_160 : decode cX16_tookChecked 160 = .ok (.getfield 339, 3) := by decide +kernel
theorem dX16_tookChecked_163 : decode cX16_tookChecked 163 = .ok (.iload_n 1, 1) := by decide +kernel
theorem dX16_tookChecked_164 : decode cX16_tookChecked 164 = .ok (.iload_n 2, 1) := by decide +kernel
theorem dX16_tookChecked_165 : decode cX16_tookChecked 165 = .ok (.iastore, 1) := by decide +kernel
theorem dX16_tookChecked_166 : decode cX16_tookChecked 166 = .ok (.iload_n 2, 1) := by decide +kernel
theorem dX16_tookChecked_167 : decode cX16_tookChecked 167 = .ok (.aload_n 0, 1) := by decide +kernel
theorem dX16_tookChecked_168 : decode cX16_tookChecked 168 = .ok (.getfield 321, 3) := by decide +kernel
theorem dX16_tookChecked_171 : decode cX16_tookChecked 171 = .ok (.iload_n 1, 1) := by decide +kernel
theorem dX16_tookChecked_172 : decode cX16_tookChecked 172 = .ok (.iaload, 1) := by decide +kernel
theorem dX16_tookChecked_173 : decode cX16_tookChecked 173 = .ok (.if_icmp .ge 4, 3) := by decide +kernel
theorem dX16_tookChecked_176 : decode cX16_tookChecked 176 = .ok (.return_, 1) := by decide +kernel
theorem dX16_tookChecked_177 : decode cX16_tookChecked 177 = .ok (.iconst 0, 1) := by decide +kernel
theorem dX16_tookChecked_178 : decode cX16_tookChecked 178 = .ok (.istore_n 3, 1) := by decide +kernel
theorem dX16_tookChecked_179 : decode cX16_tookChecked 179 = .ok (.iconst 0, 1) := by decide +kernel
theorem dX16_tookChecked_180 : decode cX16_tookChecked 180 = .ok (.istore 4, 2) := by decide +kernel
theorem dX16_tookChecked_182 : decode cX16_tookChecked 182 = .ok (.iload 4, 2) := by decide +kernel
theorem dX16_tookChecked_184 : decode cX16_tookChecked 184 = .ok (.aload_n 0, 1) := by decide +kernel
theorem dX16_tookChecked_185 : decode cX16_tookChecked 185 = .ok (.getfield 321, 3) := by decide +kernel
theorem dX16_tookChecked_188 : decode cX16_tookChecked 188 = .ok (.iload_n 1, 1) := by decide +kernel
theorem dX16_tookChecked_189 : decode cX16_tookChecked 189 = .ok (.iaload, 1) := by decide +kernel
theorem dX16_tookChecked_190 : decode cX16_tookChecked 190 = .ok (.if_icmp .ge 83, 3) := by decide +kernel
theorem dX16_tookChecked_193 : decode cX16_tookChecked 193 = .ok (.sipush 200, 3) := by decide +kernel
theorem dX16_tookChecked_196 : decode cX16_tookChecked 196 = .ok (.iload_n 1, 1) := by decide +kernel
theorem dX16_tookChecked_197 : decode cX16_tookChecked 197 = .ok (.imul, 1) := by decide +kernel
theorem dX16_tookChecked_198 : decode cX16_tookChecked 198 = .ok (.iload 4, 2) := by decide +kernel
theorem dX16_tookChecked_200 : decode cX16_tookChecked 200 = .ok (.iadd, 1) := by decide +kernel
theorem dX16_tookChecked_201 : decode cX16_tookChecked 201 = .ok (.istore 5, 2) := by decide +kernel
theorem dX16_tookChecked_203 : decode cX16_tookChecked 203 = .ok (.aload_n 0, 1) := by decide +kernel
theorem dX16_tookChecked_204 : decode cX16_tookChecked 204 = .ok (.getfield 333, 3) := by decide +kernel
theorem dX16_tookChecked_207 : decode cX16_tookChecked 207 = .ok (.iload 5, 2) := by decide +kernel
theorem dX16_tookChecked_209 : decode cX16_tookChecked 209 = .ok (.baload, 1) := by decide +kernel
theorem dX16_tookChecked_210 : decode cX16_tookChecked 210 = .ok (.ifCond .eq 57, 3) := by decide +kernel
theorem dX16_tookChecked_213 : decode cX16_tookChecked 213 = .ok (.sipush 200, 3) := by decide +kernel
theorem dX16_tookChecked_216 : decode cX16_tookChecked 216 = .ok (.iload_n 1, 1) := by decide +kernel
theorem dX16_tookChecked_217 : decode cX16_tookChecked 217 = .ok (.imul, 1) := by decide +kernel
theorem dX16_tookChecked_218 : decode cX16_tookChecked 218 = .ok (.iload_n 3, 1) := by decide +kernel
theorem dX16_tookChecked_219 : decode cX16_tookChecked 219 = .ok (.iadd, 1) := by decide +kernel
theorem dX16_tookChecked_220 : decode cX16_tookChecked 220 = .ok (.istore 6, 2) := by decide +kernel
theorem dX16_tookChecked_222 : decode cX16_tookChecked 222 = .ok (.iinc 3 1, 3) := by decide +kernel
theorem dX16_tookChecked_225 : decode cX16_tookChecked 225 = .ok (.aload_n 0, 1) := by decide +kernel
theorem dX16_tookChecked_226 : decode cX16_tookChecked 226 = .ok (.getfield 324, 3) := by decide +kernel
theorem dX16_tookChecked_229 : decode cX16_tookChecked 229 = .ok (.iload 6, 2) := by decide +kernel
theorem dX16_tookChecked_231 : decode cX16_tookChecked 231 = .ok (.aload_n 0, 1) := by decide +kernel
theorem dX16_tookChecked_232 : decode cX16_tookChecked 232 = .ok (.getfield 324, 3) := by decide +kernel
theorem dX16_tookChecked_235 : decode cX16_tookChecked 235 = .ok (.iload 5, 2) := by decide +kernel
theorem dX16_tookChecked_237 : decode cX16_tookChecked 237 = .ok (.iaload, 1) := by decide +kernel
theorem dX16_tookChecked_238 : decode cX16_tookChecked 238 = .ok (.iastore, 1) := by decide +kernel
theorem dX16_tookChecked_239 : decode cX16_tookChecked 239 = .ok (.aload_n 0, 1) := by decide +kernel
theorem dX16_tookChecked_240 : decode cX16_tookChecked 240 = .ok (.getfield 327, 3) := by decide +kernel
theorem dX16_tookChecked_243 : decode cX16_tookChecked 243 = .ok (.iload 6, 2) := by decide +kernel
theorem dX16_tookChecked_245 : decode cX16_tookChecked 245 = .ok (.aload_n 0, 1) := by decide +kernel
theorem dX16_tookChecked_246 : decode cX16_tookChecked 246 = .ok (.getfield 327, 3) := by decide +kernel
theorem dX16_tookChecked_249 : decode cX16_tookChecked 249 = .ok (.iload 5, 2) := by decide +kernel
theorem dX16_tookChecked_251 : decode cX16_tookChecked 251 = .ok (.iaload, 1) := by decide +kernel
theorem dX16_tookChecked_252 : decode cX16_tookChecked 252 = .ok (.iastore, 1) := by decide +kernel
theorem dX16_tookChecked_253 : decode cX16_tookChecked 253 = .ok (.aload_n 0, 1) := by decide +kernel
theorem dX16_tookChecked_254 : decode cX16_tookChecked 254 = .ok (.getfield 330, 3) := by decide +kernel
theorem dX16_tookChecked_257 : decode cX16_tookChecked 257 = .ok (.iload 6, 2) := by decide +kernel
theorem dX16_tookChecked_259 : decode cX16_tookChecked 259 = .ok (.aload_n 0, 1) := by decide +kernel
theorem dX16_tookChecked_260 : decode cX16_tookChecked 260 = .ok (.getfield 330, 3) := by decide +kernel
theorem dX16_tookChecked_263 : decode cX16_tookChecked 263 = .ok (.iload 5, 2) := by decide +kernel
theorem dX16_tookChecked_265 : decode cX16_tookChecked 265 = .ok (.iaload, 1) := by decide +kernel
theorem dX16_tookChecked_266 : decode cX16_tookChecked 266 = .ok (.iastore, 1) := by decide +kernel
theorem dX16_tookChecked_267 : decode cX16_tookChecked 267 = .ok (.iinc 4 1, 3) := by decide +kernel
theorem dX16_tookChecked_270 : decode cX16_tookChecked 270 = .ok (.goto (-88), 3) := by decide +kernel
theorem dX16_tookChecked_273 : decode cX16_tookChecked 273 = .ok (.aload_n 0, 1) := by decide +kernel
theorem dX16_tookChecked_274 : decode cX16_tookChecked 274 = .ok (.getfield 321, 3) := by decide +kernel
theorem dX16_tookChecked_277 : decode cX16_tookChecked 277 = .ok (.iload_n 1, 1) := by decide +kernel
theorem dX16_tookChecked_278 : decode cX16_tookChecked 278 = .ok (.iload_n 3, 1) := by decide +kernel
theorem dX16_tookChecked_279 : decode cX16_tookChecked 279 = .ok (.iastore, 1) := by decide +kernel
theorem dX16_tookChecked_280 : decode cX16_tookChecked 280 = .ok (.aload_n 0, 1) := by decide +kernel
theorem dX16_tookChecked_281 : decode cX16_tookChecked 281 = .ok (.getfield 336, 3) := by decide +kernel
theorem dX16_tookChecked_284 : decode cX16_tookChecked 284 = .ok (.iload_n 1, 1) := by decide +kernel
theorem dX16_tookChecked_285 : decode cX16_tookChecked 285 = .ok (.aload_n 0, 1) := by decide +kernel
theorem dX16_tookChecked_286 : decode cX16_tookChecked 286 = .ok (.getfield 336, 3) := by decide +kernel
theorem dX16_tookChecked_289 : decode cX16_tookChecked 289 = .ok (.iload_n 1, 1) := by decide +kernel
theorem dX16_tookChecked_290 : decode cX16_tookChecked 290 = .ok (.iaload, 1) := by decide +kernel
theorem dX16_tookChecked_291 : decode cX16_tookChecked 291 = .ok (.ifCond .ne 7, 3) := by decide +kernel
theorem dX16_tookChecked_294 : decode cX16_tookChecked 294 = .ok (.iconst 2, 1) := by decide +kernel
theorem dX16_tookChecked_295 : decode cX16_tookChecked 295 = .ok (.goto 4, 3) := by decide +kernel
theorem dX16_tookChecked_298 : decode cX16_tookChecked 298 = .ok (.iconst 3, 1) := by decide +kernel
theorem dX16_tookChecked_299 : decode cX16_tookChecked 299 = .ok (.iastore, 1) := by decide +kernel
theorem dX16_tookChecked_300 : decode cX16_tookChecked 300 = .ok (.aload_n 0, 1) := by decide +kernel
theorem dX16_tookChecked_301 : decode cX16_tookChecked 301 = .ok (.getfield 339, 3) := by decide +kernel
theorem dX16_tookChecked_304 : decode cX16_tookChecked 304 = .ok (.iload_n 1, 1) := by decide +kernel
theorem dX16_tookChecked_305 : decode cX16_tookChecked 305 = .ok (.iconst 0, 1) := by decide +kernel
theorem dX16_tookChecked_306 : decode cX16_tookChecked 306 = .ok (.iastore, 1) := by decide +kernel
theorem dX16_tookChecked_307 : decode cX16_tookChecked 307 = .ok (.iload_n 3, 1) := by decide +kernel
theorem dX16_tookChecked_308 : decode cX16_tookChecked 308 = .ok (.ifCond .eq 18, 3) := by decide +kernel
theorem dX16_tookChecked_311 : decode cX16_tookChecked 311 = .ok (.aload_n 0, 1) := by decide +kernel
theorem dX16_tookChecked_312 : decode cX16_tookChecked 312 = .ok (.getfield 336, 3) := by decide +kernel
theorem dX16_tookChecked_315 : decode cX16_tookChecked 315 = .ok (.iload_n 1, 1) := by decide +kernel
theorem dX16_tookChecked_316 : decode cX16_tookChecked 316 = .ok (.iaload, 1) := by decide +kernel
theorem dX16_tookChecked_317 : decode cX16_tookChecked 317 = .ok (.aload_n 0, 1) := by decide +kernel
theorem dX16_tookChecked_318 : decode cX16_tookChecked 318 = .ok (.getfield 288, 3) := by decide +kernel
theorem dX16_tookChecked_321 : decode cX16_tookChecked 321 = .ok (.iload_n 1, 1) := by decide +kernel
theorem dX16_tookChecked_322 : decode cX16_tookChecked 322 = .ok (.iaload, 1) := by decide +kernel
theorem dX16_tookChecked_323 : decode cX16_tookChecked 323 = .ok (.if_icmp .lt 8, 3) := by decide +kernel
theorem dX16_tookChecked_326 : decode cX16_tookChecked 326 = .ok (.aload_n 0, 1) := by decide +kernel
theorem dX16_tookChecked_327 : decode cX16_tookChecked 327 = .ok (.iload_n 1, 1) := by decide +kernel
theorem dX16_tookChecked_328 : decode cX16_tookChecked 328 = .ok (.invokevirtual 708, 3) := by decide +kernel
theorem dX16_tookChecked_331 : decode cX16_tookChecked 331 = .ok (.return_, 1) := by decide +kernel
def j_X16_tookChecked_331 (V : VV) : Option (VV) :=
  some V
def j_X16_tookChecked_326 (x1 : Int) (V : VV) : Option (VV) :=
  (f_X16_ranked x1 V).bind fun V1 =>
  j_X16_tookChecked_331 V1
def j_X16_tookChecked_299 (x1 x3 y1 y2 : Int) (V : VV) : Option (VV) :=
  (s2 263 44 y1 y2 V).bind fun V1 =>
  (s2 264 44 x1 0 V1).bind fun V2 =>
  if w32 x3 = 0 then
    j_X16_tookChecked_326 x1 V2
  else
    (l2 263 44 x1 V2).bind fun v1 =>
    (l2 247 44 x1 V2).bind fun v2 =>
    if w32 v1 < w32 v2 then
      j_X16_tookChecked_331 V2
    else
      j_X16_tookChecked_326 x1 V2
def j_X16_tookChecked_273 (x1 x3 : Int) (V : VV) : Option (VV) :=
  (s2 258 44 x1 x3 V).bind fun V1 =>
  (l2 263 44 x1 V1).bind fun v1 =>
  if w32 v1 = 0 then
    j_X16_tookChecked_299 x1 x3 x1 2 V1
  else
    j_X16_tookChecked_299 x1 x3 x1 3 V1
def j_X16_tookChecked_267 (x1 x3 x4 : Int) (V : VV) : Option ((Int × Int × VV) ⊕ (VV)) :=
  cnt (x3, x4 + 1, V)
def b_X16_tookChecked_182 (x1 x3 x4 : Int) (V : VV) : Option ((Int × Int × VV) ⊕ (VV)) :=
  (l2 258 44 x1 V).bind fun v1 =>
  if w32 x4 < w32 v1 then
    (l2 262 8800 ((200 * x1) + x4) V).bind fun v2 =>
    if w32 v2 = 0 then
      j_X16_tookChecked_267 x1 x3 x4 V
    else
      (l2 259 8800 ((200 * x1) + x4) V).bind fun v3 =>
      (s2 259 8800 ((200 * x1) + x3) v3 V).bind fun V1 =>
      (l2 260 8800 ((200 * x1) + x4) V1).bind fun v4 =>
      (s2 260 8800 ((200 * x1) + x3) v4 V1).bind fun V2 =>
      (l2 261 8800 ((200 * x1) + x4) V2).bind fun v5 =>
      (s2 261 8800 ((200 * x1) + x3) v5 V2).bind fun V3 =>
      j_X16_tookChecked_267 x1 (x3 + 1) x4 V3
  else
    xit (j_X16_tookChecked_273 x1 x3 V)
def l_X16_tookChecked_182 (x1 x3 x4 : Int) (V : VV) : Option (VV) := lpN (fun s : Int × Int × VV => b_X16_tookChecked_182 x1 s.1 s.2.1 s.2.2) FU (x3, x4, V)
def j_X16_tookChecked_159 (x1 x2 : Int) (V : VV) : Option (VV) :=
  (s2 264 44 x1 x2 V).bind fun V1 =>
  (l2 258 44 x1 V1).bind fun v1 =>
  if w32 x2 < w32 v1 then
    some V1
  else
    l_X16_tookChecked_182 x1 0 0 V1
def j_X16_tookChecked_153 (x1 x2 x3 : Int) (V : VV) : Option ((Int × VV) ⊕ (VV)) :=
  cnt (x3 + 1, V)
def j_X16_tookChecked_147 (x1 x2 x3 x4 x5 : Int) (V : VV) : Option ((Int × VV) ⊕ ((Int × VV) ⊕ (VV))) :=
  cnt (x5 + 1, V)
def b_X16_tookChecked_69 (x1 x2 x3 x4 x5 : Int) (V : VV) : Option ((Int × VV) ⊕ ((Int × VV) ⊕ (VV))) :=
  if w32 x5 < w32 (w32 (V 156 83)) then
    (l2 262 8800 x4 V).bind fun v1 =>
    if w32 v1 = 0 then
      (l2 259 8800 x4 V).bind fun v2 =>
      (l2 221 30 x5 V).bind fun v3 =>
      if w32 v2 = w32 v3 then
        (l2 260 8800 x4 V).bind fun v4 =>
        (l2 222 30 x5 V).bind fun v5 =>
        if w32 v4 = w32 v5 then
          (s2z 262 8800 x4 1 V).bind fun V1 =>
          (l2 261 8800 x4 V1).bind fun v6 =>
          (l2 223 30 x5 V1).bind fun v7 =>
          (s2 261 8800 x4 (v6 + v7) V1).bind fun V2 =>
          j_X16_tookChecked_147 x1 x2 x3 x4 x5 V2
        else
          j_X16_tookChecked_147 x1 x2 x3 x4 x5 V
      else
        j_X16_tookChecked_147 x1 x2 x3 x4 x5 V
    else
      j_X16_tookChecked_147 x1 x2 x3 x4 x5 V
  else
    xit (j_X16_tookChecked_153 x1 x2 x3 V)
def l_X16_tookChecked_69 (x1 x2 x3 x4 x5 : Int) (V : VV) : Option ((Int × VV) ⊕ (VV)) := lpN (fun s : Int × VV => b_X16_tookChecked_69 x1 x2 x3 x4 s.1 s.2) FU (x5, V)
def b_X16_tookChecked_44 (x1 x2 x3 : Int) (V : VV) : Option ((Int × VV) ⊕ (VV)) :=
  if w32 x3 < w32 x2 then
    (s2z 262 8800 ((200 * x1) + x3) 0 V).bind fun V1 =>
    l_X16_tookChecked_69 x1 x2 x3 ((200 * x1) + x3) 0 V1
  else
    xit (j_X16_tookChecked_159 x1 x2 V)
def l_X16_tookChecked_44 (x1 x2 x3 : Int) (V : VV) : Option (VV) := lpN (fun s : Int × VV => b_X16_tookChecked_44 x1 x2 s.1 s.2) FU (x3, V)
def j_X16_tookChecked_36 (x1 y0 : Int) (V : VV) : Option (VV) :=
  (l2 264 44 x1 V).bind fun v1 =>
  l_X16_tookChecked_44 x1 y0 v1 V
def f_X16_tookChecked (x1 : Int) (V : VV) : Option (VV) :=
  (l2 264 44 x1 V).bind fun v1 =>
  (l2 258 44 x1 V).bind fun v2 =>
  if w32 (v1 + 30) < w32 v2 then
    (l2 264 44 x1 V).bind fun v4 =>
    j_X16_tookChecked_36 x1 (v4 + 30) V
  else
    (l2 258 44 x1 V).bind fun v3 =>
    j_X16_tookChecked_36 x1 v3 V
theorem s_X16_tookChecked_331 {g : GG} {d : Nat} (hD : 2 ≤ d) {M : MM} (hM : LM M) {V : VV} {o : AV × MM} {P : (VV) → Prop} (r0 : ∀ r : VV, P r → o = ((9, 0), (wr M r))) {z : VV} (h : j_X16_tookChecked_331 V = some z) (hz : P z) : Sem g d YX16_tookChecked 331 [(9, 0), (9, 0), (9, 0), (9, 0), (9, 0), (9, 0), (9, 0)] [] (wr M V) o := by
  delta j_X16_tookChecked_331 at h
  obtain rfl := r0 _ (some_P (P := fun r => P r) h hz)
  exact S_return dX16_tookChecked_331 rfl
theorem s_X16_tookChecked_326 {g : GG} {d : Nat} (hD : 2 ≤ d) {x1 : Int} {M : MM} (hM : LM M) {V : VV} {o : AV × MM} {P : (VV) → Prop} (r0 : ∀ r : VV, P r → o = ((9, 0), (wr M r))) {z : VV} (h : j_X16_tookChecked_326 x1 V = some z) (hz : P z) : Sem g d YX16_tookChecked 326 [(1, 156), (0, x1), (9, 0), (9, 0), (9, 0), (9, 0), (9, 0)] [] (wr M V) o := by
  delta j_X16_tookChecked_326 at h
  refine S_aload_n (i := 0) dX16_tookChecked_326 rfl rfl ?_
  refine S_iload_n (i := 1) dX16_tookChecked_327 rfl rfl ?_
  refine P2_invVm hM [(0, x1)] [] CVX16_ranked MLX16_708 dX16_tookChecked_328 rfl rfl rfl rfl (by omega) h (fun r h => F_X16_ranked (by omega) hM h) (fun V1 h => ?_)
  refine S_weak (ls' := [(9, 0), (9, 0), (9, 0), (9, 0), (9, 0), (9, 0), (9, 0)]) ⟨Or.inl rfl, ⟨Or.inl rfl, ⟨Or.inl rfl, ⟨Or.inl rfl, ⟨Or.inl rfl, ⟨Or.inl rfl, ⟨Or.inl rfl, trivial⟩⟩⟩⟩⟩⟩⟩ ?_
  exact s_X16_tookChecked_331 hD hM r0 h hz
theorem s_X16_tookChecked_299 {g : GG} {d : Nat} (hD : 2 ≤ d) {x1 x3 y1 y2 : Int} {M : MM} (hM : LM M) {V : VV} {o : AV × MM} {P : (VV) → Prop} (r0 : ∀ r : VV, P r → o = ((9, 0), (wr M r))) {z : VV} (h : j_X16_tookChecked_299 x1 x3 y1 y2 V = some z) (hz : P z) : Sem g d YX16_tookChecked 299 [(1, 156), (0, x1), (9, 0), (0, x3), (9, 0), (9, 0), (9, 0)] [(0, y2), (0, y1), (1, 263)] (wr M V) o := by
  delta j_X16_tookChecked_299 at h
  refine P2_sai hM (a := 263) (n := 44) rfl dX16_tookChecked_299 h (fun V1 h => ?_)
  refine S_aload_n (i := 0) dX16_tookChecked_300 rfl rfl ?_
  refine P2_gfr hM (a := 264) FLX16_339 rfl ⟨rfl, rfl⟩ dX16_tookChecked_301 ?_
  refine S_iload_n (i := 1) dX16_tookChecked_304 rfl rfl ?_
  refine S_iconst dX16_tookChecked_305 rfl ?_
  refine P2_sai hM (a := 264) (n := 44) rfl dX16_tookChecked_306 h (fun V2 h => ?_)
  refine S_iload_n (i := 3) dX16_tookChecked_307 rfl rfl ?_
  refine P_if_eq (tgt := 326) dX16_tookChecked_308 rfl h (fun h => ?_) (fun h => ?_)
  · refine S_weak (ls' := [(1, 156), (0, x1), (9, 0), (9, 0), (9, 0), (9, 0), (9, 0)]) ⟨Or.inr rfl, ⟨Or.inr rfl, ⟨Or.inl rfl, ⟨Or.inl rfl, ⟨Or.inl rfl, ⟨Or.inl rfl, ⟨Or.inl rfl, trivial⟩⟩⟩⟩⟩⟩⟩ ?_
    exact s_X16_tookChecked_326 hD hM r0 h hz
  · refine S_aload_n (i := 0) dX16_tookChecked_311 rfl rfl ?_
    refine P2_gfr hM (a := 263) FLX16_336 rfl ⟨rfl, rfl⟩ dX16_tookChecked_312 ?_
    refine S_iload_n (i := 1) dX16_tookChecked_315 rfl rfl ?_
    refine P2_lai hM (a := 263) (n := 44) rfl dX16_tookChecked_316 h (fun v1 h => ?_)
    refine S_aload_n (i := 0) dX16_tookChecked_317 rfl rfl ?_
    refine P2_gfr hM (a := 247) FLX16_288 rfl ⟨rfl, rfl⟩ dX16_tookChecked_318 ?_
    refine S_iload_n (i := 1) dX16_tookChecked_321 rfl rfl ?_
    refine P2_lai hM (a := 247) (n := 44) rfl dX16_tookChecked_322 h (fun v2 h => ?_)
    refine P_icmp_lt (tgt := 331) dX16_tookChecked_323 rfl h (fun h => ?_) (fun h => ?_)
    · refine S_weak (ls' := [(9, 0), (9, 0), (9, 0), (9, 0), (9, 0), (9, 0), (9, 0)]) ⟨Or.inl rfl, ⟨Or.inl rfl, ⟨Or.inl rfl, ⟨Or.inl rfl, ⟨Or.inl rfl, ⟨Or.inl rfl, ⟨Or.inl rfl, trivial⟩⟩⟩⟩⟩⟩⟩ ?_
      exact s_X16_tookChecked_331 hD hM r0 h hz
    · refine S_weak (ls' := [(1, 156), (0, x1), (9, 0), (9, 0), (9, 0), (9, 0), (9, 0)]) ⟨Or.inr rfl, ⟨Or.inr rfl, ⟨Or.inl rfl, ⟨Or.inl rfl, ⟨Or.inl rfl, ⟨Or.inl rfl, ⟨Or.inl rfl, trivial⟩⟩⟩⟩⟩⟩⟩ ?_
      exact s_X16_tookChecked_326 hD hM r0 h hz
theorem s_X16_tookChecked_273 {g : GG} {d : Nat} (hD : 2 ≤ d) {x1 x3 : Int} {M : MM} (hM : LM M) {V : VV} {o : AV × MM} {P : (VV) → Prop} (r0 : ∀ r : VV, P r → o = ((9, 0), (wr M r))) {z : VV} (h : j_X16_tookChecked_273 x1 x3 V = some z) (hz : P z) : Sem g d YX16_tookChecked 273 [(1, 156), (0, x1), (9, 0), (0, x3), (9, 0), (9, 0), (9, 0)] [] (wr M V) o := by
  delta j_X16_tookChecked_273 at h
  refine S_aload_n (i := 0) dX16_tookChecked_273 rfl rfl ?_
  refine P2_gfr hM (a := 258) FLX16_321 rfl ⟨rfl, rfl⟩ dX16_tookChecked_274 ?_
  refine S_iload_n (i := 1) dX16_tookChecked_277 rfl rfl ?_
  refine S_iload_n (i := 3) dX16_tookChecked_278 rfl rfl ?_
  refine P2_sai hM (a := 258) (n := 44) rfl dX16_tookChecked_279 h (fun V1 h => ?_)
  refine S_aload_n (i := 0) dX16_tookChecked_280 rfl rfl ?_
  refine P2_gfr hM (a := 263) FLX16_336 rfl ⟨rfl, rfl⟩ dX16_tookChecked_281 ?_
  refine S_iload_n (i := 1) dX16_tookChecked_284 rfl rfl ?_
  refine S_aload_n (i := 0) dX16_tookChecked_285 rfl rfl ?_
  refine P2_gfr hM (a := 263) FLX16_336 rfl ⟨rfl, rfl⟩ dX16_tookChecked_286 ?_
  refine S_iload_n (i := 1) dX16_tookChecked_289 rfl rfl ?_
  refine P2_lai hM (a := 263) (n := 44) rfl dX16_tookChecked_290 h (fun v1 h => ?_)
  refine P_if_ne (tgt := 298) dX16_tookChecked_291 rfl h (fun h => ?_) (fun h => ?_)
  · refine S_iconst dX16_tookChecked_298 rfl ?_
    exact s_X16_tookChecked_299 hD hM r0 h hz
  · refine S_iconst dX16_tookChecked_294 rfl ?_
    refine S_goto (tgt := 299) dX16_tookChecked_295 rfl ?_
    exact s_X16_tookChecked_299 hD hM r0 h hz
theorem s_X16_tookChecked_267 {g : GG} {d : Nat} (hD : 2 ≤ d) {x1 x3 x4 : Int} {M : MM} (hM : LM M) {V : VV} {o : AV × MM} {P : ((Int × Int × VV) ⊕ (VV)) → Prop} (c0 : ∀ s : Int × Int × VV, P (.inl s) → Sem g d YX16_tookChecked 182 [(1, 156), (0, x1), (9, 0), (0, s.1), (0, s.2.1), (9, 0), (9, 0)] [] (wr M s.2.2) o) (r0 : ∀ r : VV, P (.inr r) → o = ((9, 0), (wr M r))) {z : (Int × Int × VV) ⊕ (VV)} (h : j_X16_tookChecked_267 x1 x3 x4 V = some z) (hz : P z) : Sem g d YX16_tookChecked 267 [(1, 156), (0, x1), (9, 0), (0, x3), (0, x4), (9, 0), (9, 0)] [] (wr M V) o := by
  delta j_X16_tookChecked_267 at h
  refine S_iinc dX16_tookChecked_267 rfl rfl rfl ?_
  change Sem g d YX16_tookChecked 270 [(1, 156), (0, x1), (9, 0), (0, x3), (0, x4 + 1), (9, 0), (9, 0)] [] (wr M V) o
  refine S_goto (tgt := 182) dX16_tookChecked_270 rfl ?_
  exact c0 (x3, x4 + 1, V) (some_P (P := fun r => P r) h hz)
theorem s_X16_tookChecked_182 {g : GG} {d : Nat} (hD : 2 ≤ d) {x1 x3 x4 : Int} {M : MM} (hM : LM M) {V : VV} {o : AV × MM} {P : ((Int × Int × VV) ⊕ (VV)) → Prop} (c0 : ∀ s : Int × Int × VV, P (.inl s) → Sem g d YX16_tookChecked 182 [(1, 156), (0, x1), (9, 0), (0, s.1), (0, s.2.1), (9, 0), (9, 0)] [] (wr M s.2.2) o) (r0 : ∀ r : VV, P (.inr r) → o = ((9, 0), (wr M r))) {z : (Int × Int × VV) ⊕ (VV)} (h : b_X16_tookChecked_182 x1 x3 x4 V = some z) (hz : P z) : Sem g d YX16_tookChecked 182 [(1, 156), (0, x1), (9, 0), (0, x3), (0, x4), (9, 0), (9, 0)] [] (wr M V) o := by
  delta b_X16_tookChecked_182 at h
  refine S_iload dX16_tookChecked_182 rfl ?_
  refine S_aload_n (i := 0) dX16_tookChecked_184 rfl rfl ?_
  refine P2_gfr hM (a := 258) FLX16_321 rfl ⟨rfl, rfl⟩ dX16_tookChecked_185 ?_
  refine S_iload_n (i := 1) dX16_tookChecked_188 rfl rfl ?_
  refine P2_lai hM (a := 258) (n := 44) rfl dX16_tookChecked_189 h (fun v1 h => ?_)
  refine P_icmp_ge (tgt := 273) dX16_tookChecked_190 rfl h (fun h => ?_) (fun h => ?_)
  · refine S_weak (ls' := [(1, 156), (0, x1), (9, 0), (0, x3), (9, 0), (9, 0), (9, 0)]) ⟨Or.inr rfl, ⟨Or.inr rfl, ⟨Or.inl rfl, ⟨Or.inr rfl, ⟨Or.inl rfl, ⟨Or.inl rfl, ⟨Or.inl rfl, trivial⟩⟩⟩⟩⟩⟩⟩ ?_
    obtain ⟨z0, h, hz⟩ := xit_some' (P := fun r => P r) h hz
    exact s_X16_tookChecked_273 hD hM (P := fun r => P (.inr r)) r0 h hz
  · refine S_sipush (z := 200) dX16_tookChecked_193 rfl ?_
    refine S_iload_n (i := 1) dX16_tookChecked_196 rfl rfl ?_
    refine S_imul dX16_tookChecked_197 ?_
    refine S_iload dX16_tookChecked_198 rfl ?_
    refine S_iadd dX16_tookChecked_200 ?_
    refine S_istore dX16_tookChecked_201 (Nat.le_of_ble_eq_true rfl) rfl rfl ?_
    change Sem g d YX16_tookChecked 203 [(1, 156), (0, x1), (9, 0), (0, x3), (0, x4), (0, (200 * x1) + x4), (9, 0)] [] (wr M V) o
    refine S_aload_n (i := 0) dX16_tookChecked_203 rfl rfl ?_
    refine P2_gfr hM (a := 262) FLX16_333 rfl ⟨rfl, rfl⟩ dX16_tookChecked_204 ?_
    refine S_iload dX16_tookChecked_207 rfl ?_
    refine P2_laz hM (a := 262) (n := 8800) rfl dX16_tookChecked_209 h (fun v2 h => ?_)
    refine P_if_eq (tgt := 267) dX16_tookChecked_210 rfl h (fun h => ?_) (fun h => ?_)
    · refine S_weak (ls' := [(1, 156), (0, x1), (9, 0), (0, x3), (0, x4), (9, 0), (9, 0)]) ⟨Or.inr rfl, ⟨Or.inr rfl, ⟨Or.inl rfl, ⟨Or.inr rfl, ⟨Or.inr rfl, ⟨Or.inl rfl, ⟨Or.inl rfl, trivial⟩⟩⟩⟩⟩⟩⟩ ?_
      exact s_X16_tookChecked_267 hD hM c0 r0 h hz
    · refine S_sipush (z := 200) dX16_tookChecked_213 rfl ?_
      refine S_iload_n (i := 1) dX16_tookChecked_216 rfl rfl ?_
      refine S_imul dX16_tookChecked_217 ?_
      refine S_iload_n (i := 3) dX16_tookChecked_218 rfl rfl ?_
      refine S_iadd dX16_tookChecked_219 ?_
      refine S_istore dX16_tookChecked_220 (Nat.le_of_ble_eq_true rfl) rfl rfl ?_
      change Sem g d YX16_tookChecked 222 [(1, 156), (0, x1), (9, 0), (0, x3), (0, x4), (0, (200 * x1) + x4), (0, (200 * x1) + x3)] [] (wr M V) o
      refine S_iinc dX16_tookChecked_222 rfl rfl rfl ?_
      change Sem g d YX16_tookChecked 225 [(1, 156), (0, x1), (9, 0), (0, x3 + 1), (0, x4), (0, (200 * x1) + x4), (0, (200 * x1) + x3)] [] (wr M V) o
      refine S_aload_n (i := 0) dX16_tookChecked_225 rfl rfl ?_
      refine P2_gfr hM (a := 259) FLX16_324 rfl ⟨rfl, rfl⟩ dX16_tookChecked_226 ?_
      refine S_iload dX16_tookChecked_229 rfl ?_
      refine S_aload_n (i := 0) dX16_tookChecked_231 rfl rfl ?_
      refine P2_gfr hM (a := 259) FLX16_324 rfl ⟨rfl, rfl⟩ dX16_tookChecked_232 ?_
      refine S_iload dX16_tookChecked_235 rfl ?_
      refine P2_lai hM (a := 259) (n := 8800) rfl dX16_tookChecked_237 h (fun v3 h => ?_)
      refine P2_sai hM (a := 259) (n := 8800) rfl dX16_tookChecked_238 h (fun V1 h => ?_)
      refine S_aload_n (i := 0) dX16_tookChecked_239 rfl rfl ?_
      refine P2_gfr hM (a := 260) FLX16_327 rfl ⟨rfl, rfl⟩ dX16_tookChecked_240 ?_
      refine S_iload dX16_tookChecked_243 rfl ?_
      refine S_aload_n (i := 0) dX16_tookChecked_245 rfl rfl ?_
      refine P2_gfr hM (a := 260) FLX16_327 rfl ⟨rfl, rfl⟩ dX16_tookChecked_246 ?_
      refine S_iload dX16_tookChecked_249 rfl ?_
      refine P2_lai hM (a := 260) (n := 8800) rfl dX16_tookChecked_251 h (fun v4 h => ?_)
      refine P2_sai hM (a := 260) (n := 8800) rfl dX16_tookChecked_252 h (fun V2 h => ?_)
      refine S_aload_n (i := 0) dX16_tookChecked_253 rfl rfl ?_
      refine P2_gfr hM (a := 261) FLX16_330 rfl ⟨rfl, rfl⟩ dX16_tookChecked_254 ?_
      refine S_iload dX16_tookChecked_257 rfl ?_
      refine S_aload_n (i := 0) dX16_tookChecked_259 rfl rfl ?_
      refine P2_gfr hM (a := 261) FLX16_330 rfl ⟨rfl, rfl⟩ dX16_tookChecked_260 ?_
      refine S_iload dX16_tookChecked_263 rfl ?_
      refine P2_lai hM (a := 261) (n := 8800) rfl dX16_tookChecked_265 h (fun v5 h => ?_)
      refine P2_sai hM (a := 261) (n := 8800) rfl dX16_tookChecked_266 h (fun V3 h => ?_)
      refine S_weak (ls' := [(1, 156), (0, x1), (9, 0), (0, x3 + 1), (0, x4), (9, 0), (9, 0)]) ⟨Or.inr rfl, ⟨Or.inr rfl, ⟨Or.inl rfl, ⟨Or.inr rfl, ⟨Or.inr rfl, ⟨Or.inl rfl, ⟨Or.inl rfl, trivial⟩⟩⟩⟩⟩⟩⟩ ?_
      exact s_X16_tookChecked_267 hD hM c0 r0 h hz
theorem sl_X16_tookChecked_182 {g : GG} {d : Nat} (hD : 2 ≤ d) {x1 x3 x4 : Int} {M : MM} (hM : LM M) {V : VV} {o : AV × MM} {P : (VV) → Prop} (r0 : ∀ r : VV, P r → o = ((9, 0), (wr M r))) {z : VV} (h : l_X16_tookChecked_182 x1 x3 x4 V = some z) (hz : P z) : Sem g d YX16_tookChecked 182 [(1, 156), (0, x1), (9, 0), (0, x3), (0, x4), (9, 0), (9, 0)] [] (wr M V) o := by
  refine lp_sound (S := fun s : Int × Int × VV => Sem g d YX16_tookChecked 182 [(1, 156), (0, x1), (9, 0), (0, s.1), (0, s.2.1), (9, 0), (9, 0)] [] (wr M s.2.2) o) (P := P) ?_ FU (x3, x4, V) z h hz
  intro s x hx hP
  exact s_X16_tookChecked_182 hD hM (P := Sum.elim (fun s : Int × Int × VV => Sem g d YX16_tookChecked 182 [(1, 156), (0, x1), (9, 0), (0, s.1), (0, s.2.1), (9, 0), (9, 0)] [] (wr M s.2.2) o) P) (fun s h => h) (fun s h => r0 s h) hx hP
theorem s_X16_tookChecked_159 {g : GG} {d : Nat} (hD : 2 ≤ d) {x1 x2 : Int} {M : MM} (hM : LM M) {V : VV} {o : AV × MM} {P : (VV) → Prop} (r0 : ∀ r : VV, P r → o = ((9, 0), (wr M r))) {z : VV} (h : j_X16_tookChecked_159 x1 x2 V = some z) (hz : P z) : Sem g d YX16_tookChecked 159 [(1, 156), (0, x1), (0, x2), (9, 0), (9, 0), (9, 0), (9, 0)] [] (wr M V) o := by
  delta j_X16_tookChecked_159 at h
  refine S_aload_n (i := 0) dX16_tookChecked_159 rfl rfl ?_
  refine P2_gfr hM (a := 264) FLX16_339 rfl ⟨rfl, rfl⟩ dX16_tookChecked_160 ?_
  refine S_iload_n (i := 1) dX16_tookChecked_163 rfl rfl ?_
  refine S_iload_n (i := 2) dX16_tookChecked_164 rfl rfl ?_
  refine P2_sai hM (a := 264) (n := 44) rfl dX16_tookChecked_165 h (fun V1 h => ?_)
  refine S_iload_n (i := 2) dX16_tookChecked_166 rfl rfl ?_
  refine S_aload_n (i := 0) dX16_tookChecked_167 rfl rfl ?_
  refine P2_gfr hM (a := 258) FLX16_321 rfl ⟨rfl, rfl⟩ dX16_tookChecked_168 ?_
  refine S_iload_n (i := 1) dX16_tookChecked_171 rfl rfl ?_
  refine P2_lai hM (a := 258) (n := 44) rfl dX16_tookChecked_172 h (fun v1 h => ?_)
  refine P_icmp_ge (tgt := 177) dX16_tookChecked_173 rfl h (fun h => ?_) (fun h => ?_)
  · refine S_iconst dX16_tookChecked_177 rfl ?_
    refine S_istore_n (i := 3) dX16_tookChecked_178 rfl (Nat.le_of_ble_eq_true rfl) rfl rfl ?_
    change Sem g d YX16_tookChecked 179 [(1, 156), (0, x1), (0, x2), (0, 0), (9, 0), (9, 0), (9, 0)] [] (wr M V1) o
    refine S_iconst dX16_tookChecked_179 rfl ?_
    refine S_istore dX16_tookChecked_180 (Nat.le_of_ble_eq_true rfl) rfl rfl ?_
    change Sem g d YX16_tookChecked 182 [(1, 156), (0, x1), (0, x2), (0, 0), (0, 0), (9, 0), (9, 0)] [] (wr M V1) o
    refine S_weak (ls' := [(1, 156), (0, x1), (9, 0), (0, 0), (0, 0), (9, 0), (9, 0)]) ⟨Or.inr rfl, ⟨Or.inr rfl, ⟨Or.inl rfl, ⟨Or.inr rfl, ⟨Or.inr rfl, ⟨Or.inl rfl, ⟨Or.inl rfl, trivial⟩⟩⟩⟩⟩⟩⟩ ?_
    exact sl_X16_tookChecked_182 hD hM r0 h hz
  · obtain rfl := r0 _ (some_P (P := fun r => P r) h hz)
    exact S_return dX16_tookChecked_176 rfl
theorem s_X16_tookChecked_153 {g : GG} {d : Nat} (hD : 2 ≤ d) {x1 x2 x3 : Int} {M : MM} (hM : LM M) {V : VV} {o : AV × MM} {P : ((Int × VV) ⊕ (VV)) → Prop} (c0 : ∀ s : Int × VV, P (.inl s) → Sem g d YX16_tookChecked 44 [(1, 156), (0, x1), (0, x2), (0, s.1), (9, 0), (9, 0), (9, 0)] [] (wr M s.2) o) (r0 : ∀ r : VV, P (.inr r) → o = ((9, 0), (wr M r))) {z : (Int × VV) ⊕ (VV)} (h : j_X16_tookChecked_153 x1 x2 x3 V = some z) (hz : P z) : Sem g d YX16_tookChecked 153 [(1, 156), (0, x1), (0, x2), (0, x3), (9, 0), (9, 0), (9, 0)] [] (wr M V) o := by
  delta j_X16_tookChecked_153 at h
  refine S_iinc dX16_tookChecked_153 rfl rfl rfl ?_
  change Sem g d YX16_tookChecked 156 [(1, 156), (0, x1), (0, x2), (0, x3 + 1), (9, 0), (9, 0), (9, 0)] [] (wr M V) o
  refine S_goto (tgt := 44) dX16_tookChecked_156 rfl ?_
  exact c0 (x3 + 1, V) (some_P (P := fun r => P r) h hz)
theorem s_X16_tookChecked_147 {g : GG} {d : Nat} (hD : 2 ≤ d) {x1 x2 x3 x4 x5 : Int} {M : MM} (hM : LM M) {V : VV} {o : AV × MM} {P : ((Int × VV) ⊕ ((Int × VV) ⊕ (VV))) → Prop} (c1 : ∀ s : Int × VV, P (.inl s) → Sem g d YX16_tookChecked 69 [(1, 156), (0, x1), (0, x2), (0, x3), (0, x4), (0, s.1), (9, 0)] [] (wr M s.2) o) (c0 : ∀ s : Int × VV, P (.inr (.inl s)) → Sem g d YX16_tookChecked 44 [(1, 156), (0, x1), (0, x2), (0, s.1), (9, 0), (9, 0), (9, 0)] [] (wr M s.2) o) (r0 : ∀ r : VV, P (.inr (.inr r)) → o = ((9, 0), (wr M r))) {z : (Int × VV) ⊕ ((Int × VV) ⊕ (VV))} (h : j_X16_tookChecked_147 x1 x2 x3 x4 x5 V = some z) (hz : P z) : Sem g d YX16_tookChecked 147 [(1, 156), (0, x1), (0, x2), (0, x3), (0, x4), (0, x5), (9, 0)] [] (wr M V) o := by
  delta j_X16_tookChecked_147 at h
  refine S_iinc dX16_tookChecked_147 rfl rfl rfl ?_
  change Sem g d YX16_tookChecked 150 [(1, 156), (0, x1), (0, x2), (0, x3), (0, x4), (0, x5 + 1), (9, 0)] [] (wr M V) o
  refine S_goto (tgt := 69) dX16_tookChecked_150 rfl ?_
  exact c1 (x5 + 1, V) (some_P (P := fun r => P r) h hz)
theorem s_X16_tookChecked_69 {g : GG} {d : Nat} (hD : 2 ≤ d) {x1 x2 x3 x4 x5 : Int} {M : MM} (hM : LM M) {V : VV} {o : AV × MM} {P : ((Int × VV) ⊕ ((Int × VV) ⊕ (VV))) → Prop} (c1 : ∀ s : Int × VV, P (.inl s) → Sem g d YX16_tookChecked 69 [(1, 156), (0, x1), (0, x2), (0, x3), (0, x4), (0, s.1), (9, 0)] [] (wr M s.2) o) (c0 : ∀ s : Int × VV, P (.inr (.inl s)) → Sem g d YX16_tookChecked 44 [(1, 156), (0, x1), (0, x2), (0, s.1), (9, 0), (9, 0), (9, 0)] [] (wr M s.2) o) (r0 : ∀ r : VV, P (.inr (.inr r)) → o = ((9, 0), (wr M r))) {z : (Int × VV) ⊕ ((Int × VV) ⊕ (VV))} (h : b_X16_tookChecked_69 x1 x2 x3 x4 x5 V = some z) (hz : P z) : Sem g d YX16_tookChecked 69 [(1, 156), (0, x1), (0, x2), (0, x3), (0, x4), (0, x5), (9, 0)] [] (wr M V) o := by
  delta b_X16_tookChecked_69 at h
  refine S_iload dX16_tookChecked_69 rfl ?_
  refine S_aload_n (i := 0) dX16_tookChecked_71 rfl rfl ?_
  refine P2_gfi hM FLX16_595 rfl dX16_tookChecked_72 ?_
  refine P_icmp_ge (tgt := 153) dX16_tookChecked_75 rfl h (fun h => ?_) (fun h => ?_)
  · refine S_weak (ls' := [(1, 156), (0, x1), (0, x2), (0, x3), (9, 0), (9, 0), (9, 0)]) ⟨Or.inr rfl, ⟨Or.inr rfl, ⟨Or.inr rfl, ⟨Or.inr rfl, ⟨Or.inl rfl, ⟨Or.inl rfl, ⟨Or.inl rfl, trivial⟩⟩⟩⟩⟩⟩⟩ ?_
    obtain ⟨z0, h, hz⟩ := xit_some' (P := fun r => P r) h hz
    exact s_X16_tookChecked_153 hD hM (P := fun r => P (.inr r)) c0 r0 h hz
  · refine S_aload_n (i := 0) dX16_tookChecked_78 rfl rfl ?_
    refine P2_gfr hM (a := 262) FLX16_333 rfl ⟨rfl, rfl⟩ dX16_tookChecked_79 ?_
    refine S_iload dX16_tookChecked_82 rfl ?_
    refine P2_laz hM (a := 262) (n := 8800) rfl dX16_tookChecked_84 h (fun v1 h => ?_)
    refine P_if_ne (tgt := 147) dX16_tookChecked_85 rfl h (fun h => ?_) (fun h => ?_)
    · exact s_X16_tookChecked_147 hD hM c1 c0 r0 h hz
    · refine S_aload_n (i := 0) dX16_tookChecked_88 rfl rfl ?_
      refine P2_gfr hM (a := 259) FLX16_324 rfl ⟨rfl, rfl⟩ dX16_tookChecked_89 ?_
      refine S_iload dX16_tookChecked_92 rfl ?_
      refine P2_lai hM (a := 259) (n := 8800) rfl dX16_tookChecked_94 h (fun v2 h => ?_)
      refine S_aload_n (i := 0) dX16_tookChecked_95 rfl rfl ?_
      refine P2_gfr hM (a := 221) FLX16_210 rfl ⟨rfl, rfl⟩ dX16_tookChecked_96 ?_
      refine S_iload dX16_tookChecked_99 rfl ?_
      refine P2_lai hM (a := 221) (n := 30) rfl dX16_tookChecked_101 h (fun v3 h => ?_)
      refine P_icmp_ne (tgt := 147) dX16_tookChecked_102 rfl h (fun h => ?_) (fun h => ?_)
      · exact s_X16_tookChecked_147 hD hM c1 c0 r0 h hz
      · refine S_aload_n (i := 0) dX16_tookChecked_105 rfl rfl ?_
        refine P2_gfr hM (a := 260) FLX16_327 rfl ⟨rfl, rfl⟩ dX16_tookChecked_106 ?_
        refine S_iload dX16_tookChecked_109 rfl ?_
        refine P2_lai hM (a := 260) (n := 8800) rfl dX16_tookChecked_111 h (fun v4 h => ?_)
        refine S_aload_n (i := 0) dX16_tookChecked_112 rfl rfl ?_
        refine P2_gfr hM (a := 222) FLX16_213 rfl ⟨rfl, rfl⟩ dX16_tookChecked_113 ?_
        refine S_iload dX16_tookChecked_116 rfl ?_
        refine P2_lai hM (a := 222) (n := 30) rfl dX16_tookChecked_118 h (fun v5 h => ?_)
        refine P_icmp_ne (tgt := 147) dX16_tookChecked_119 rfl h (fun h => ?_) (fun h => ?_)
        · exact s_X16_tookChecked_147 hD hM c1 c0 r0 h hz
        · refine S_aload_n (i := 0) dX16_tookChecked_122 rfl rfl ?_
          refine P2_gfr hM (a := 262) FLX16_333 rfl ⟨rfl, rfl⟩ dX16_tookChecked_123 ?_
          refine S_iload dX16_tookChecked_126 rfl ?_
          refine S_iconst dX16_tookChecked_128 rfl ?_
          refine P2_saz hM (a := 262) (n := 8800) rfl dX16_tookChecked_129 h (fun V1 h => ?_)
          refine S_aload_n (i := 0) dX16_tookChecked_130 rfl rfl ?_
          refine P2_gfr hM (a := 261) FLX16_330 rfl ⟨rfl, rfl⟩ dX16_tookChecked_131 ?_
          refine S_iload dX16_tookChecked_134 rfl ?_
          refine S_dup2 dX16_tookChecked_136 (Nat.le_of_ble_eq_true rfl) (Nat.le_of_ble_eq_true rfl) ?_
          refine P2_lai hM (a := 261) (n := 8800) rfl dX16_tookChecked_137 h (fun v6 h => ?_)
          refine S_aload_n (i := 0) dX16_tookChecked_138 rfl rfl ?_
          refine P2_gfr hM (a := 223) FLX16_216 rfl ⟨rfl, rfl⟩ dX16_tookChecked_139 ?_
          refine S_iload dX16_tookChecked_142 rfl ?_
          refine P2_lai hM (a := 223) (n := 30) rfl dX16_tookChecked_144 h (fun v7 h => ?_)
          refine S_iadd dX16_tookChecked_145 ?_
          refine P2_sai hM (a := 261) (n := 8800) rfl dX16_tookChecked_146 h (fun V2 h => ?_)
          exact s_X16_tookChecked_147 hD hM c1 c0 r0 h hz
theorem sl_X16_tookChecked_69 {g : GG} {d : Nat} (hD : 2 ≤ d) {x1 x2 x3 x4 x5 : Int} {M : MM} (hM : LM M) {V : VV} {o : AV × MM} {P : ((Int × VV) ⊕ (VV)) → Prop} (c0 : ∀ s : Int × VV, P (.inl s) → Sem g d YX16_tookChecked 44 [(1, 156), (0, x1), (0, x2), (0, s.1), (9, 0), (9, 0), (9, 0)] [] (wr M s.2) o) (r0 : ∀ r : VV, P (.inr r) → o = ((9, 0), (wr M r))) {z : (Int × VV) ⊕ (VV)} (h : l_X16_tookChecked_69 x1 x2 x3 x4 x5 V = some z) (hz : P z) : Sem g d YX16_tookChecked 69 [(1, 156), (0, x1), (0, x2), (0, x3), (0, x4), (0, x5), (9, 0)] [] (wr M V) o := by
  refine lp_sound (S := fun s : Int × VV => Sem g d YX16_tookChecked 69 [(1, 156), (0, x1), (0, x2), (0, x3), (0, x4), (0, s.1), (9, 0)] [] (wr M s.2) o) (P := P) ?_ FU (x5, V) z h hz
  intro s x hx hP
  exact s_X16_tookChecked_69 hD hM (P := Sum.elim (fun s : Int × VV => Sem g d YX16_tookChecked 69 [(1, 156), (0, x1), (0, x2), (0, x3), (0, x4), (0, s.1), (9, 0)] [] (wr M s.2) o) P) (fun s h => h) (fun s h => c0 s h) (fun s h => r0 s h) hx hP
theorem s_X16_tookChecked_44 {g : GG} {d : Nat} (hD : 2 ≤ d) {x1 x2 x3 : Int} {M : MM} (hM : LM M) {V : VV} {o : AV × MM} {P : ((Int × VV) ⊕ (VV)) → Prop} (c0 : ∀ s : Int × VV, P (.inl s) → Sem g d YX16_tookChecked 44 [(1, 156), (0, x1), (0, x2), (0, s.1), (9, 0), (9, 0), (9, 0)] [] (wr M s.2) o) (r0 : ∀ r : VV, P (.inr r) → o = ((9, 0), (wr M r))) {z : (Int × VV) ⊕ (VV)} (h : b_X16_tookChecked_44 x1 x2 x3 V = some z) (hz : P z) : Sem g d YX16_tookChecked 44 [(1, 156), (0, x1), (0, x2), (0, x3), (9, 0), (9, 0), (9, 0)] [] (wr M V) o := by
  delta b_X16_tookChecked_44 at h
  refine S_iload_n (i := 3) dX16_tookChecked_44 rfl rfl ?_
  refine S_iload_n (i := 2) dX16_tookChecked_45 rfl rfl ?_
  refine P_icmp_ge (tgt := 159) dX16_tookChecked_46 rfl h (fun h => ?_) (fun h => ?_)
  · refine S_weak (ls' := [(1, 156), (0, x1), (0, x2), (9, 0), (9, 0), (9, 0), (9, 0)]) ⟨Or.inr rfl, ⟨Or.inr rfl, ⟨Or.inr rfl, ⟨Or.inl rfl, ⟨Or.inl rfl, ⟨Or.inl rfl, ⟨Or.inl rfl, trivial⟩⟩⟩⟩⟩⟩⟩ ?_
    obtain ⟨z0, h, hz⟩ := xit_some' (P := fun r => P r) h hz
    exact s_X16_tookChecked_159 hD hM (P := fun r => P (.inr r)) r0 h hz
  · refine S_sipush (z := 200) dX16_tookChecked_49 rfl ?_
    refine S_iload_n (i := 1) dX16_tookChecked_52 rfl rfl ?_
    refine S_imul dX16_tookChecked_53 ?_
    refine S_iload_n (i := 3) dX16_tookChecked_54 rfl rfl ?_
    refine S_iadd dX16_tookChecked_55 ?_
    refine S_istore dX16_tookChecked_56 (Nat.le_of_ble_eq_true rfl) rfl rfl ?_
    change Sem g d YX16_tookChecked 58 [(1, 156), (0, x1), (0, x2), (0, x3), (0, (200 * x1) + x3), (9, 0), (9, 0)] [] (wr M V) o
    refine S_aload_n (i := 0) dX16_tookChecked_58 rfl rfl ?_
    refine P2_gfr hM (a := 262) FLX16_333 rfl ⟨rfl, rfl⟩ dX16_tookChecked_59 ?_
    refine S_iload dX16_tookChecked_62 rfl ?_
    refine S_iconst dX16_tookChecked_64 rfl ?_
    refine P2_saz hM (a := 262) (n := 8800) rfl dX16_tookChecked_65 h (fun V1 h => ?_)
    refine S_iconst dX16_tookChecked_66 rfl ?_
    refine S_istore dX16_tookChecked_67 (Nat.le_of_ble_eq_true rfl) rfl rfl ?_
    change Sem g d YX16_tookChecked 69 [(1, 156), (0, x1), (0, x2), (0, x3), (0, (200 * x1) + x3), (0, 0), (9, 0)] [] (wr M V1) o
    exact sl_X16_tookChecked_69 hD hM c0 r0 h hz
theorem sl_X16_tookChecked_44 {g : GG} {d : Nat} (hD : 2 ≤ d) {x1 x2 x3 : Int} {M : MM} (hM : LM M) {V : VV} {o : AV × MM} {P : (VV) → Prop} (r0 : ∀ r : VV, P r → o = ((9, 0), (wr M r))) {z : VV} (h : l_X16_tookChecked_44 x1 x2 x3 V = some z) (hz : P z) : Sem g d YX16_tookChecked 44 [(1, 156), (0, x1), (0, x2), (0, x3), (9, 0), (9, 0), (9, 0)] [] (wr M V) o := by
  refine lp_sound (S := fun s : Int × VV => Sem g d YX16_tookChecked 44 [(1, 156), (0, x1), (0, x2), (0, s.1), (9, 0), (9, 0), (9, 0)] [] (wr M s.2) o) (P := P) ?_ FU (x3, V) z h hz
  intro s x hx hP
  exact s_X16_tookChecked_44 hD hM (P := Sum.elim (fun s : Int × VV => Sem g d YX16_tookChecked 44 [(1, 156), (0, x1), (0, x2), (0, s.1), (9, 0), (9, 0), (9, 0)] [] (wr M s.2) o) P) (fun s h => h) (fun s h => r0 s h) hx hP
theorem s_X16_tookChecked_36 {g : GG} {d : Nat} (hD : 2 ≤ d) {x1 y0 : Int} {M : MM} (hM : LM M) {V : VV} {o : AV × MM} {P : (VV) → Prop} (r0 : ∀ r : VV, P r → o = ((9, 0), (wr M r))) {z : VV} (h : j_X16_tookChecked_36 x1 y0 V = some z) (hz : P z) : Sem g d YX16_tookChecked 36 [(1, 156), (0, x1), (9, 0), (9, 0), (9, 0), (9, 0), (9, 0)] [(0, y0)] (wr M V) o := by
  delta j_X16_tookChecked_36 at h
  refine S_istore_n (i := 2) dX16_tookChecked_36 rfl (Nat.le_of_ble_eq_true rfl) rfl rfl ?_
  change Sem g d YX16_tookChecked 37 [(1, 156), (0, x1), (0, y0), (9, 0), (9, 0), (9, 0), (9, 0)] [] (wr M V) o
  refine S_aload_n (i := 0) dX16_tookChecked_37 rfl rfl ?_
  refine P2_gfr hM (a := 264) FLX16_339 rfl ⟨rfl, rfl⟩ dX16_tookChecked_38 ?_
  refine S_iload_n (i := 1) dX16_tookChecked_41 rfl rfl ?_
  refine P2_lai hM (a := 264) (n := 44) rfl dX16_tookChecked_42 h (fun v1 h => ?_)
  refine S_istore_n (i := 3) dX16_tookChecked_43 rfl (Nat.le_of_ble_eq_true rfl) rfl rfl ?_
  change Sem g d YX16_tookChecked 44 [(1, 156), (0, x1), (0, y0), (0, v1), (9, 0), (9, 0), (9, 0)] [] (wr M V) o
  exact sl_X16_tookChecked_44 hD hM r0 h hz
theorem s_X16_tookChecked_0 {g : GG} {d : Nat} (hD : 2 ≤ d) {x1 : Int} {M : MM} (hM : LM M) {V : VV} {o : AV × MM} {P : (VV) → Prop} (r0 : ∀ r : VV, P r → o = ((9, 0), (wr M r))) {z : VV} (h : f_X16_tookChecked x1 V = some z) (hz : P z) : Sem g d YX16_tookChecked 0 [(1, 156), (0, x1), (9, 0), (9, 0), (9, 0), (9, 0), (9, 0)] [] (wr M V) o := by
  delta f_X16_tookChecked at h
  refine S_aload_n (i := 0) dX16_tookChecked_0 rfl rfl ?_
  refine P2_gfr hM (a := 264) FLX16_339 rfl ⟨rfl, rfl⟩ dX16_tookChecked_1 ?_
  refine S_iload_n (i := 1) dX16_tookChecked_4 rfl rfl ?_
  refine P2_lai hM (a := 264) (n := 44) rfl dX16_tookChecked_5 h (fun v1 h => ?_)
  refine S_bipush (z := 30) dX16_tookChecked_6 rfl ?_
  refine S_iadd dX16_tookChecked_8 ?_
  refine S_aload_n (i := 0) dX16_tookChecked_9 rfl rfl ?_
  refine P2_gfr hM (a := 258) FLX16_321 rfl ⟨rfl, rfl⟩ dX16_tookChecked_10 ?_
  refine S_iload_n (i := 1) dX16_tookChecked_13 rfl rfl ?_
  refine P2_lai hM (a := 258) (n := 44) rfl dX16_tookChecked_14 h (fun v2 h => ?_)
  refine P_icmp_ge (tgt := 30) dX16_tookChecked_15 rfl h (fun h => ?_) (fun h => ?_)
  · refine S_aload_n (i := 0) dX16_tookChecked_30 rfl rfl ?_
    refine P2_gfr hM (a := 258) FLX16_321 rfl ⟨rfl, rfl⟩ dX16_tookChecked_31 ?_
    refine S_iload_n (i := 1) dX16_tookChecked_34 rfl rfl ?_
    refine P2_lai hM (a := 258) (n := 44) rfl dX16_tookChecked_35 h (fun v3 h => ?_)
    exact s_X16_tookChecked_36 hD hM r0 h hz
  · refine S_aload_n (i := 0) dX16_tookChecked_18 rfl rfl ?_
    refine P2_gfr hM (a := 264) FLX16_339 rfl ⟨rfl, rfl⟩ dX16_tookChecked_19 ?_
    refine S_iload_n (i := 1) dX16_tookChecked_22 rfl rfl ?_
    refine P2_lai hM (a := 264) (n := 44) rfl dX16_tookChecked_23 h (fun v4 h => ?_)
    refine S_bipush (z := 30) dX16_tookChecked_24 rfl ?_
    refine S_iadd dX16_tookChecked_26 ?_
    refine S_goto (tgt := 36) dX16_tookChecked_27 rfl ?_
    exact s_X16_tookChecked_36 hD hM r0 h hz
theorem F_X16_tookChecked {g : GG} {d : Nat} (hD : 2 ≤ d) {x1 : Int} {M : MM} (hM : LM M) {V : VV} {r : VV} (h : f_X16_tookChecked x1 V = some r) : Sem g d YX16_tookChecked 0 (ini YX16_tookChecked [(1, 156), (0, x1)]) [] (wr M V) ((9, 0), (wr M r)) := by
  change Sem g d YX16_tookChecked 0 [(1, 156), (0, x1), (9, 0), (9, 0), (9, 0), (9, 0), (9, 0)] [] (wr M V) ((9, 0), (wr M r))
  exact s_X16_tookChecked_0 hD hM (P := fun x => x = r) (fun q e => by rw [e]) h rfl
