set_option maxRecDepth 100000
/-! PeerSearchModel.end(I)I -/
theorem dX16_end_0 : decode cX16_end 0 = .ok (.iload_n 1, 1) := by decide +kernel
theorem dX16_end_1 : decode cX16_end 1 = .ok (.ifCond .lt 21, 3) := by decide +kernel
theorem dX16_end_4 : decode cX16_end 4 = .ok (.iload_n 1, 1) := by decide +kernel
theorem dX16_end_5 : decode cX16_end 5 = .ok (.bipush 20, 2) := by decide +kernel
theorem dX16_end_7 : decode cX16_end 7 = .ok (.if_icmp .gt 15, 3) := by decide +kernel
theorem dX16_end_10 : decode cX16_end 10 = .ok (.aload_n 0, 1) := by decide +kernel
theorem dX16_end_11 : decode cX16_end 11 = .ok (.getfield 387, 3) := by decide +kernel
theorem dX16_end_14 : decode cX16_end 14 = .ok (.iload_n 1, 1) := by decide +kernel
theorem dX16_end_15 : decode cX16_end 15 = .ok (.iadd, 1) := by decide +kernel
theorem dX16_end_16 : decode cX16_end 16 = .ok (.sipush 500, 3) := by decide +kernel
theorem dX16_end_19 : decode cX16_end 19 = .ok (.if_icmp .le 5, 3) := by decide +kernel
theorem dX16_end_22 : decode cX16_end 22 = .ok (.iconst (-1), 1) := by decide +kernel
theorem dX16_end_23 : decode cX16_end 23 = .ok (.ireturn, 1) := by decide +kernel
theorem dX16_end_24 : decode cX16_end 24 = .ok (.iconst 0, 1) := by decide +kernel
theorem dX16_end_25 : decode cX16_end 25 = .ok (.istore_n 2, 1) := by decide +kernel
theorem dX16_end_26 : decode cX16_end 26 = .ok (.iload_n 2, 1) := by decide +kernel
theorem dX16_end_27 : decode cX16_end 27 = .ok (.iload_n 1, 1) := by decide +kernel
theorem dX16_end_28 : decode cX16_end 28 = .ok (.if_icmp .ge 26, 3) := by decide +kernel
theorem dX16_end_31 : decode cX16_end 31 = .ok (.aload_n 0, 1) := by decide +kernel
theorem dX16_end_32 : decode cX16_end 32 = .ok (.getfield 13, 3) := by decide +kernel
theorem dX16_end_35 : decode cX16_end 35 = .ok (.aload_n 0, 1) := by decide +kernel
theorem dX16_end_36 : decode cX16_end 36 = .ok (.getfield 387, 3) := by decide +kernel
theorem dX16_end_39 : decode cX16_end 39 = .ok (.iload_n 2, 1) := by decide +kernel
theorem dX16_end_40 : decode cX16_end 40 = .ok (.iadd, 1) := by decide +kernel
theorem dX16_end_41 : decode cX16_end 41 = .ok (.aload_n 0, 1) := by decide +kernel
theorem dX16_end_42 : decode cX16_end 42 = .ok (.getfield 7, 3) := by decide +kernel
theorem dX16_end_45 : decode cX16_end 45 = .ok (.iload_n 2, 1) := by decide +kernel
theorem dX16_end_46 : decode cX16_end 46 = .ok (.iaload, 1) := by decide +kernel
theorem dX16_end_47 : decode cX16_end 47 = .ok (.iastore, 1) := by decide +kernel
theorem dX16_end_48 : decode cX16_end 48 = .ok (.iinc 2 1, 3) := by decide +kernel
theorem dX16_end_51 : decode cX16_end 51 = .ok (.goto (-25), 3) := by decide +kernel
theorem dX16_end_54 : decode cX16_end 54 = .ok (.aload_n 0, 1) := by decide +kernel
theorem dX16_end_55 : decode cX16_end 55 = .ok (.dup, 1) := by decide +kernel
theorem dX16_end_56 : decode cX16_end 56 = .ok (.getfield 387, 3) := by decide +kernel
theorem dX16_end_59 : decode cX16_end 59 = .ok (.iload_n 1, 1) := by decide +kernel
theorem dX16_end_60 : decode cX16_end 60 = .ok (.iadd, 1) := by decide +kernel
theorem dX16_end_61 : decode cX16_end 61 = .ok (.putfield 387, 3) := by decide +kernel
theorem dX16_end_64 : decode cX16_end 64 = .ok (.iconst 0, 1) := by decide +kernel
theorem dX16_end_65 : decode cX16_end 65 = .ok (.istore_n 2, 1) := by decide +kernel
theorem dX16_end_66 : decode cX16_end 66 = .ok (.iload_n 2, 1) := by decide +kernel
theorem dX16_end_67 : decode cX16_end 67 = .ok (.bipush 20, 2) := by decide +kernel
theorem dX16_end_69 : decode cX16_end 69 = .ok (.if_icmp .ge 16, 3) := by decide +kernel
theorem dX16_end_72 : decode cX16_end 72 = .ok (.aload_n 0, 1) := by decide +kernel
theorem dX16_end_73 : decode cX16_end 73 = .ok (.getfield 7, 3) := by decide +kernel
theorem dX16_end_76 : decode cX16_end 76 = .ok (.iload_n 2, 1) := by decide +kernel
theorem dX16_end_77 : decode cX16_end 77 = .ok (.iconst 0, 1) := by decide +kernel
theorem dX16_end_78 : decode cX16_end 78 = .ok (.iastore, 1) := by decide +kernel
theorem dX16_end_79 : decode cX16_end 79 = .ok (.iinc 2 1, 3) := by decide +kernel
theorem dX16_end_82 : decode cX16_end 82 = .ok (.goto (-16), 3) := by decide +kernel
theorem dX16_end_85 : decode cX16_end 85 = .ok (.aload_n 0, 1) := by decide +kernel
theorem dX16_end_86 : decode cX16_end 86 = .ok (.getfield 387, 3) := by decide +kernel
theorem dX16_end_89 : decode cX16_end 89 = .ok (.ireturn, 1) := by decide +kernel
def b_X16_end_66 (x2 : Int) (V : VV) : Option ((Int × VV) ⊕ (Int × VV)) :=
  if w32 x2 < w32 20 then
    (s2 157 20 x2 0 V).bind fun V1 =>
    cnt (x2 + 1, V1)
  else
    xit (some (w32 (V 156 4), V))
def l_X16_end_66 (x2 : Int) (V : VV) : Option (Int × VV) := lpN (fun s : Int × VV => b_X16_end_66 s.1 s.2) FU (x2, V)
def j_X16_end_54 (x1 : Int) (V : VV) : Option (Int × VV) :=
  (p2 4 ((w32 (V 156 4)) + x1) V).bind fun V1 =>
  l_X16_end_66 0 V1
def b_X16_end_26 (x1 x2 : Int) (V : VV) : Option ((Int × VV) ⊕ (Int × VV)) :=
  if w32 x2 < w32 x1 then
    (l2 157 20 x2 V).bind fun v1 =>
    (s2 158 500 ((w32 (V 156 4)) + x2) v1 V).bind fun V1 =>
    cnt (x2 + 1, V1)
  else
    xit (j_X16_end_54 x1 V)
def l_X16_end_26 (x1 x2 : Int) (V : VV) : Option (Int × VV) := lpN (fun s : Int × VV => b_X16_end_26 x1 s.1 s.2) FU (x2, V)
def j_X16_end_22 (V : VV) : Option (Int × VV) :=
  some ((-1), V)
def f_X16_end (x1 : Int) (V : VV) : Option (Int × VV) :=
  if w32 x1 < 0 then
    j_X16_end_22 V
  else
    if w32 20 < w32 x1 then
      j_X16_end_22 V
    else
      if w32 500 < w32 ((w32 (V 156 4)) + x1) then
        j_X16_end_22 V
      else
        l_X16_end_26 x1 0 V
theorem s_X16_end_66 {g : GG} {d : Nat} (hD : 0 ≤ d) {x2 : Int} {M : MM} (hM : LM M) {V : VV} {o : AV × MM} {P : ((Int × VV) ⊕ (Int × VV)) → Prop} (c0 : ∀ s : Int × VV, P (.inl s) → Sem g d YX16_end 66 [(1, 156), (9, 0), (0, s.1)] [] (wr M s.2) o) (r0 : ∀ r : Int × VV, P (.inr r) → o = ((0, r.1), (wr M r.2))) {z : (Int × VV) ⊕ (Int × VV)} (h : b_X16_end_66 x2 V = some z) (hz : P z) : Sem g d YX16_end 66 [(1, 156), (9, 0), (0, x2)] [] (wr M V) o := by
  delta b_X16_end_66 at h
  refine S_iload_n (i := 2) dX16_end_66 rfl rfl ?_
  refine S_bipush (z := 20) dX16_end_67 rfl ?_
  refine P_icmp_ge (tgt := 85) dX16_end_69 rfl h (fun h => ?_) (fun h => ?_)
  · obtain ⟨z0, h, hz⟩ := xit_some' (P := fun r => P r) h hz
    refine S_aload_n (i := 0) dX16_end_85 rfl rfl ?_
    refine P2_gfi hM FLX16_387 rfl dX16_end_86 ?_
    obtain rfl := r0 _ (some_P (P := fun r => P (.inr r)) h hz)
    exact P_ret dX16_end_89 rfl (Or.inl rfl)
  · refine S_aload_n (i := 0) dX16_end_72 rfl rfl ?_
    refine P2_gfr hM (a := 157) FLX16_7 rfl ⟨rfl, rfl⟩ dX16_end_73 ?_
    refine S_iload_n (i := 2) dX16_end_76 rfl rfl ?_
    refine S_iconst dX16_end_77 rfl ?_
    refine P2_sai hM (a := 157) (n := 20) rfl dX16_end_78 h (fun V1 h => ?_)
    refine S_iinc dX16_end_79 rfl rfl rfl ?_
    change Sem g d YX16_end 82 [(1, 156), (9, 0), (0, x2 + 1)] [] (wr M V1) o
    refine S_goto (tgt := 66) dX16_end_82 rfl ?_
    exact c0 (x2 + 1, V1) (some_P (P := fun r => P r) h hz)
theorem sl_X16_end_66 {g : GG} {d : Nat} (hD : 0 ≤ d) {x2 : Int} {M : MM} (hM : LM M) {V : VV} {o : AV × MM} {P : (Int × VV) → Prop} (r0 : ∀ r : Int × VV, P r → o = ((0, r.1), (wr M r.2))) {z : Int × VV} (h : l_X16_end_66 x2 V = some z) (hz : P z) : Sem g d YX16_end 66 [(1, 156), (9, 0), (0, x2)] [] (wr M V) o := by
  refine lp_sound (S := fun s : Int × VV => Sem g d YX16_end 66 [(1, 156), (9, 0), (0, s.1)] [] (wr M s.2) o) (P := P) ?_ FU (x2, V) z h hz
  intro s x hx hP
  exact s_X16_end_66 hD hM (P := Sum.elim (fun s : Int × VV => Sem g d YX16_end 66 [(1, 156), (9, 0), (0, s.1)] [] (wr M s.2) o) P) (fun s h => h) (fun s h => r0 s h) hx hP
theorem s_X16_end_54 {g : GG} {d : Nat} (hD : 0 ≤ d) {x1 : Int} {M : MM} (hM : LM M) {V : VV} {o : AV × MM} {P : (Int × VV) → Prop} (r0 : ∀ r : Int × VV, P r → o = ((0, r.1), (wr M r.2))) {z : Int × VV} (h : j_X16_end_54 x1 V = some z) (hz : P z) : Sem g d YX16_end 54 [(1, 156), (0, x1), (9, 0)] [] (wr M V) o := by
  delta j_X16_end_54 at h
  refine S_aload_n (i := 0) dX16_end_54 rfl rfl ?_
  refine S_dup dX16_end_55 (Nat.le_of_ble_eq_true rfl) ?_
  refine P2_gfi hM FLX16_387 rfl dX16_end_56 ?_
  refine S_iload_n (i := 1) dX16_end_59 rfl rfl ?_
  refine S_iadd dX16_end_60 ?_
  refine P2_pfi hM FLX16_387 FPX16_387 rfl dX16_end_61 h (fun V1 h => ?_)
  refine S_iconst dX16_end_64 rfl ?_
  refine S_istore_n (i := 2) dX16_end_65 rfl (Nat.le_of_ble_eq_true rfl) rfl rfl ?_
  change Sem g d YX16_end 66 [(1, 156), (0, x1), (0, 0)] [] (wr M V1) o
  refine S_weak (ls' := [(1, 156), (9, 0), (0, 0)]) ⟨Or.inr rfl, ⟨Or.inl rfl, ⟨Or.inr rfl, trivial⟩⟩⟩ ?_
  exact sl_X16_end_66 hD hM r0 h hz
theorem s_X16_end_26 {g : GG} {d : Nat} (hD : 0 ≤ d) {x1 x2 : Int} {M : MM} (hM : LM M) {V : VV} {o : AV × MM} {P : ((Int × VV) ⊕ (Int × VV)) → Prop} (c0 : ∀ s : Int × VV, P (.inl s) → Sem g d YX16_end 26 [(1, 156), (0, x1), (0, s.1)] [] (wr M s.2) o) (r0 : ∀ r : Int × VV, P (.inr r) → o = ((0, r.1), (wr M r.2))) {z : (Int × VV) ⊕ (Int × VV)} (h : b_X16_end_26 x1 x2 V = some z) (hz : P z) : Sem g d YX16_end 26 [(1, 156), (0, x1), (0, x2)] [] (wr M V) o := by
  delta b_X16_end_26 at h
  refine S_iload_n (i := 2) dX16_end_26 rfl rfl ?_
  refine S_iload_n (i := 1) dX16_end_27 rfl rfl ?_
  refine P_icmp_ge (tgt := 54) dX16_end_28 rfl h (fun h => ?_) (fun h => ?_)
  · refine S_weak (ls' := [(1, 156), (0, x1), (9, 0)]) ⟨Or.inr rfl, ⟨Or.inr rfl, ⟨Or.inl rfl, trivial⟩⟩⟩ ?_
    obtain ⟨z0, h, hz⟩ := xit_some' (P := fun r => P r) h hz
    exact s_X16_end_54 hD hM (P := fun r => P (.inr r)) r0 h hz
  · refine S_aload_n (i := 0) dX16_end_31 rfl rfl ?_
    refine P2_gfr hM (a := 158) FLX16_13 rfl ⟨rfl, rfl⟩ dX16_end_32 ?_
    refine S_aload_n (i := 0) dX16_end_35 rfl rfl ?_
    refine P2_gfi hM FLX16_387 rfl dX16_end_36 ?_
    refine S_iload_n (i := 2) dX16_end_39 rfl rfl ?_
    refine S_iadd dX16_end_40 ?_
    refine S_aload_n (i := 0) dX16_end_41 rfl rfl ?_
    refine P2_gfr hM (a := 157) FLX16_7 rfl ⟨rfl, rfl⟩ dX16_end_42 ?_
    refine S_iload_n (i := 2) dX16_end_45 rfl rfl ?_
    refine P2_lai hM (a := 157) (n := 20) rfl dX16_end_46 h (fun v1 h => ?_)
    refine P2_sai hM (a := 158) (n := 500) rfl dX16_end_47 h (fun V1 h => ?_)
    refine S_iinc dX16_end_48 rfl rfl rfl ?_
    change Sem g d YX16_end 51 [(1, 156), (0, x1), (0, x2 + 1)] [] (wr M V1) o
    refine S_goto (tgt := 26) dX16_end_51 rfl ?_
    exact c0 (x2 + 1, V1) (some_P (P := fun r => P r) h hz)
theorem sl_X16_end_26 {g : GG} {d : Nat} (hD : 0 ≤ d) {x1 x2 : Int} {M : MM} (hM : LM M) {V : VV} {o : AV × MM} {P : (Int × VV) → Prop} (r0 : ∀ r : Int × VV, P r → o = ((0, r.1), (wr M r.2))) {z : Int × VV} (h : l_X16_end_26 x1 x2 V = some z) (hz : P z) : Sem g d YX16_end 26 [(1, 156), (0, x1), (0, x2)] [] (wr M V) o := by
  refine lp_sound (S := fun s : Int × VV => Sem g d YX16_end 26 [(1, 156), (0, x1), (0, s.1)] [] (wr M s.2) o) (P := P) ?_ FU (x2, V) z h hz
  intro s x hx hP
  exact s_X16_end_26 hD hM (P := Sum.elim (fun s : Int × VV => Sem g d YX16_end 26 [(1, 156), (0, x1), (0, s.1)] [] (wr M s.2) o) P) (fun s h => h) (fun s h => r0 s h) hx hP
theorem s_X16_end_22 {g : GG} {d : Nat} (hD : 0 ≤ d) {M : MM} (hM : LM M) {V : VV} {o : AV × MM} {P : (Int × VV) → Prop} (r0 : ∀ r : Int × VV, P r → o = ((0, r.1), (wr M r.2))) {z : Int × VV} (h : j_X16_end_22 V = some z) (hz : P z) : Sem g d YX16_end 22 [(9, 0), (9, 0), (9, 0)] [] (wr M V) o := by
  delta j_X16_end_22 at h
  refine S_iconst dX16_end_22 rfl ?_
  obtain rfl := r0 _ (some_P (P := fun r => P r) h hz)
  exact P_ret dX16_end_23 rfl (Or.inl rfl)
theorem s_X16_end_0 {g : GG} {d : Nat} (hD : 0 ≤ d) {x1 : Int} {M : MM} (hM : LM M) {V : VV} {o : AV × MM} {P : (Int × VV) → Prop} (r0 : ∀ r : Int × VV, P r → o = ((0, r.1), (wr M r.2))) {z : Int × VV} (h : f_X16_end x1 V = some z) (hz : P z) : Sem g d YX16_end 0 [(1, 156), (0, x1), (9, 0)] [] (wr M V) o := by
  delta f_X16_end at h
  refine S_iload_n (i := 1) dX16_end_0 rfl rfl ?_
  refine P_if_lt (tgt := 22) dX16_end_1 rfl h (fun h => ?_) (fun h => ?_)
  · refine S_weak (ls' := [(9, 0), (9, 0), (9, 0)]) ⟨Or.inl rfl, ⟨Or.inl rfl, ⟨Or.inl rfl, trivial⟩⟩⟩ ?_
    exact s_X16_end_22 hD hM r0 h hz
  · refine S_iload_n (i := 1) dX16_end_4 rfl rfl ?_
    refine S_bipush (z := 20) dX16_end_5 rfl ?_
    refine P_icmp_gt (tgt := 22) dX16_end_7 rfl h (fun h => ?_) (fun h => ?_)
    · refine S_weak (ls' := [(9, 0), (9, 0), (9, 0)]) ⟨Or.inl rfl, ⟨Or.inl rfl, ⟨Or.inl rfl, trivial⟩⟩⟩ ?_
      exact s_X16_end_22 hD hM r0 h hz
    · refine S_aload_n (i := 0) dX16_end_10 rfl rfl ?_
      refine P2_gfi hM FLX16_387 rfl dX16_end_11 ?_
      refine S_iload_n (i := 1) dX16_end_14 rfl rfl ?_
      refine S_iadd dX16_end_15 ?_
      refine S_sipush (z := 500) dX16_end_16 rfl ?_
      refine P_icmp_le (tgt := 24) dX16_end_19 rfl h (fun h => ?_) (fun h => ?_)
      · refine S_iconst dX16_end_24 rfl ?_
        refine S_istore_n (i := 2) dX16_end_25 rfl (Nat.le_of_ble_eq_true rfl) rfl rfl ?_
        change Sem g d YX16_end 26 [(1, 156), (0, x1), (0, 0)] [] (wr M V) o
        exact sl_X16_end_26 hD hM r0 h hz
      · refine S_weak (ls' := [(9, 0), (9, 0), (9, 0)]) ⟨Or.inl rfl, ⟨Or.inl rfl, ⟨Or.inl rfl, trivial⟩⟩⟩ ?_
        exact s_X16_end_22 hD hM r0 h hz
theorem F_X16_end {g : GG} {d : Nat} (hD : 0 ≤ d) {x1 : Int} {M : MM} (hM : LM M) {V : VV} {r : Int × VV} (h : f_X16_end x1 V = some r) : Sem g d YX16_end 0 (ini YX16_end [(1, 156), (0, x1)]) [] (wr M V) ((0, r.1), (wr M r.2)) := by
  change Sem g d YX16_end 0 [(1, 156), (0, x1), (9, 0)] [] (wr M V) ((0, r.1), (wr M r.2))
  exact s_X16_end_0 hD hM (P := fun x => x = r) (fun q e => by rw [e]) h rfl
/-! PeerSearchModel.word(II)V -/
theorem dX16_word_0 : decode cX16_word 0 = .ok (.iconst 0, 1) := by decide +kernel
theorem dX16_word_1 : decode cX16_word 1 = .ok (.istore_n 3, 1) := by decide +kernel
theorem dX16_word_2 : decode cX16_word 2 = .ok (.iload_n 3, 1) := by decide +kernel
theorem dX16_word_3 : decode cX16_word 3 = .ok (.iconst 4, 1) := by decide +kernel
theorem dX16_word_4 : decode cX16_word 4 = .ok (.if_icmp .ge 30, 3) := by decide +kernel
theorem dX16_word_7 : decode cX16_word 7 = .ok (.aload_n 0, 1) := by decide +kernel
theorem dX16_word_8 : decode cX16_word 8 = .ok (.getfield 7, 3) := by decide +kernel
theorem dX16_word_11 : decode cX16_word 11 = .ok (.iload_n 1, 1) := by decide +kernel
theorem dX16_word_12 : decode cX16_word 12 = .ok (.iload_n 3, 1) := by decide +kernel
theorem dX16_word_13 : decode cX16_word 13 = .ok (.iadd, 1) := by decide +kernel
theorem dX16_word_14 : decode cX16_word 14 = .ok (.iload_n 2, 1) := by decide +kernel
theorem dX16_word_15 : decode cX16_word 15 = .ok (.bipush 24, 2) := by decide +kernel
theorem dX16_word_17 : decode cX16_word 17 = .ok (.bipush 8, 2) := by decide +kernel
theorem dX16_word_19 : decode cX16_word 19 = .ok (.iload_n 3, 1) := by decide +kernel
theorem dX16_word_20 : decode cX16_word 20 = .ok (.imul, 1) := by decide +kernel
theorem dX16_word_21 : decode cX16_word 21 = .ok (.isub, 1) := by decide +kernel
theorem dX16_word_22 : decode cX16_word 22 = .ok (.ishr, 1) := by decide +kernel
theorem dX16_word_23 : decode cX16_word 23 = .ok (.sipush 255, 3) := by decide +kernel
theorem dX16_word_26 : decode cX16_word 26 = .ok (.iand, 1) := by decide +kernel
theorem dX16_word_27 : decode cX16_word 27 = .ok (.iastore, 1) := by decide +kernel
theorem dX16_word_28 : decode cX16_word 28 = .ok (.iinc 3 1, 3) := by decide +kernel
theorem dX16_word_31 : decode cX16_word 31 = .ok (.goto (-29), 3) := by decide +kernel
theorem dX16_word_34 : decode cX16_word 34 = .ok (.return_, 1) := by decide +kernel
def b_X16_word_2 (x1 x2 x3 : Int) (V : VV) : Option ((Int × VV) ⊕ (VV)) :=
  if w32 x3 < w32 4 then
    (s2 157 20 (x1 + x3) (band (bshr x2 (24 - (8 * x3))) 255) V).bind fun V1 =>
    cnt (x3 + 1, V1)
  else
    xit (some V)
def l_X16_word_2 (x1 x2 x3 : Int) (V : VV) : Option (VV) := lpN (fun s : Int × VV => b_X16_word_2 x1 x2 s.1 s.2) FU (x3, V)
def f_X16_word (x1 x2 : Int) (V : VV) : Option (VV) :=
  l_X16_word_2 x1 x2 0 V
theorem s_X16_word_2 {g : GG} {d : Nat} (hD : 0 ≤ d) {x1 x2 x3 : Int} {M : MM} (hM : LM M) {V : VV} {o : AV × MM} {P : ((Int × VV) ⊕ (VV)) → Prop} (c0 : ∀ s : Int × VV, P (.inl s) → Sem g d YX16_word 2 [(1, 156), (0, x1), (0, x2), (0, s.1)] [] (wr M s.2) o) (r0 : ∀ r : VV, P (.inr r) → o = ((9, 0), (wr M r))) {z : (Int × VV) ⊕ (VV)} (h : b_X16_word_2 x1 x2 x3 V = some z) (hz : P z) : Sem g d YX16_word 2 [(1, 156), (0, x1), (0, x2), (0, x3)] [] (wr M V) o := by
  delta b_X16_word_2 at h
  refine S_iload_n (i := 3) dX16_word_2 rfl rfl ?_
  refine S_iconst dX16_word_3 rfl ?_
  refine P_icmp_ge (tgt := 34) dX16_word_4 rfl h (fun h => ?_) (fun h => ?_)
  · obtain ⟨z0, h, hz⟩ := xit_some' (P := fun r => P r) h hz
    obtain rfl := r0 _ (some_P (P := fun r => P (.inr r)) h hz)
    exact S_return dX16_word_34 rfl
  · refine S_aload_n (i := 0) dX16_word_7 rfl rfl ?_
    refine P2_gfr hM (a := 157) FLX16_7 rfl ⟨rfl, rfl⟩ dX16_word_8 ?_
    refine S_iload_n (i := 1) dX16_word_11 rfl rfl ?_
    refine S_iload_n (i := 3) dX16_word_12 rfl rfl ?_
    refine S_iadd dX16_word_13 ?_
    refine S_iload_n (i := 2) dX16_word_14 rfl rfl ?_
    refine S_bipush (z := 24) dX16_word_15 rfl ?_
    refine S_bipush (z := 8) dX16_word_17 rfl ?_
    refine S_iload_n (i := 3) dX16_word_19 rfl rfl ?_
    refine S_imul dX16_word_20 ?_
    refine S_isub dX16_word_21 ?_
    refine S_ishr dX16_word_22 ?_
    refine S_sipush (z := 255) dX16_word_23 rfl ?_
    refine S_iand dX16_word_26 ?_
    refine P2_sai hM (a := 157) (n := 20) rfl dX16_word_27 h (fun V1 h => ?_)
    refine S_iinc dX16_word_28 rfl rfl rfl ?_
    change Sem g d YX16_word 31 [(1, 156), (0, x1), (0, x2), (0, x3 + 1)] [] (wr M V1) o
    refine S_goto (tgt := 2) dX16_word_31 rfl ?_
    exact c0 (x3 + 1, V1) (some_P (P := fun r => P r) h hz)
theorem sl_X16_word_2 {g : GG} {d : Nat} (hD : 0 ≤ d) {x1 x2 x3 : Int} {M : MM} (hM : LM M) {V : VV} {o : AV × MM} {P : (VV) → Prop} (r0 : ∀ r : VV, P r → o = ((9, 0), (wr M r))) {z : VV} (h : l_X16_word_2 x1 x2 x3 V = some z) (hz : P z) : Sem g d YX16_word 2 [(1, 156), (0, x1), (0, x2), (0, x3)] [] (wr M V) o := by
  refine lp_sound (S := fun s : Int × VV => Sem g d YX16_word 2 [(1, 156), (0, x1), (0, x2), (0, s.1)] [] (wr M s.2) o) (P := P) ?_ FU (x3, V) z h hz
  intro s x hx hP
  exact s_X16_word_2 hD hM (P := Sum.elim (fun s : Int × VV => Sem g d YX16_word 2 [(1, 156), (0, x1), (0, x2), (0, s.1)] [] (wr M s.2) o) P) (fun s h => h) (fun s h => r0 s h) hx hP
theorem s_X16_word_0 {g : GG} {d : Nat} (hD : 0 ≤ d) {x1 x2 : Int} {M : MM} (hM : LM M) {V : VV} {o : AV × MM} {P : (VV) → Prop} (r0 : ∀ r : VV, P r → o = ((9, 0), (wr M r))) {z : VV} (h : f_X16_word x1 x2 V = some z) (hz : P z) : Sem g d YX16_word 0 [(1, 156), (0, x1), (0, x2), (9, 0)] [] (wr M V) o := by
  delta f_X16_word at h
  refine S_iconst dX16_word_0 rfl ?_
  refine S_istore_n (i := 3) dX16_word_1 rfl (Nat.le_of_ble_eq_true rfl) rfl rfl ?_
  change Sem g d YX16_word 2 [(1, 156), (0, x1), (0, x2), (0, 0)] [] (wr M V) o
  exact sl_X16_word_2 hD hM r0 h hz
theorem F_X16_word {g : GG} {d : Nat} (hD : 0 ≤ d) {x1 x2 : Int} {M : MM} (hM : LM M) {V : VV} {r : VV} (h : f_X16_word x1 x2 V = some r) : Sem g d YX16_word 0 (ini YX16_word [(1, 156), (0, x1), (0, x2)]) [] (wr M V) ((9, 0), (wr M r)) := by
  change Sem g d YX16_word 0 [(1, 156), (0, x1), (0, x2), (9, 0)] [] (wr M V) ((9, 0), (wr M r))
  exact s_X16_word_0 hD hM (P := fun x => x = r) (fun q e => by rw [e]) h rfl
/-! PeerSearchModel.feed(IIIII)V -/
theorem dX16_feed_0 : decode cX16_feed 0 = .ok (.aload_n 0, 1) := by decide +kernel
theorem dX16_feed_1 : decode cX16_feed 1 = .ok (.iconst 0, 1) := by decide +kernel
theorem dX16_feed_2 : decode cX16_feed 2 = .ok (.iload_n 1, 1) := by decide +kernel
theorem dX16_feed_3 : decode cX16_feed 3 = .ok (.invokevirtual 383, 3) := by decide +kernel
theorem dX16_feed_6 : decode cX16_feed 6 = .ok (.aload_n 0, 1) := by decide +kernel
theorem dX16_feed_7 : decode cX16_feed 7 = .ok (.iconst 4, 1) := by decide +kernel
theorem dX16_feed_8 : decode cX16_feed 8 = .ok (.iload_n 2, 1) := by decide +kernel
theorem dX16_feed_9 : decode cX16_feed 9 = .ok (.invokevirtual 383, 3) := by decide +kernel
theorem dX16_feed_12 : decode cX16_feed 12 = .ok (.aload_n 0, 1) := by decide +kernel
theorem dX16_feed_13 : decode cX16_feed 13 = .ok (.bipush 8, 2) := by decide +kernel
theorem dX16_feed_15 : decode cX16_feed 15 = .ok (.iload_n 3, 1) := by decide +kernel
theorem dX16_feed_16 : decode cX16_feed 16 = .ok (.invokevirtual 383, 3) := by decide +kernel
theorem dX16_feed_19 : decode cX16_feed 19 = .ok (.aload_n 0, 1) := by decide +kernel
theorem dX16_feed_20 : decode cX16_feed 20 = .ok (.bipush 12, 2) := by decide +kernel
theorem dX16_feed_22 : decode cX16_feed 22 = .ok (.iload 4, 2) := by decide +kernel
theorem dX16_feed_24 : decode cX16_feed 24 = .ok (.invokevirtual 383, 3) := by decide +kernel
theorem dX16_feed_27 : decode cX16_feed 27 = .ok (.aload_n 0, 1) := by decide +kernel
theorem dX16_feed_28 : decode cX16_feed 28 = .ok (.bipush 16, 2) := by decide +kernel
theorem dX16_feed_30 : decode cX16_feed 30 = .ok (.iload 5, 2) := by decide +kernel
theorem dX16_feed_32 : decode cX16_feed 32 = .ok (.invokevirtual 383, 3) := by decide +kernel
theorem dX16_feed_35 : decode cX16_feed 35 = .ok (.return_, 1) := by decide +kernel
def f_X16_feed (x1 x2 x3 x4 x5 : Int) (V : VV) : Option (VV) :=
  (f_X16_word 0 x1 V).bind fun V1 =>
  (f_X16_word 4 x2 V1).bind fun V2 =>
  (f_X16_word 8 x3 V2).bind fun V3 =>
  (f_X16_word 12 x4 V3).bind fun V4 =>
  (f_X16_word 16 x5 V4).bind fun V5 =>
  some V5
theorem s_X16_feed_0 {g : GG} {d : Nat} (hD : 1 ≤ d) {x1 x2 x3 x4 x5 : Int} {M : MM} (hM : LM M) {V : VV} {o : AV × MM} {P : (VV) → Prop} (r0 : ∀ r : VV, P r → o = ((9, 0), (wr M r))) {z : VV} (h : f_X16_feed x1 x2 x3 x4 x5 V = some z) (hz : P z) : Sem g d YX16_feed 0 [(1, 156), (0, x1), (0, x2), (0, x3), (0, x4), (0, x5)] [] (wr M V) o := by
  delta f_X16_feed at h
  refine S_aload_n (i := 0) dX16_feed_0 rfl rfl ?_
  refine S_iconst dX16_feed_1 rfl ?_
  refine S_iload_n (i := 1) dX16_feed_2 rfl rfl ?_
  refine P2_invVm hM [(0, 0), (0, x1)] [] CVX16_word MLX16_383 dX16_feed_3 rfl rfl rfl rfl (by omega) h (fun r h => F_X16_word (by omega) hM h) (fun V1 h => ?_)
  refine S_aload_n (i := 0) dX16_feed_6 rfl rfl ?_
  refine S_iconst dX16_feed_7 rfl ?_
  refine S_iload_n (i := 2) dX16_feed_8 rfl rfl ?_
  refine P2_invVm hM [(0, 4), (0, x2)] [] CVX16_word MLX16_383 dX16_feed_9 rfl rfl rfl rfl (by omega) h (fun r h => F_X16_word (by omega) hM h) (fun V2 h => ?_)
  refine S_aload_n (i := 0) dX16_feed_12 rfl rfl ?_
  refine S_bipush (z := 8) dX16_feed_13 rfl ?_
  refine S_iload_n (i := 3) dX16_feed_15 rfl rfl ?_
  refine P2_invVm hM [(0, 8), (0, x3)] [] CVX16_word MLX16_383 dX16_feed_16 rfl rfl rfl rfl (by omega) h (fun r h => F_X16_word (by omega) hM h) (fun V3 h => ?_)
  refine S_aload_n (i := 0) dX16_feed_19 rfl rfl ?_
  refine S_bipush (z := 12) dX16_feed_20 rfl ?_
  refine S_iload dX16_feed_22 rfl ?_
  refine P2_invVm hM [(0, 12), (0, x4)] [] CVX16_word MLX16_383 dX16_feed_24 rfl rfl rfl rfl (by omega) h (fun r h => F_X16_word (by omega) hM h) (fun V4 h => ?_)
  refine S_aload_n (i := 0) dX16_feed_27 rfl rfl ?_
  refine S_bipush (z := 16) dX16_feed_28 rfl ?_
  refine S_iload dX16_feed_30 rfl ?_
  refine P2_invVm hM [(0, 16), (0, x5)] [] CVX16_word MLX16_383 dX16_feed_32 rfl rfl rfl rfl (by omega) h (fun r h => F_X16_word (by omega) hM h) (fun V5 h => ?_)
  obtain rfl := r0 _ (some_P (P := fun r => P r) h hz)
  exact S_return dX16_feed_35 rfl
theorem F_X16_feed {g : GG} {d : Nat} (hD : 1 ≤ d) {x1 x2 x3 x4 x5 : Int} {M : MM} (hM : LM M) {V : VV} {r : VV} (h : f_X16_feed x1 x2 x3 x4 x5 V = some r) : Sem g d YX16_feed 0 (ini YX16_feed [(1, 156), (0, x1), (0, x2), (0, x3), (0, x4), (0, x5)]) [] (wr M V) ((9, 0), (wr M r)) := by
  change Sem g d YX16_feed 0 [(1, 156), (0, x1), (0, x2), (0, x3), (0, x4), (0, x5)] [] (wr M V) ((9, 0), (wr M r))
  exact s_X16_feed_0 hD hM (P := fun x => x = r) (fun q e => by rw [e]) h rfl
/-! PeerSearchModel.ahead(II)Z -/
theorem dX16_ahead_0 : decode cX16_ahead 0 = .ok (.aload_n 0, 1) := by decide +kernel
theorem dX16_ahead_1 : decode cX16_ahead 1 = .ok (.getfield 94, 3) := by decide +kernel
theorem dX16_ahead_4 : decode cX16_ahead 4 = .ok (.iload_n 1, 1) := by decide +kernel
theorem dX16_ahead_5 : decode cX16_ahead 5 = .ok (.iaload, 1) := by decide +kernel
theorem dX16_ahead_6 : decode cX16_ahead 6 = .ok (.aload_n 0, 1) := by decide +kernel
theorem dX16_ahead_7 : decode cX16_ahead 7 = .ok (.getfield 94, 3) := by decide +kernel
theorem dX16_ahead_10 : decode cX16_ahead 10 = .ok (.iload_n 2, 1) := by decide +kernel
theorem dX16_ahead_11 : decode cX16_ahead 11 = .ok (.iaload, 1) := by decide +kernel
theorem dX16_ahead_12 : decode cX16_ahead 12 = .ok (.if_icmp .lt 33, 3) := by decide +kernel
theorem dX16_ahead_15 : decode cX16_ahead 15 = .ok (.aload_n 0, 1) := by decide +kernel
theorem dX16_ahead_16 : decode cX16_ahead 16 = .ok (.getfield 94, 3) := by decide +kernel
theorem dX16_ahead_19 : decode cX16_ahead 19 = .ok (.iload_n 1, 1) := by decide +kernel
theorem dX16_ahead_20 : decode cX16_ahead 20 = .ok (.iaload, 1) := by decide +kernel
theorem dX16_ahead_21 : decode cX16_ahead 21 = .ok (.aload_n 0, 1) := by decide +kernel
theorem dX16_ahead_22 : decode cX16_ahead 22 = .ok (.getfield 94, 3) := by decide +kernel
theorem dX16_ahead_25 : decode cX16_ahead 25 = .ok (.iload_n 2, 1) := by decide +kernel
theorem dX16_ahead_26 : decode cX16_ahead 26 = .ok (.iaload, 1) := by decide +kernel
theorem dX16_ahead_27 : decode cX16_ahead 27 = .ok (.if_icmp .ne 22, 3) := by decide +kernel
theorem dX16_ahead_30 : decode cX16_ahead 30 = .ok (.aload_n 0, 1) := by decide +kernel
theorem dX16_ahead_31 : decode cX16_ahead 31 = .ok (.getfield 97, 3) := by decide +kernel
theorem dX16_ahead_34 : decode cX16_ahead 34 = .ok (.iload_n 1, 1) := by decide +kernel
theorem dX16_ahead_35 : decode cX16_ahead 35 = .ok (.iaload, 1) := by decide +kernel
theorem dX16_ahead_36 : decode cX16_ahead 36 = .ok (.aload_n 0, 1) := by decide +kernel
theorem dX16_ahead_37 : decode cX16_ahead 37 = .ok (.getfield 97, 3) := by decide +kernel
theorem dX16_ahead_40 : decode cX16_ahead 40 = .ok (.iload_n 2, 1) := by decide +kernel
theorem dX16_ahead_41 : decode cX16_ahead 41 = .ok (.iaload, 1) := by decide +kernel
theorem dX16_ahead_42 : decode cX16_ahead 42 = .ok (.if_icmp .ge 7, 3) := by decide +kernel
theorem dX16_ahead_45 : decode cX16_ahead 45 = .ok (.iconst 1, 1) := by decide +kernel
theorem dX16_ahead_46 : decode cX16_ahead 46 = .ok (.goto 4, 3) := by decide +kernel
theorem dX16_ahead_49 : decode cX16_ahead 49 = .ok (.iconst 0, 1) := by decide +kernel
theorem dX16_ahead_50 : decode cX16_ahead 50 = .ok (.ireturn, 1) := by decide +kernel
def j_X16_ahead_50 (y0 : Int) (V : VV) : Option (Int) :=
  bz y0 (some y0)
def j_X16_ahead_49 (V : VV) : Option (Int) :=
  j_X16_ahead_50 0 V
def j_X16_ahead_45 (V : VV) : Option (Int) :=
  j_X16_ahead_50 1 V
def f_X16_ahead (x1 x2 : Int) (V : VV) : Option (Int) :=
  (l2 184 400 x1 V).bind fun v1 =>
  (l2 184 400 x2 V).bind fun v2 =>
  if w32 v1 < w32 v2 then
    j_X16_ahead_45 V
  else
    (l2 184 400 x1 V).bind fun v3 =>
    (l2 184 400 x2 V).bind fun v4 =>
    if w32 v3 = w32 v4 then
      (l2 185 400 x1 V).bind fun v5 =>
      (l2 185 400 x2 V).bind fun v6 =>
      if w32 v5 < w32 v6 then
        j_X16_ahead_45 V
      else
        j_X16_ahead_49 V
    else
      j_X16_ahead_49 V
theorem s_X16_ahead_50 {g : GG} {d : Nat} (hD : 0 ≤ d) {y0 : Int} {M : MM} (hM : LM M) {V : VV} {o : AV × MM} {P : (Int) → Prop} (r0 : ∀ r : Int, P r → o = ((0, r), (wr M V))) {z : Int} (h : j_X16_ahead_50 y0 V = some z) (hz : P z) : Sem g d YX16_ahead 50 [(9, 0), (9, 0), (9, 0)] [(0, y0)] (wr M V) o := by
  delta j_X16_ahead_50 at h
  obtain ⟨hb, h⟩ := bz_some h
  obtain rfl := r0 _ (some_P (P := fun r => P r) h hz)
  exact P_ret dX16_ahead_50 rfl (Or.inr ⟨rfl, hb⟩)
theorem s_X16_ahead_49 {g : GG} {d : Nat} (hD : 0 ≤ d) {M : MM} (hM : LM M) {V : VV} {o : AV × MM} {P : (Int) → Prop} (r0 : ∀ r : Int, P r → o = ((0, r), (wr M V))) {z : Int} (h : j_X16_ahead_49 V = some z) (hz : P z) : Sem g d YX16_ahead 49 [(9, 0), (9, 0), (9, 0)] [] (wr M V) o := by
  delta j_X16_ahead_49 at h
  refine S_iconst dX16_ahead_49 rfl ?_
  exact s_X16_ahead_50 hD hM r0 h hz
theorem s_X16_ahead_45 {g : GG} {d : Nat} (hD : 0 ≤ d) {M : MM} (hM : LM M) {V : VV} {o : AV × MM} {P : (Int) → Prop} (r0 : ∀ r : Int, P r → o = ((0, r), (wr M V))) {z : Int} (h : j_X16_ahead_45 V = some z) (hz : P z) : Sem g d YX16_ahead 45 [(9, 0), (9, 0), (9, 0)] [] (wr M V) o := by
  delta j_X16_ahead_45 at h
  refine S_iconst dX16_ahead_45 rfl ?_
  refine S_goto (tgt := 50) dX16_ahead_46 rfl ?_
  exact s_X16_ahead_50 hD hM r0 h hz
theorem s_X16_ahead_0 {g : GG} {d : Nat} (hD : 0 ≤ d) {x1 x2 : Int} {M : MM} (hM : LM M) {V : VV} {o : AV × MM} {P : (Int) → Prop} (r0 : ∀ r : Int, P r → o = ((0, r), (wr M V))) {z : Int} (h : f_X16_ahead x1 x2 V = some z) (hz : P z) : Sem g d YX16_ahead 0 [(1, 156), (0, x1), (0, x2)] [] (wr M V) o := by
  delta f_X16_ahead at h
  refine S_aload_n (i := 0) dX16_ahead_0 rfl rfl ?_
  refine P2_gfr hM (a := 184) FLX16_94 rfl ⟨rfl, rfl⟩ dX16_ahead_1 ?_
  refine S_iload_n (i := 1) dX16_ahead_4 rfl rfl ?_
  refine P2_lai hM (a := 184) (n := 400) rfl dX16_ahead_5 h (fun v1 h => ?_)
  refine S_aload_n (i := 0) dX16_ahead_6 rfl rfl ?_
  refine P2_gfr hM (a := 184) FLX16_94 rfl ⟨rfl, rfl⟩ dX16_ahead_7 ?_
  refine S_iload_n (i := 2) dX16_ahead_10 rfl rfl ?_
  refine P2_lai hM (a := 184) (n := 400) rfl dX16_ahead_11 h (fun v2 h => ?_)
  refine P_icmp_lt (tgt := 45) dX16_ahead_12 rfl h (fun h => ?_) (fun h => ?_)
  · refine S_weak (ls' := [(9, 0), (9, 0), (9, 0)]) ⟨Or.inl rfl, ⟨Or.inl rfl, ⟨Or.inl rfl, trivial⟩⟩⟩ ?_
    exact s_X16_ahead_45 hD hM r0 h hz
  · refine S_aload_n (i := 0) dX16_ahead_15 rfl rfl ?_
    refine P2_gfr hM (a := 184) FLX16_94 rfl ⟨rfl, rfl⟩ dX16_ahead_16 ?_
    refine S_iload_n (i := 1) dX16_ahead_19 rfl rfl ?_
    refine P2_lai hM (a := 184) (n := 400) rfl dX16_ahead_20 h (fun v3 h => ?_)
    refine S_aload_n (i := 0) dX16_ahead_21 rfl rfl ?_
    refine P2_gfr hM (a := 184) FLX16_94 rfl ⟨rfl, rfl⟩ dX16_ahead_22 ?_
    refine S_iload_n (i := 2) dX16_ahead_25 rfl rfl ?_
    refine P2_lai hM (a := 184) (n := 400) rfl dX16_ahead_26 h (fun v4 h => ?_)
    refine P_icmp_ne (tgt := 49) dX16_ahead_27 rfl h (fun h => ?_) (fun h => ?_)
    · refine S_weak (ls' := [(9, 0), (9, 0), (9, 0)]) ⟨Or.inl rfl, ⟨Or.inl rfl, ⟨Or.inl rfl, trivial⟩⟩⟩ ?_
      exact s_X16_ahead_49 hD hM r0 h hz
    · refine S_aload_n (i := 0) dX16_ahead_30 rfl rfl ?_
      refine P2_gfr hM (a := 185) FLX16_97 rfl ⟨rfl, rfl⟩ dX16_ahead_31 ?_
      refine S_iload_n (i := 1) dX16_ahead_34 rfl rfl ?_
      refine P2_lai hM (a := 185) (n := 400) rfl dX16_ahead_35 h (fun v5 h => ?_)
      refine S_aload_n (i := 0) dX16_ahead_36 rfl rfl ?_
      refine P2_gfr hM (a := 185) FLX16_97 rfl ⟨rfl, rfl⟩ dX16_ahead_37 ?_
      refine S_iload_n (i := 2) dX16_ahead_40 rfl rfl ?_
      refine P2_lai hM (a := 185) (n := 400) rfl dX16_ahead_41 h (fun v6 h => ?_)
      refine P_icmp_ge (tgt := 49) dX16_ahead_42 rfl h (fun h => ?_) (fun h => ?_)
      · refine S_weak (ls' := [(9, 0), (9, 0), (9, 0)]) ⟨Or.inl rfl, ⟨Or.inl rfl, ⟨Or.inl rfl, trivial⟩⟩⟩ ?_
        exact s_X16_ahead_49 hD hM r0 h hz
      · refine S_weak (ls' := [(9, 0), (9, 0), (9, 0)]) ⟨Or.inl rfl, ⟨Or.inl rfl, ⟨Or.inl rfl, trivial⟩⟩⟩ ?_
        exact s_X16_ahead_45 hD hM r0 h hz
theorem F_X16_ahead {g : GG} {d : Nat} (hD : 0 ≤ d) {x1 x2 : Int} {M : MM} (hM : LM M) {V : VV} {r : Int} (h : f_X16_ahead x1 x2 V = some r) : Sem g d YX16_ahead 0 (ini YX16_ahead [(1, 156), (0, x1), (0, x2)]) [] (wr M V) ((0, r), (wr M V)) := by
  change Sem g d YX16_ahead 0 [(1, 156), (0, x1), (0, x2)] [] (wr M V) ((0, r), (wr M V))
  exact s_X16_ahead_0 hD hM (P := fun x => x = r) (fun q e => by rw [e]) h rfl
/-! PeerSearchModel.flight(II)I -/
theorem dX16_flight_0 : decode cX16_flight 0 = .ok (.iload_n 1, 1) := by decide +kernel
theorem dX16_flight_1 : decode cX16_flight 1 = .ok (.ifCond .lt 15, 3) := by decide +kernel
theorem dX16_flight_4 : decode cX16_flight 4 = .ok (.iload_n 1, 1) := by decide +kernel
theorem dX16_flight_5 : decode cX16_flight 5 = .ok (.aload_n 0, 1) := by decide +kernel
theorem dX16_flight_6 : decode cX16_flight 6 = .ok (.getfield 464, 3) := by decide +kernel
theorem dX16_flight_9 : decode cX16_flight 9 = .ok (.if_icmp .ge 7, 3) := by decide +kernel
theorem dX16_flight_12 : decode cX16_flight 12 = .ok (.iload_n 2, 1) := by decide +kernel
theorem dX16_flight_13 : decode cX16_flight 13 = .ok (.ifCond .ge 5, 3) := by decide +kernel
theorem dX16_flight_16 : decode cX16_flight 16 = .ok (.iconst (-1), 1) := by decide +kernel
theorem dX16_flight_17 : decode cX16_flight 17 = .ok (.ireturn, 1) := by decide +kernel
theorem dX16_flight_18 : decode cX16_flight 18 = .ok (.iconst 0, 1) := by decide +kernel
theorem dX16_flight_19 : decode cX16_flight 19 = .ok (.istore_n 3, 1) := by decide +kernel
theorem dX16_flight_20 : decode cX16_flight 20 = .ok (.iconst 0, 1) := by decide +kernel
theorem dX16_flight_21 : decode cX16_flight 21 = .ok (.istore 4, 2) := by decide +kernel
theorem dX16_flight_23 : decode cX16_flight 23 = .ok (.iload 4, 2) := by decide +kernel
theorem dX16_flight_25 : decode cX16_flight 25 = .ok (.aload_n 0, 1) := by decide +kernel
theorem dX16_flight_26 : decode cX16_flight 26 = .ok (.getfield 464, 3) := by decide +kernel
theorem dX16_flight_29 : decode cX16_flight 29 = .ok (.if_icmp .ge 71, 3) := by decide +kernel
theorem dX16_flight_32 : decode cX16_flight 32 = .ok (.iconst 0, 1) := by decide +kernel
theorem dX16_flight_33 : decode cX16_flight 33 = .ok (.istore 5, 2) := by decide +kernel
theorem dX16_flight_35 : decode cX16_flight 35 = .ok (.iconst 0, 1) := by decide +kernel
theorem dX16_flight_36 : decode cX16_flight 36 = .ok (.istore 6, 2) := by decide +kernel
theorem dX16_flight_38 : decode cX16_flight 38 = .ok (.iload 6, 2) := by decide +kernel
theorem dX16_flight_40 : decode cX16_flight 40 = .ok (.aload_n 0, 1) := by decide +kernel
theorem dX16_flight_41 : decode cX16_flight 41 = .ok (.getfield 464, 3) := by decide +kernel
theorem dX16_flight_44 : decode cX16_flight 44 = .ok (.if_icmp .ge 37, 3) := by decide +kernel
theorem dX16_flight_47 : decode cX16_flight 47 = .ok (.iload 5, 2) := by decide +kernel
theorem dX16_flight_49 : decode cX16_flight 49 = .ok (.iload 6, 2) := by decide +kernel
theorem dX16_flight_51 : decode cX16_flight 51 = .ok (.iload 4, 2) := by decide +kernel
theorem dX16_flight_53 : decode cX16_flight 53 = .ok (.if_icmp .eq 18, 3) := by decide +kernel
theorem dX16_flight_56 : decode cX16_flight 56 = .ok (.aload_n 0, 1) := by decide +kernel
theorem dX16_flight_57 : decode cX16_flight 57 = .ok (.iload 6, 2) := by decide +kernel
theorem dX16_flight_59 : decode cX16_flight 59 = .ok (.iload 4, 2) := by decide +kernel
theorem dX16_flight_61 : decode cX16_flight 61 = .ok (.invokevirtual 795, 3) := by decide +kernel
theorem dX16_flight_64 : decode cX16_flight 64 = .ok (.ifCond .eq 7, 3) := by decide +kernel
theorem dX16_flight_67 : decode cX16_flight 67 = .ok (.iconst 1, 1) := by decide +kernel
theorem dX16_flight_68 : decode cX16_flight 68 = .ok (.goto 4, 3) := by decide +kernel
theorem dX16_flight_71 : decode cX16_flight 71 = .ok (.iconst 0, 1) := by decide +kernel
theorem dX16_flight_72 : decode cX16_flight 72 = .ok (.iadd, 1) := by decide +kernel
theorem dX16_flight_73 : decode cX16_flight 73 = .ok (.istore 5, 2) := by decide +kernel
theorem dX16_flight_75 : decode cX16_flight 75 = .ok (.iinc 6 1, 3) := by decide +kernel
theorem dX16_flight_78 : decode cX16_flight 78 = .ok (.goto (-40), 3) := by decide +kernel
theorem dX16_flight_81 : decode cX16_flight 81 = .ok (.iload 5, 2) := by decide +kernel
theorem dX16_flight_83 : decode cX16_flight 83 = .ok (.iload_n 1, 1) := by decide +kernel
theorem dX16_flight_84 : decode cX16_flight 84 = .ok (.if_icmp .ne 8, 3) := by decide +kernel
theorem dX16_flight_87 : decode cX16_flight 87 = .ok (.iload 4, 2) := by decide +kernel
theorem dX16_flight_89 : decode cX16_flight 89 = .ok (.goto 4, 3) := by decide +kernel
theorem dX16_flight_92 : decode cX16_flight 92 = .ok (.iload_n 3, 1) := by decide +kernel
theorem dX16_flight_93 : decode cX16_flight 93 = .ok (.istore_n 3, 1) := by decide +kernel
theorem dX16_flight_94 : decode cX16_flight 94 = .ok (.iinc 4 1, 3) := by decide +kernel
theorem dX16_flight_97 : decode cX16_flight 97 = .ok (.goto (-74), 3) := by decide +kernel
theorem dX16_flight_100 : decode cX16_flight 100 = .ok (.iload_n 2, 1) := by decide +kernel
theorem dX16_flight_101 : decode cX16_flight 101 = .ok (.iconst 4, 1) := by decide +kernel
theorem dX16_flight_102 : decode cX16_flight 102 = .ok (.if_icmp .ge 51, 3) := by decide +kernel
theorem dX16_flight_105 : decode cX16_flight 105 = .ok (.iload_n 2, 1) := by decide +kernel
theorem dX16_flight_106 : decode cX16_flight 106 = .ok (.ifCond .ne 12, 3) := by decide +kernel
theorem dX16_flight_109 : decode cX16_flight 109 = .ok (.aload_n 0, 1) := by decide +kernel
theorem dX16_flight_110 : decode cX16_flight 110 = .ok (.getfield 88, 3) := by decide +kernel
theorem dX16_flight_113 : decode cX16_flight 113 = .ok (.iload_n 3, 1) := by decide +kernel
theorem dX16_flight_114 : decode cX16_flight 114 = .ok (.iaload, 1) := by decide +kernel
theorem dX16_flight_115 : decode cX16_flight 115 = .ok (.goto 37, 3) := by decide +kernel
theorem dX16_flight_118 : decode cX16_flight 118 = .ok (.iload_n 2, 1) := by decide +kernel
theorem dX16_flight_119 : decode cX16_flight 119 = .ok (.iconst 1, 1) := by decide +kernel
theorem dX16_flight_120 : decode cX16_flight 120 = .ok (.if_icmp .ne 12, 3) := by decide +kernel
theorem dX16_flight_123 : decode cX16_flight 123 = .ok (.aload_n 0, 1) := by decide +kernel
theorem dX16_flight_124 : decode cX16_flight 124 = .ok (.getfield 91, 3) := by decide +kernel
theorem dX16_flight_127 : decode cX16_flight 127 = .ok (.iload_n 3, 1) := by decide +kernel
theorem dX16_flight_128 : decode cX16_flight 128 = .ok (.iaload, 1) := by decide +kernel
theorem dX16_flight_129 : decode cX16_flight 129 = .ok (.goto 23, 3) := by decide +kernel
theorem dX16_flight_132 : decode cX16_flight 132 = .ok (.iload_n 2, 1) := by decide +kernel
theorem dX16_flight_133 : decode cX16_flight 133 = .ok (.iconst 2, 1) := by decide +kernel
theorem dX16_flight_134 : decode cX16_flight 134 = .ok (.if_icmp .ne 12, 3) := by decide +kernel
theorem dX16_flight_137 : decode cX16_flight 137 = .ok (.aload_n 0, 1) := by decide +kernel
theorem dX16_flight_138 : decode cX16_flight 138 = .ok (.getfield 94, 3) := by decide +kernel
theorem dX16_flight_141 : decode cX16_flight 141 = .ok (.iload_n 3, 1) := by decide +kernel
theorem dX16_flight_142 : decode cX16_flight 142 = .ok (.iaload, 1) := by decide +kernel
theorem dX16_flight_143 : decode cX16_flight 143 = .ok (.goto 9, 3) := by decide +kernel
theorem dX16_flight_146 : decode cX16_flight 146 = .ok (.aload_n 0, 1) := by decide +kernel
theorem dX16_flight_147 : decode cX16_flight 147 = .ok (.getfield 100, 3) := by decide +kernel
theorem dX16_flight_150 : decode cX16_flight 150 = .ok (.iload_n 3, 1) := by decide +kernel
theorem dX16_flight_151 : decode cX16_flight 151 = .ok (.iaload, 1) := by decide +kernel
theorem dX16_flight_152 : decode cX16_flight 152 = .ok (.ireturn, 1) := by decide +kernel
theorem dX16_flight_153 : decode cX16_flight 153 = .ok (.iload_n 2, 1) := by decide +kernel
theorem dX16_flight_154 : decode cX16_flight 154 = .ok (.iconst 4, 1) := by decide +kernel
theorem dX16_flight_155 : decode cX16_flight 155 = .ok (.isub, 1) := by decide +kernel
theorem dX16_flight_156 : decode cX16_flight 156 = .ok (.aload_n 0, 1) := by decide +kernel
theorem dX16_flight_157 : decode cX16_flight 157 = .ok (.getfield 100, 3) := by decide +kernel
theorem dX16_flight_160 : decode cX16_flight 160 = .ok (.iload_n 3, 1) := by decide +kernel
theorem dX16_flight_161 : decode cX16_flight 161 = .ok (.iaload, 1) := by decide +kernel
theorem dX16_flight_162 : decode cX16_flight 162 = .ok (.if_icmp .ge 20, 3) := by decide +kernel
theorem dX16_flight_165 : decode cX16_flight 165 = .ok (.aload_n 0, 1) := by decide +kernel
theorem dX16_flight_166 : decode cX16_flight 166 = .ok (.getfield 104, 3) := by decide +kernel
theorem dX16_flight_169 : decode cX16_flight 169 = .ok (.sipush 460, 3) := by decide +kernel
theorem dX16_flight_172 : decode cX16_flight 172 = .ok (.iload_n 3, 1) := by decide +kernel
theorem dX16_flight_173 : decode cX16_flight 173 = .ok (.imul, 1) := by decide +kernel
theorem dX16_flight_174 : decode cX16_flight 174 = .ok (.iload_n 2, 1) := by decide +kernel
theorem dX16_flight_175 : decode cX16_flight 175 = .ok (.iadd, 1) := by decide +kernel
theorem dX16_flight_176 : decode cX16_flight 176 = .ok (.iconst 4, 1) := by decide +kernel
theorem dX16_flight_177 : decode cX16_flight 177 = .ok (.isub, 1) := by decide +kernel
theorem dX16_flight_178 : decode cX16_flight 178 = .ok (.iaload, 1) := by decide +kernel
theorem dX16_flight_179 : decode cX16_flight 179 = .ok (.goto 4, 3) := by decide +kernel
theorem dX16_flight_182 : decode cX16_flight 182 = .ok (.iconst (-1), 1) := by decide +kernel
theorem dX16_flight_183 : decode cX16_flight 183 = .ok (.ireturn, 1) := by decide +kernel
def j_X16_flight_183 (y0 : Int) (V : VV) : Option (Int) :=
  some y0
def j_X16_flight_152 (y0 : Int) (V : VV) : Option (Int) :=
  some y0
def j_X16_flight_100 (x2 x3 : Int) (V : VV) : Option (Int) :=
  if w32 x2 < w32 4 then
    if w32 x2 = 0 then
      (l2 182 400 x3 V).bind fun v6 =>
      j_X16_flight_152 v6 V
    else
      if w32 x2 = w32 1 then
        (l2 183 400 x3 V).bind fun v5 =>
        j_X16_flight_152 v5 V
      else
        if w32 x2 = w32 2 then
          (l2 184 400 x3 V).bind fun v4 =>
          j_X16_flight_152 v4 V
        else
          (l2 186 400 x3 V).bind fun v3 =>
          j_X16_flight_152 v3 V
  else
    (l2 186 400 x3 V).bind fun v1 =>
    if w32 (x2 - 4) < w32 v1 then
      (l2 187 184000 (((460 * x3) + x2) - 4) V).bind fun v2 =>
      j_X16_flight_183 v2 V
    else
      j_X16_flight_183 (-1) V
def j_X16_flight_93 (x1 x2 x4 y0 : Int) (V : VV) : Option ((Int × Int) ⊕ (Int)) :=
  cnt (y0, x4 + 1)
def j_X16_flight_81 (x1 x2 x3 x4 x5 : Int) (V : VV) : Option ((Int × Int) ⊕ (Int)) :=
  if w32 x5 = w32 x1 then
    j_X16_flight_93 x1 x2 x4 x4 V
  else
    j_X16_flight_93 x1 x2 x4 x3 V
def j_X16_flight_72 (x1 x2 x3 x4 x6 y0 y1 : Int) (V : VV) : Option ((Int × Int) ⊕ ((Int × Int) ⊕ (Int))) :=
  cnt (y0 + y1, x6 + 1)
def j_X16_flight_71 (x1 x2 x3 x4 x6 y0 : Int) (V : VV) : Option ((Int × Int) ⊕ ((Int × Int) ⊕ (Int))) :=
  j_X16_flight_72 x1 x2 x3 x4 x6 y0 0 V
def b_X16_flight_38 (x1 x2 x3 x4 x5 x6 : Int) (V : VV) : Option ((Int × Int) ⊕ ((Int × Int) ⊕ (Int))) :=
  if w32 x6 < w32 (w32 (V 156 32)) then
    if w32 x6 = w32 x4 then
      j_X16_flight_71 x1 x2 x3 x4 x6 x5 V
    else
      (f_X16_ahead x6 x4 V).bind fun v1 =>
      if w32 v1 = 0 then
        j_X16_flight_71 x1 x2 x3 x4 x6 x5 V
      else
        j_X16_flight_72 x1 x2 x3 x4 x6 x5 1 V
  else
    xit (j_X16_flight_81 x1 x2 x3 x4 x5 V)
def l_X16_flight_38 (x1 x2 x3 x4 x5 x6 : Int) (V : VV) : Option ((Int × Int) ⊕ (Int)) := lpN (fun s : Int × Int => b_X16_flight_38 x1 x2 x3 x4 s.1 s.2 V) FU (x5, x6)
def b_X16_flight_23 (x1 x2 x3 x4 : Int) (V : VV) : Option ((Int × Int) ⊕ (Int)) :=
  if w32 x4 < w32 (w32 (V 156 32)) then
    l_X16_flight_38 x1 x2 x3 x4 0 0 V
  else
    xit (j_X16_flight_100 x2 x3 V)
def l_X16_flight_23 (x1 x2 x3 x4 : Int) (V : VV) : Option (Int) := lpN (fun s : Int × Int => b_X16_flight_23 x1 x2 s.1 s.2 V) FU (x3, x4)
def j_X16_flight_16 (V : VV) : Option (Int) :=
  some (-1)
def f_X16_flight (x1 x2 : Int) (V : VV) : Option (Int) :=
  if w32 x1 < 0 then
    j_X16_flight_16 V
  else
    if w32 x1 < w32 (w32 (V 156 32)) then
      if w32 x2 < 0 then
        j_X16_flight_16 V
      else
        l_X16_flight_23 x1 x2 0 0 V
    else
      j_X16_flight_16 V
theorem s_X16_flight_183 {g : GG} {d : Nat} (hD : 1 ≤ d) {y0 : Int} {M : MM} (hM : LM M) {V : VV} {o : AV × MM} {P : (Int) → Prop} (r0 : ∀ r : Int, P r → o = ((0, r), (wr M V))) {z : Int} (h : j_X16_flight_183 y0 V = some z) (hz : P z) : Sem g d YX16_flight 183 [(9, 0), (9, 0), (9, 0), (9, 0), (9, 0), (9, 0), (9, 0)] [(0, y0)] (wr M V) o := by
  delta j_X16_flight_183 at h
  obtain rfl := r0 _ (some_P (P := fun r => P r) h hz)
  exact P_ret dX16_flight_183 rfl (Or.inl rfl)
theorem s_X16_flight_152 {g : GG} {d : Nat} (hD : 1 ≤ d) {y0 : Int} {M : MM} (hM : LM M) {V : VV} {o : AV × MM} {P : (Int) → Prop} (r0 : ∀ r : Int, P r → o = ((0, r), (wr M V))) {z : Int} (h : j_X16_flight_152 y0 V = some z) (hz : P z) : Sem g d YX16_flight 152 [(9, 0), (9, 0), (9, 0), (9, 0), (9, 0), (9, 0), (9, 0)] [(0, y0)] (wr M V) o := by
  delta j_X16_flight_152 at h
  obtain rfl := r0 _ (some_P (P := fun r => P r) h hz)
  exact P_ret dX16_flight_152 rfl (Or.inl rfl)
theorem s_X16_flight_100 {g : GG} {d : Nat} (hD : 1 ≤ d) {x2 x3 : Int} {M : MM} (hM : LM M) {V : VV} {o : AV × MM} {P : (Int) → Prop} (r0 : ∀ r : Int, P r → o = ((0, r), (wr M V))) {z : Int} (h : j_X16_flight_100 x2 x3 V = some z) (hz : P z) : Sem g d YX16_flight 100 [(1, 156), (9, 0), (0, x2), (0, x3), (9, 0), (9, 0), (9, 0)] [] (wr M V) o := by
  delta j_X16_flight_100 at h
  refine S_iload_n (i := 2) dX16_flight_100 rfl rfl ?_
  refine S_iconst dX16_flight_101 rfl ?_
  refine P_icmp_ge (tgt := 153) dX16_flight_102 rfl h (fun h => ?_) (fun h => ?_)
  · refine S_iload_n (i := 2) dX16_flight_153 rfl rfl ?_
    refine S_iconst dX16_flight_154 rfl ?_
    refine S_isub dX16_flight_155 ?_
    refine S_aload_n (i := 0) dX16_flight_156 rfl rfl ?_
    refine P2_gfr hM (a := 186) FLX16_100 rfl ⟨rfl, rfl⟩ dX16_flight_157 ?_
    refine S_iload_n (i := 3) dX16_flight_160 rfl rfl ?_
    refine P2_lai hM (a := 186) (n := 400) rfl dX16_flight_161 h (fun v1 h => ?_)
    refine P_icmp_ge (tgt := 182) dX16_flight_162 rfl h (fun h => ?_) (fun h => ?_)
    · refine S_iconst dX16_flight_182 rfl ?_
      refine S_weak (ls' := [(9, 0), (9, 0), (9, 0), (9, 0), (9, 0), (9, 0), (9, 0)]) ⟨Or.inl rfl, ⟨Or.inl rfl, ⟨Or.inl rfl, ⟨Or.inl rfl, ⟨Or.inl rfl, ⟨Or.inl rfl, ⟨Or.inl rfl, trivial⟩⟩⟩⟩⟩⟩⟩ ?_
      exact s_X16_flight_183 hD hM r0 h hz
    · refine S_aload_n (i := 0) dX16_flight_165 rfl rfl ?_
      refine P2_gfr hM (a := 187) FLX16_104 rfl ⟨rfl, rfl⟩ dX16_flight_166 ?_
      refine S_sipush (z := 460) dX16_flight_169 rfl ?_
      refine S_iload_n (i := 3) dX16_flight_172 rfl rfl ?_
      refine S_imul dX16_flight_173 ?_
      refine S_iload_n (i := 2) dX16_flight_174 rfl rfl ?_
      refine S_iadd dX16_flight_175 ?_
      refine S_iconst dX16_flight_176 rfl ?_
      refine S_isub dX16_flight_177 ?_
      refine P2_lai hM (a := 187) (n := 184000) rfl dX16_flight_178 h (fun v2 h => ?_)
      refine S_goto (tgt := 183) dX16_flight_179 rfl ?_
      refine S_weak (ls' := [(9, 0), (9, 0), (9, 0), (9, 0), (9, 0), (9, 0), (9, 0)]) ⟨Or.inl rfl, ⟨Or.inl rfl, ⟨Or.inl rfl, ⟨Or.inl rfl, ⟨Or.inl rfl, ⟨Or.inl rfl, ⟨Or.inl rfl, trivial⟩⟩⟩⟩⟩⟩⟩ ?_
      exact s_X16_flight_183 hD hM r0 h hz
  · refine S_iload_n (i := 2) dX16_flight_105 rfl rfl ?_
    refine P_if_ne (tgt := 118) dX16_flight_106 rfl h (fun h => ?_) (fun h => ?_)
    · refine S_iload_n (i := 2) dX16_flight_118 rfl rfl ?_
      refine S_iconst dX16_flight_119 rfl ?_
      refine P_icmp_ne (tgt := 132) dX16_flight_120 rfl h (fun h => ?_) (fun h => ?_)
      · refine S_iload_n (i := 2) dX16_flight_132 rfl rfl ?_
        refine S_iconst dX16_flight_133 rfl ?_
        refine P_icmp_ne (tgt := 146) dX16_flight_134 rfl h (fun h => ?_) (fun h => ?_)
        · refine S_aload_n (i := 0) dX16_flight_146 rfl rfl ?_
          refine P2_gfr hM (a := 186) FLX16_100 rfl ⟨rfl, rfl⟩ dX16_flight_147 ?_
          refine S_iload_n (i := 3) dX16_flight_150 rfl rfl ?_
          refine P2_lai hM (a := 186) (n := 400) rfl dX16_flight_151 h (fun v3 h => ?_)
          refine S_weak (ls' := [(9, 0), (9, 0), (9, 0), (9, 0), (9, 0), (9, 0), (9, 0)]) ⟨Or.inl rfl, ⟨Or.inl rfl, ⟨Or.inl rfl, ⟨Or.inl rfl, ⟨Or.inl rfl, ⟨Or.inl rfl, ⟨Or.inl rfl, trivial⟩⟩⟩⟩⟩⟩⟩ ?_
          exact s_X16_flight_152 hD hM r0 h hz
        · refine S_aload_n (i := 0) dX16_flight_137 rfl rfl ?_
          refine P2_gfr hM (a := 184) FLX16_94 rfl ⟨rfl, rfl⟩ dX16_flight_138 ?_
          refine S_iload_n (i := 3) dX16_flight_141 rfl rfl ?_
          refine P2_lai hM (a := 184) (n := 400) rfl dX16_flight_142 h (fun v4 h => ?_)
          refine S_goto (tgt := 152) dX16_flight_143 rfl ?_
          refine S_weak (ls' := [(9, 0), (9, 0), (9, 0), (9, 0), (9, 0), (9, 0), (9, 0)]) ⟨Or.inl rfl, ⟨Or.inl rfl, ⟨Or.inl rfl, ⟨Or.inl rfl, ⟨Or.inl rfl, ⟨Or.inl rfl, ⟨Or.inl rfl, trivial⟩⟩⟩⟩⟩⟩⟩ ?_
          exact s_X16_flight_152 hD hM r0 h hz
      · refine S_aload_n (i := 0) dX16_flight_123 rfl rfl ?_
        refine P2_gfr hM (a := 183) FLX16_91 rfl ⟨rfl, rfl⟩ dX16_flight_124 ?_
        refine S_iload_n (i := 3) dX16_flight_127 rfl rfl ?_
        refine P2_lai hM (a := 183) (n := 400) rfl dX16_flight_128 h (fun v5 h => ?_)
        refine S_goto (tgt := 152) dX16_flight_129 rfl ?_
        refine S_weak (ls' := [(9, 0), (9, 0), (9, 0), (9, 0), (9, 0), (9, 0), (9, 0)]) ⟨Or.inl rfl, ⟨Or.inl rfl, ⟨Or.inl rfl, ⟨Or.inl rfl, ⟨Or.inl rfl, ⟨Or.inl rfl, ⟨Or.inl rfl, trivial⟩⟩⟩⟩⟩⟩⟩ ?_
        exact s_X16_flight_152 hD hM r0 h hz
    · refine S_aload_n (i := 0) dX16_flight_109 rfl rfl ?_
      refine P2_gfr hM (a := 182) FLX16_88 rfl ⟨rfl, rfl⟩ dX16_flight_110 ?_
      refine S_iload_n (i := 3) dX16_flight_113 rfl rfl ?_
      refine P2_lai hM (a := 182) (n := 400) rfl dX16_flight_114 h (fun v6 h => ?_)
      refine S_goto (tgt := 152) dX16_flight_115 rfl ?_
      refine S_weak (ls' := [(9, 0), (9, 0), (9, 0), (9, 0), (9, 0), (9, 0), (9, 0)]) ⟨Or.inl rfl, ⟨Or.inl rfl, ⟨Or.inl rfl, ⟨Or.inl rfl, ⟨Or.inl rfl, ⟨Or.inl rfl, ⟨Or.inl rfl, trivial⟩⟩⟩⟩⟩⟩⟩ ?_
      exact s_X16_flight_152 hD hM r0 h hz
theorem s_X16_flight_93 {g : GG} {d : Nat} (hD : 1 ≤ d) {x1 x2 x4 y0 : Int} {M : MM} (hM : LM M) {V : VV} {o : AV × MM} {P : ((Int × Int) ⊕ (Int)) → Prop} (c0 : ∀ s : Int × Int, P (.inl s) → Sem g d YX16_flight 23 [(1, 156), (0, x1), (0, x2), (0, s.1), (0, s.2), (9, 0), (9, 0)] [] (wr M V) o) (r0 : ∀ r : Int, P (.inr r) → o = ((0, r), (wr M V))) {z : (Int × Int) ⊕ (Int)} (h : j_X16_flight_93 x1 x2 x4 y0 V = some z) (hz : P z) : Sem g d YX16_flight 93 [(1, 156), (0, x1), (0, x2), (9, 0), (0, x4), (9, 0), (9, 0)] [(0, y0)] (wr M V) o := by
  delta j_X16_flight_93 at h
  refine S_istore_n (i := 3) dX16_flight_93 rfl (Nat.le_of_ble_eq_true rfl) rfl rfl ?_
  change Sem g d YX16_flight 94 [(1, 156), (0, x1), (0, x2), (0, y0), (0, x4), (9, 0), (9, 0)] [] (wr M V) o
  refine S_iinc dX16_flight_94 rfl rfl rfl ?_
  change Sem g d YX16_flight 97 [(1, 156), (0, x1), (0, x2), (0, y0), (0, x4 + 1), (9, 0), (9, 0)] [] (wr M V) o
  refine S_goto (tgt := 23) dX16_flight_97 rfl ?_
  exact c0 (y0, x4 + 1) (some_P (P := fun r => P r) h hz)
theorem s_X16_flight_81 {g : GG} {d : Nat} (hD : 1 ≤ d) {x1 x2 x3 x4 x5 : Int} {M : MM} (hM : LM M) {V : VV} {o : AV × MM} {P : ((Int × Int) ⊕ (Int)) → Prop} (c0 : ∀ s : Int × Int, P (.inl s) → Sem g d YX16_flight 23 [(1, 156), (0, x1), (0, x2), (0, s.1), (0, s.2), (9, 0), (9, 0)] [] (wr M V) o) (r0 : ∀ r : Int, P (.inr r) → o = ((0, r), (wr M V))) {z : (Int × Int) ⊕ (Int)} (h : j_X16_flight_81 x1 x2 x3 x4 x5 V = some z) (hz : P z) : Sem g d YX16_flight 81 [(1, 156), (0, x1), (0, x2), (0, x3), (0, x4), (0, x5), (9, 0)] [] (wr M V) o := by
  delta j_X16_flight_81 at h
  refine S_iload dX16_flight_81 rfl ?_
  refine S_iload_n (i := 1) dX16_flight_83 rfl rfl ?_
  refine P_icmp_ne (tgt := 92) dX16_flight_84 rfl h (fun h => ?_) (fun h => ?_)
  · refine S_iload_n (i := 3) dX16_flight_92 rfl rfl ?_
    refine S_weak (ls' := [(1, 156), (0, x1), (0, x2), (9, 0), (0, x4), (9, 0), (9, 0)]) ⟨Or.inr rfl, ⟨Or.inr rfl, ⟨Or.inr rfl, ⟨Or.inl rfl, ⟨Or.inr rfl, ⟨Or.inl rfl, ⟨Or.inl rfl, trivial⟩⟩⟩⟩⟩⟩⟩ ?_
    exact s_X16_flight_93 hD hM c0 r0 h hz
  · refine S_iload dX16_flight_87 rfl ?_
    refine S_goto (tgt := 93) dX16_flight_89 rfl ?_
    refine S_weak (ls' := [(1, 156), (0, x1), (0, x2), (9, 0), (0, x4), (9, 0), (9, 0)]) ⟨Or.inr rfl, ⟨Or.inr rfl, ⟨Or.inr rfl, ⟨Or.inl rfl, ⟨Or.inr rfl, ⟨Or.inl rfl, ⟨Or.inl rfl, trivial⟩⟩⟩⟩⟩⟩⟩ ?_
    exact s_X16_flight_93 hD hM c0 r0 h hz
theorem s_X16_flight_72 {g : GG} {d : Nat} (hD : 1 ≤ d) {x1 x2 x3 x4 x6 y0 y1 : Int} {M : MM} (hM : LM M) {V : VV} {o : AV × MM} {P : ((Int × Int) ⊕ ((Int × Int) ⊕ (Int))) → Prop} (c1 : ∀ s : Int × Int, P (.inl s) → Sem g d YX16_flight 38 [(1, 156), (0, x1), (0, x2), (0, x3), (0, x4), (0, s.1), (0, s.2)] [] (wr M V) o) (c0 : ∀ s : Int × Int, P (.inr (.inl s)) → Sem g d YX16_flight 23 [(1, 156), (0, x1), (0, x2), (0, s.1), (0, s.2), (9, 0), (9, 0)] [] (wr M V) o) (r0 : ∀ r : Int, P (.inr (.inr r)) → o = ((0, r), (wr M V))) {z : (Int × Int) ⊕ ((Int × Int) ⊕ (Int))} (h : j_X16_flight_72 x1 x2 x3 x4 x6 y0 y1 V = some z) (hz : P z) : Sem g d YX16_flight 72 [(1, 156), (0, x1), (0, x2), (0, x3), (0, x4), (9, 0), (0, x6)] [(0, y1), (0, y0)] (wr M V) o := by
  delta j_X16_flight_72 at h
  refine S_iadd dX16_flight_72 ?_
  refine S_istore dX16_flight_73 (Nat.le_of_ble_eq_true rfl) rfl rfl ?_
  change Sem g d YX16_flight 75 [(1, 156), (0, x1), (0, x2), (0, x3), (0, x4), (0, y0 + y1), (0, x6)] [] (wr M V) o
  refine S_iinc dX16_flight_75 rfl rfl rfl ?_
  change Sem g d YX16_flight 78 [(1, 156), (0, x1), (0, x2), (0, x3), (0, x4), (0, y0 + y1), (0, x6 + 1)] [] (wr M V) o
  refine S_goto (tgt := 38) dX16_flight_78 rfl ?_
  exact c1 (y0 + y1, x6 + 1) (some_P (P := fun r => P r) h hz)
theorem s_X16_flight_71 {g : GG} {d : Nat} (hD : 1 ≤ d) {x1 x2 x3 x4 x6 y0 : Int} {M : MM} (hM : LM M) {V : VV} {o : AV × MM} {P : ((Int × Int) ⊕ ((Int × Int) ⊕ (Int))) → Prop} (c1 : ∀ s : Int × Int, P (.inl s) → Sem g d YX16_flight 38 [(1, 156), (0, x1), (0, x2), (0, x3), (0, x4), (0, s.1), (0, s.2)] [] (wr M V) o) (c0 : ∀ s : Int × Int, P (.inr (.inl s)) → Sem g d YX16_flight 23 [(1, 156), (0, x1), (0, x2), (0, s.1), (0, s.2), (9, 0), (9, 0)] [] (wr M V) o) (r0 : ∀ r : Int, P (.inr (.inr r)) → o = ((0, r), (wr M V))) {z : (Int × Int) ⊕ ((Int × Int) ⊕ (Int))} (h : j_X16_flight_71 x1 x2 x3 x4 x6 y0 V = some z) (hz : P z) : Sem g d YX16_flight 71 [(1, 156), (0, x1), (0, x2), (0, x3), (0, x4), (9, 0), (0, x6)] [(0, y0)] (wr M V) o := by
  delta j_X16_flight_71 at h
  refine S_iconst dX16_flight_71 rfl ?_
  exact s_X16_flight_72 hD hM c1 c0 r0 h hz
theorem s_X16_flight_38 {g : GG} {d : Nat} (hD : 1 ≤ d) {x1 x2 x3 x4 x5 x6 : Int} {M : MM} (hM : LM M) {V : VV} {o : AV × MM} {P : ((Int × Int) ⊕ ((Int × Int) ⊕ (Int))) → Prop} (c1 : ∀ s : Int × Int, P (.inl s) → Sem g d YX16_flight 38 [(1, 156), (0, x1), (0, x2), (0, x3), (0, x4), (0, s.1), (0, s.2)] [] (wr M V) o) (c0 : ∀ s : Int × Int, P (.inr (.inl s)) → Sem g d YX16_flight 23 [(1, 156), (0, x1), (0, x2), (0, s.1), (0, s.2), (9, 0), (9, 0)] [] (wr M V) o) (r0 : ∀ r : Int, P (.inr (.inr r)) → o = ((0, r), (wr M V))) {z : (Int × Int) ⊕ ((Int × Int) ⊕ (Int))} (h : b_X16_flight_38 x1 x2 x3 x4 x5 x6 V = some z) (hz : P z) : Sem g d YX16_flight 38 [(1, 156), (0, x1), (0, x2), (0, x3), (0, x4), (0, x5), (0, x6)] [] (wr M V) o := by
  delta b_X16_flight_38 at h
  refine S_iload dX16_flight_38 rfl ?_
  refine S_aload_n (i := 0) dX16_flight_40 rfl rfl ?_
  refine P2_gfi hM FLX16_464 rfl dX16_flight_41 ?_
  refine P_icmp_ge (tgt := 81) dX16_flight_44 rfl h (fun h => ?_) (fun h => ?_)
  · refine S_weak (ls' := [(1, 156), (0, x1), (0, x2), (0, x3), (0, x4), (0, x5), (9, 0)]) ⟨Or.inr rfl, ⟨Or.inr rfl, ⟨Or.inr rfl, ⟨Or.inr rfl, ⟨Or.inr rfl, ⟨Or.inr rfl, ⟨Or.inl rfl, trivial⟩⟩⟩⟩⟩⟩⟩ ?_
    obtain ⟨z0, h, hz⟩ := xit_some' (P := fun r => P r) h hz
    exact s_X16_flight_81 hD hM (P := fun r => P (.inr r)) c0 r0 h hz
  · refine S_iload dX16_flight_47 rfl ?_
    refine S_iload dX16_flight_49 rfl ?_
    refine S_iload dX16_flight_51 rfl ?_
    refine P_icmp_eq (tgt := 71) dX16_flight_53 rfl h (fun h => ?_) (fun h => ?_)
    · refine S_weak (ls' := [(1, 156), (0, x1), (0, x2), (0, x3), (0, x4), (9, 0), (0, x6)]) ⟨Or.inr rfl, ⟨Or.inr rfl, ⟨Or.inr rfl, ⟨Or.inr rfl, ⟨Or.inr rfl, ⟨Or.inl rfl, ⟨Or.inr rfl, trivial⟩⟩⟩⟩⟩⟩⟩ ?_
      exact s_X16_flight_71 hD hM c1 c0 r0 h hz
    · refine S_aload_n (i := 0) dX16_flight_56 rfl rfl ?_
      refine S_iload dX16_flight_57 rfl ?_
      refine S_iload dX16_flight_59 rfl ?_
      refine P2_invVp hM 0 [(0, x6), (0, x4)] [(0, x5)] CVX16_ahead MLX16_795 dX16_flight_61 rfl rfl rfl rfl rfl (by omega) h (fun r h => F_X16_ahead (by omega) hM h) (fun v1 h => ?_)
      refine P_if_eq (tgt := 71) dX16_flight_64 rfl h (fun h => ?_) (fun h => ?_)
      · refine S_weak (ls' := [(1, 156), (0, x1), (0, x2), (0, x3), (0, x4), (9, 0), (0, x6)]) ⟨Or.inr rfl, ⟨Or.inr rfl, ⟨Or.inr rfl, ⟨Or.inr rfl, ⟨Or.inr rfl, ⟨Or.inl rfl, ⟨Or.inr rfl, trivial⟩⟩⟩⟩⟩⟩⟩ ?_
        exact s_X16_flight_71 hD hM c1 c0 r0 h hz
      · refine S_iconst dX16_flight_67 rfl ?_
        refine S_goto (tgt := 72) dX16_flight_68 rfl ?_
        refine S_weak (ls' := [(1, 156), (0, x1), (0, x2), (0, x3), (0, x4), (9, 0), (0, x6)]) ⟨Or.inr rfl, ⟨Or.inr rfl, ⟨Or.inr rfl, ⟨Or.inr rfl, ⟨Or.inr rfl, ⟨Or.inl rfl, ⟨Or.inr rfl, trivial⟩⟩⟩⟩⟩⟩⟩ ?_
        exact s_X16_flight_72 hD hM c1 c0 r0 h hz
theorem sl_X16_flight_38 {g : GG} {d : Nat} (hD : 1 ≤ d) {x1 x2 x3 x4 x5 x6 : Int} {M : MM} (hM : LM M) {V : VV} {o : AV × MM} {P : ((Int × Int) ⊕ (Int)) → Prop} (c0 : ∀ s : Int × Int, P (.inl s) → Sem g d YX16_flight 23 [(1, 156), (0, x1), (0, x2), (0, s.1), (0, s.2), (9, 0), (9, 0)] [] (wr M V) o) (r0 : ∀ r : Int, P (.inr r) → o = ((0, r), (wr M V))) {z : (Int × Int) ⊕ (Int)} (h : l_X16_flight_38 x1 x2 x3 x4 x5 x6 V = some z) (hz : P z) : Sem g d YX16_flight 38 [(1, 156), (0, x1), (0, x2), (0, x3), (0, x4), (0, x5), (0, x6)] [] (wr M V) o := by
  refine lp_sound (S := fun s : Int × Int => Sem g d YX16_flight 38 [(1, 156), (0, x1), (0, x2), (0, x3), (0, x4), (0, s.1), (0, s.2)] [] (wr M V) o) (P := P) ?_ FU (x5, x6) z h hz
  intro s x hx hP
  exact s_X16_flight_38 hD hM (P := Sum.elim (fun s : Int × Int => Sem g d YX16_flight 38 [(1, 156), (0, x1), (0, x2), (0, x3), (0, x4), (0, s.1), (0, s.2)] [] (wr M V) o) P) (fun s h => h) (fun s h => c0 s h) (fun s h => r0 s h) hx hP
theorem s_X16_flight_23 {g : GG} {d : Nat} (hD : 1 ≤ d) {x1 x2 x3 x4 : Int} {M : MM} (hM : LM M) {V : VV} {o : AV × MM} {P : ((Int × Int) ⊕ (Int)) → Prop} (c0 : ∀ s : Int × Int, P (.inl s) → Sem g d YX16_flight 23 [(1, 156), (0, x1), (0, x2), (0, s.1), (0, s.2), (9, 0), (9, 0)] [] (wr M V) o) (r0 : ∀ r : Int, P (.inr r) → o = ((0, r), (wr M V))) {z : (Int × Int) ⊕ (Int)} (h : b_X16_flight_23 x1 x2 x3 x4 V = some z) (hz : P z) : Sem g d YX16_flight 23 [(1, 156), (0, x1), (0, x2), (0, x3), (0, x4), (9, 0), (9, 0)] [] (wr M V) o := by
  delta b_X16_flight_23 at h
  refine S_iload dX16_flight_23 rfl ?_
  refine S_aload_n (i := 0) dX16_flight_25 rfl rfl ?_
  refine P2_gfi hM FLX16_464 rfl dX16_flight_26 ?_
  refine P_icmp_ge (tgt := 100) dX16_flight_29 rfl h (fun h => ?_) (fun h => ?_)
  · refine S_weak (ls' := [(1, 156), (9, 0), (0, x2), (0, x3), (9, 0), (9, 0), (9, 0)]) ⟨Or.inr rfl, ⟨Or.inl rfl, ⟨Or.inr rfl, ⟨Or.inr rfl, ⟨Or.inl rfl, ⟨Or.inl rfl, ⟨Or.inl rfl, trivial⟩⟩⟩⟩⟩⟩⟩ ?_
    obtain ⟨z0, h, hz⟩ := xit_some' (P := fun r => P r) h hz
    exact s_X16_flight_100 hD hM (P := fun r => P (.inr r)) r0 h hz
  · refine S_iconst dX16_flight_32 rfl ?_
    refine S_istore dX16_flight_33 (Nat.le_of_ble_eq_true rfl) rfl rfl ?_
    change Sem g d YX16_flight 35 [(1, 156), (0, x1), (0, x2), (0, x3), (0, x4), (0, 0), (9, 0)] [] (wr M V) o
    refine S_iconst dX16_flight_35 rfl ?_
    refine S_istore dX16_flight_36 (Nat.le_of_ble_eq_true rfl) rfl rfl ?_
    change Sem g d YX16_flight 38 [(1, 156), (0, x1), (0, x2), (0, x3), (0, x4), (0, 0), (0, 0)] [] (wr M V) o
    exact sl_X16_flight_38 hD hM c0 r0 h hz
theorem sl_X16_flight_23 {g : GG} {d : Nat} (hD : 1 ≤ d) {x1 x2 x3 x4 : Int} {M : MM} (hM : LM M) {V : VV} {o : AV × MM} {P : (Int) → Prop} (r0 : ∀ r : Int, P r → o = ((0, r), (wr M V))) {z : Int} (h : l_X16_flight_23 x1 x2 x3 x4 V = some z) (hz : P z) : Sem g d YX16_flight 23 [(1, 156), (0, x1), (0, x2), (0, x3), (0, x4), (9, 0), (9, 0)] [] (wr M V) o := by
  refine lp_sound (S := fun s : Int × Int => Sem g d YX16_flight 23 [(1, 156), (0, x1), (0, x2), (0, s.1), (0, s.2), (9, 0), (9, 0)] [] (wr M V) o) (P := P) ?_ FU (x3, x4) z h hz
  intro s x hx hP
  exact s_X16_flight_23 hD hM (P := Sum.elim (fun s : Int × Int => Sem g d YX16_flight 23 [(1, 156), (0, x1), (0, x2), (0, s.1), (0, s.2), (9, 0), (9, 0)] [] (wr M V) o) P) (fun s h => h) (fun s h => r0 s h) hx hP
theorem s_X16_flight_16 {g : GG} {d : Nat} (hD : 1 ≤ d) {M : MM} (hM : LM M) {V : VV} {o : AV × MM} {P : (Int) → Prop} (r0 : ∀ r : Int, P r → o = ((0, r), (wr M V))) {z : Int} (h : j_X16_flight_16 V = some z) (hz : P z) : Sem g d YX16_flight 16 [(9, 0), (9, 0), (9, 0), (9, 0), (9, 0), (9, 0), (9, 0)] [] (wr M V) o := by
  delta j_X16_flight_16 at h
  refine S_iconst dX16_flight_16 rfl ?_
  obtain rfl := r0 _ (some_P (P := fun r => P r) h hz)
  exact P_ret dX16_flight_17 rfl (Or.inl rfl)
theorem s_X16_flight_0 {g : GG} {d : Nat} (hD : 1 ≤ d) {x1 x2 : Int} {M : MM} (hM : LM M) {V : VV} {o : AV × MM} {P : (Int) → Prop} (r0 : ∀ r : Int, P r → o = ((0, r), (wr M V))) {z : Int} (h : f_X16_flight x1 x2 V = some z) (hz : P z) : Sem g d YX16_flight 0 [(1, 156), (0, x1), (0, x2), (9, 0), (9, 0), (9, 0), (9, 0)] [] (wr M V) o := by
  delta f_X16_flight at h
  refine S_iload_n (i := 1) dX16_flight_0 rfl rfl ?_
  refine P_if_lt (tgt := 16) dX16_flight_1 rfl h (fun h => ?_) (fun h => ?_)
  · refine S_weak (ls' := [(9, 0), (9, 0), (9, 0), (9, 0), (9, 0), (9, 0), (9, 0)]) ⟨Or.inl rfl, ⟨Or.inl rfl, ⟨Or.inl rfl, ⟨Or.inl rfl, ⟨Or.inl rfl, ⟨Or.inl rfl, ⟨Or.inl rfl, trivial⟩⟩⟩⟩⟩⟩⟩ ?_
    exact s_X16_flight_16 hD hM r0 h hz
  · refine S_iload_n (i := 1) dX16_flight_4 rfl rfl ?_
    refine S_aload_n (i := 0) dX16_flight_5 rfl rfl ?_
    refine P2_gfi hM FLX16_464 rfl dX16_flight_6 ?_
    refine P_icmp_ge (tgt := 16) dX16_flight_9 rfl h (fun h => ?_) (fun h => ?_)
    · refine S_weak (ls' := [(9, 0), (9, 0), (9, 0), (9, 0), (9, 0), (9, 0), (9, 0)]) ⟨Or.inl rfl, ⟨Or.inl rfl, ⟨Or.inl rfl, ⟨Or.inl rfl, ⟨Or.inl rfl, ⟨Or.inl rfl, ⟨Or.inl rfl, trivial⟩⟩⟩⟩⟩⟩⟩ ?_
      exact s_X16_flight_16 hD hM r0 h hz
    · refine S_iload_n (i := 2) dX16_flight_12 rfl rfl ?_
      refine P_if_ge (tgt := 18) dX16_flight_13 rfl h (fun h => ?_) (fun h => ?_)
      · refine S_iconst dX16_flight_18 rfl ?_
        refine S_istore_n (i := 3) dX16_flight_19 rfl (Nat.le_of_ble_eq_true rfl) rfl rfl ?_
        change Sem g d YX16_flight 20 [(1, 156), (0, x1), (0, x2), (0, 0), (9, 0), (9, 0), (9, 0)] [] (wr M V) o
        refine S_iconst dX16_flight_20 rfl ?_
        refine S_istore dX16_flight_21 (Nat.le_of_ble_eq_true rfl) rfl rfl ?_
        change Sem g d YX16_flight 23 [(1, 156), (0, x1), (0, x2), (0, 0), (0, 0), (9, 0), (9, 0)] [] (wr M V) o
        exact sl_X16_flight_23 hD hM r0 h hz
      · refine S_weak (ls' := [(9, 0), (9, 0), (9, 0), (9, 0), (9, 0), (9, 0), (9, 0)]) ⟨Or.inl rfl, ⟨Or.inl rfl, ⟨Or.inl rfl, ⟨Or.inl rfl, ⟨Or.inl rfl, ⟨Or.inl rfl, ⟨Or.inl rfl, trivial⟩⟩⟩⟩⟩⟩⟩ ?_
        exact s_X16_flight_16 hD hM r0 h hz
theorem F_X16_flight {g : GG} {d : Nat} (hD : 1 ≤ d) {x1 x2 : Int} {M : MM} (hM : LM M) {V : VV} {r : Int} (h : f_X16_flight x1 x2 V = some r) : Sem g d YX16_flight 0 (ini YX16_flight [(1, 156), (0, x1), (0, x2)]) [] (wr M V) ((0, r), (wr M V)) := by
  change Sem g d YX16_flight 0 [(1, 156), (0, x1), (0, x2), (9, 0), (9, 0), (9, 0), (9, 0)] [] (wr M V) ((0, r), (wr M V))
  exact s_X16_flight_0 hD hM (P := fun x => x = r) (fun q e => by rw [e]) h rfl
/-! PeerSearchModel.launch(III)V -/
theorem dX16_launch_0 : decode cX16_launch 0 = .ok (.aload_n 0, 1) := by decide +kernel
theorem dX16_launch_1 : decode cX16_launch 1 = .ok (.getfield 464, 3) := by decide +kernel
theorem dX16_launch_4 : decode cX16_launch 4 = .ok (.istore 4, 2) := by decide +kernel
theorem dX16_launch_6 : decode cX16_launch 6 = .ok (.aload_n 0, 1) := by decide +kernel
theorem dX16_launch_7 : decode cX16_launch 7 = .ok (.dup, 1) := by decide +kernel
theorem dX16_launch_8 : decode cX16_launch 8 = .ok (.getfield 464, 3) := by decide +kernel
theorem dX16_launch_11 : decode cX16_launch 11 = .ok (.iconst 1, 1) := by decide +kernel
theorem dX16_launch_12 : decode cX16_launch 12 = .ok (.iadd, 1) := by decide +kernel
theorem dX16_launch_13 : decode cX16_launch 13 = .ok (.putfield 464, 3) := by decide +kernel
theorem dX16_launch_16 : decode cX16_launch 16 = .ok (.aload_n 0, 1) := by decide +kernel
theorem dX16_launch_17 : decode cX16_launch 17 = .ok (.getfield 88, 3) := by decide +kernel
theorem dX16_launch_20 : decode cX16_launch 20 = .ok (.iload 4, 2) := by decide +kernel
theorem dX16_launch_22 : decode cX16_launch 22 = .ok (.iload_n 1, 1) := by decide +kernel
theorem dX16_launch_23 : decode cX16_launch 23 = .ok (.iastore, 1) := by decide +kernel
theorem dX16_launch_24 : decode cX16_launch 24 = .ok (.aload_n 0, 1) := by decide +kernel
theorem dX16_launch_25 : decode cX16_launch 25 = .ok (.getfield 91, 3) := by decide +kernel
theorem dX16_launch_28 : decode cX16_launch 28 = .ok (.iload 4, 2) := by decide +kernel
theorem dX16_launch_30 : decode cX16_launch 30 = .ok (.iload_n 2, 1) := by decide +kernel
theorem dX16_launch_31 : decode cX16_launch 31 = .ok (.iastore, 1) := by decide +kernel
theorem dX16_launch_32 : decode cX16_launch 32 = .ok (.aload_n 0, 1) := by decide +kernel
theorem dX16_launch_33 : decode cX16_launch 33 = .ok (.getfield 94, 3) := by decide +kernel
theorem dX16_launch_36 : decode cX16_launch 36 = .ok (.iload 4, 2) := by decide +kernel
theorem dX16_launch_38 : decode cX16_launch 38 = .ok (.iload_n 3, 1) := by decide +kernel
theorem dX16_launch_39 : decode cX16_launch 39 = .ok (.iastore, 1) := by decide +kernel
theorem dX16_launch_40 : decode cX16_launch 40 = .ok (.aload_n 0, 1) := by decide +kernel
theorem dX16_launch_41 : decode cX16_launch 41 = .ok (.getfield 97, 3) := by decide +kernel
theorem dX16_launch_44 : decode cX16_launch 44 = .ok (.iload 4, 2) := by decide +kernel
theorem dX16_launch_46 : decode cX16_launch 46 = .ok (.aload_n 0, 1) := by decide +kernel
theorem dX16_launch_47 : decode cX16_launch 47 = .ok (.getfield 467, 3) := by decide +kernel
theorem dX16_launch_50 : decode cX16_launch 50 = .ok (.iastore, 1) := by decide +kernel
theorem dX16_launch_51 : decode cX16_launch 51 = .ok (.aload_n 0, 1) := by decide +kernel
theorem dX16_launch_52 : decode cX16_launch 52 = .ok (.dup, 1) := by decide +kernel
theorem dX16_launch_53 : decode cX16_launch 53 = .ok (.getfield 467, 3) := by decide +kernel
theorem dX16_launch_56 : decode cX16_launch 56 = .ok (.iconst 1, 1) := by decide +kernel
theorem dX16_launch_57 : decode cX16_launch 57 = .ok (.iadd, 1) := by decide +kernel
theorem dX16_launch_58 : decode cX16_launch 58 = .ok (.putfield 467, 3) := by decide +kernel
theorem dX16_launch_61 : decode cX16_launch 61 = .ok (.aload_n 0, 1) := by decide +kernel
theorem dX16_launch_62 : decode cX16_launch 62 = .ok (.getfield 100, 3) := by decide +kernel
theorem dX16_launch_65 : decode cX16_launch 65 = .ok (.iload 4, 2) := by decide +kernel
theorem dX16_launch_67 : decode cX16_launch 67 = .ok (.aload_n 0, 1) := by decide +kernel
theorem dX16_launch_68 : decode cX16_launch 68 = .ok (.getfield 470, 3) := by decide +kernel
theorem dX16_launch_71 : decode cX16_launch 71 = .ok (.iastore, 1) := by decide +kernel
theorem dX16_launch_72 : decode cX16_launch 72 = .ok (.iconst 0, 1) := by decide +kernel
theorem dX16_launch_73 : decode cX16_launch 73 = .ok (.istore 5, 2) := by decide +kernel
theorem dX16_launch_75 : decode cX16_launch 75 = .ok (.iload 5, 2) := by decide +kernel
theorem dX16_launch_77 : decode cX16_launch 77 = .ok (.aload_n 0, 1) := by decide +kernel
theorem dX16_launch_78 : decode cX16_launch 78 = .ok (.getfield 470, 3) := by decide +kernel
theorem dX16_launch_81 : decode cX16_launch 81 = .ok (.if_icmp .ge 30, 3) := by decide +kernel
theorem dX16_launch_84 : decode cX16_launch 84 = .ok (.aload_n 0, 1) := by decide +kernel
theorem dX16_launch_85 : decode cX16_launch 85 = .ok (.getfield 104, 3) := by decide +kernel
theorem dX16_launch_88 : decode cX16_launch 88 = .ok (.sipush 460, 3) := by decide +kernel
theorem dX16_launch_91 : decode cX16_launch 91 = .ok (.iload 4, 2) := by decide +kernel
theorem dX16_launch_93 : decode cX16_launch 93 = .ok (.imul, 1) := by decide +kernel
theorem dX16_launch_94 : decode cX16_launch 94 = .ok (.iload 5, 2) := by decide +kernel
theorem dX16_launch_96 : decode cX16_launch 96 = .ok (.iadd, 1) := by decide +kernel
theorem dX16_launch_97 : decode cX16_launch 97 = .ok (.aload_n 0, 1) := by decide +kernel
theorem dX16_launch_98 : decode cX16_launch 98 = .ok (.getfield 107, 3) := by decide +kernel
theorem dX16_launch_101 : decode cX16_launch 101 = .ok (.iload 5, 2) := by decide +kernel
theorem dX16_launch_103 : decode cX16_launch 103 = .ok (.iaload, 1) := by decide +kernel
theorem dX16_launch_104 : decode cX16_launch 104 = .ok (.iastore, 1) := by decide +kernel
theorem dX16_launch_105 : decode cX16_launch 105 = .ok (.iinc 5 1, 3) := by decide +kernel
theorem dX16_launch_108 : decode cX16_launch 108 = .ok (.goto (-33), 3) := by decide +kernel
theorem dX16_launch_111 : decode cX16_launch 111 = .ok (.return_, 1) := by decide +kernel
def b_X16_launch_75 (x4 x5 : Int) (V : VV) : Option ((Int × VV) ⊕ (VV)) :=
  if w32 x5 < w32 (w32 (V 156 41)) then
    (l2 188 460 x5 V).bind fun v1 =>
    (s2 187 184000 ((460 * x4) + x5) v1 V).bind fun V1 =>
    cnt (x5 + 1, V1)
  else
    xit (some V)
def l_X16_launch_75 (x4 x5 : Int) (V : VV) : Option (VV) := lpN (fun s : Int × VV => b_X16_launch_75 x4 s.1 s.2) FU (x5, V)
def f_X16_launch (x1 x2 x3 : Int) (V : VV) : Option (VV) :=
  (p2 32 ((w32 (V 156 32)) + 1) V).bind fun V1 =>
  (s2 182 400 (w32 (V 156 32)) x1 V1).bind fun V2 =>
  (s2 183 400 (w32 (V 156 32)) x2 V2).bind fun V3 =>
  (s2 184 400 (w32 (V 156 32)) x3 V3).bind fun V4 =>
  (s2 185 400 (w32 (V 156 32)) (w32 (V4 156 33)) V4).bind fun V5 =>
  (p2 33 ((w32 (V5 156 33)) + 1) V5).bind fun V6 =>
  (s2 186 400 (w32 (V 156 32)) (w32 (V6 156 41)) V6).bind fun V7 =>
  l_X16_launch_75 (w32 (V 156 32)) 0 V7
theorem s_X16_launch_75 {g : GG} {d : Nat} (hD : 0 ≤ d) {x4 x5 : Int} {M : MM} (hM : LM M) {V : VV} {o : AV × MM} {P : ((Int × VV) ⊕ (VV)) → Prop} (c0 : ∀ s : Int × VV, P (.inl s) → Sem g d YX16_launch 75 [(1, 156), (9, 0), (9, 0), (9, 0), (0, x4), (0, s.1)] [] (wr M s.2) o) (r0 : ∀ r : VV, P (.inr r) → o = ((9, 0), (wr M r))) {z : (Int × VV) ⊕ (VV)} (h : b_X16_launch_75 x4 x5 V = some z) (hz : P z) : Sem g d YX16_launch 75 [(1, 156), (9, 0), (9, 0), (9, 0), (0, x4), (0, x5)] [] (wr M V) o := by
  delta b_X16_launch_75 at h
  refine S_iload dX16_launch_75 rfl ?_
  refine S_aload_n (i := 0) dX16_launch_77 rfl rfl ?_
  refine P2_gfi hM FLX16_470 rfl dX16_launch_78 ?_
  refine P_icmp_ge (tgt := 111) dX16_launch_81 rfl h (fun h => ?_) (fun h => ?_)
  · obtain ⟨z0, h, hz⟩ := xit_some' (P := fun r => P r) h hz
    obtain rfl := r0 _ (some_P (P := fun r => P (.inr r)) h hz)
    exact S_return dX16_launch_111 rfl
  · refine S_aload_n (i := 0) dX16_launch_84 rfl rfl ?_
    refine P2_gfr hM (a := 187) FLX16_104 rfl ⟨rfl, rfl⟩ dX16_launch_85 ?_
    refine S_sipush (z := 460) dX16_launch_88 rfl ?_
    refine S_iload dX16_launch_91 rfl ?_
    refine S_imul dX16_launch_93 ?_
    refine S_iload dX16_launch_94 rfl ?_
    refine S_iadd dX16_launch_96 ?_
    refine S_aload_n (i := 0) dX16_launch_97 rfl rfl ?_
    refine P2_gfr hM (a := 188) FLX16_107 rfl ⟨rfl, rfl⟩ dX16_launch_98 ?_
    refine S_iload dX16_launch_101 rfl ?_
    refine P2_lai hM (a := 188) (n := 460) rfl dX16_launch_103 h (fun v1 h => ?_)
    refine P2_sai hM (a := 187) (n := 184000) rfl dX16_launch_104 h (fun V1 h => ?_)
    refine S_iinc dX16_launch_105 rfl rfl rfl ?_
    change Sem g d YX16_launch 108 [(1, 156), (9, 0), (9, 0), (9, 0), (0, x4), (0, x5 + 1)] [] (wr M V1) o
    refine S_goto (tgt := 75) dX16_launch_108 rfl ?_
    exact c0 (x5 + 1, V1) (some_P (P := fun r => P r) h hz)
theorem sl_X16_launch_75 {g : GG} {d : Nat} (hD : 0 ≤ d) {x4 x5 : Int} {M : MM} (hM : LM M) {V : VV} {o : AV × MM} {P : (VV) → Prop} (r0 : ∀ r : VV, P r → o = ((9, 0), (wr M r))) {z : VV} (h : l_X16_launch_75 x4 x5 V = some z) (hz : P z) : Sem g d YX16_launch 75 [(1, 156), (9, 0), (9, 0), (9, 0), (0, x4), (0, x5)] [] (wr M V) o := by
  refine lp_sound (S := fun s : Int × VV => Sem g d YX16_launch 75 [(1, 156), (9, 0), (9, 0), (9, 0), (0, x4), (0, s.1)] [] (wr M s.2) o) (P := P) ?_ FU (x5, V) z h hz
  intro s x hx hP
  exact s_X16_launch_75 hD hM (P := Sum.elim (fun s : Int × VV => Sem g d YX16_launch 75 [(1, 156), (9, 0), (9, 0), (9, 0), (0, x4), (0, s.1)] [] (wr M s.2) o) P) (fun s h => h) (fun s h => r0 s h) hx hP
theorem s_X16_launch_0 {g : GG} {d : Nat} (hD : 0 ≤ d) {x1 x2 x3 : Int} {M : MM} (hM : LM M) {V : VV} {o : AV × MM} {P : (VV) → Prop} (r0 : ∀ r : VV, P r → o = ((9, 0), (wr M r))) {z : VV} (h : f_X16_launch x1 x2 x3 V = some z) (hz : P z) : Sem g d YX16_launch 0 [(1, 156), (0, x1), (0, x2), (0, x3), (9, 0), (9, 0)] [] (wr M V) o := by
  delta f_X16_launch at h
  refine S_aload_n (i := 0) dX16_launch_0 rfl rfl ?_
  refine P2_gfi hM FLX16_464 rfl dX16_launch_1 ?_
  refine S_istore dX16_launch_4 (Nat.le_of_ble_eq_true rfl) rfl rfl ?_
  change Sem g d YX16_launch 6 [(1, 156), (0, x1), (0, x2), (0, x3), (0, w32 (V 156 32)), (9, 0)] [] (wr M V) o
  refine S_aload_n (i := 0) dX16_launch_6 rfl rfl ?_
  refine S_dup dX16_launch_7 (Nat.le_of_ble_eq_true rfl) ?_
  refine P2_gfi hM FLX16_464 rfl dX16_launch_8 ?_
  refine S_iconst dX16_launch_11 rfl ?_
  refine S_iadd dX16_launch_12 ?_
  refine P2_pfi hM FLX16_464 FPX16_464 rfl dX16_launch_13 h (fun V1 h => ?_)
  refine S_aload_n (i := 0) dX16_launch_16 rfl rfl ?_
  refine P2_gfr hM (a := 182) FLX16_88 rfl ⟨rfl, rfl⟩ dX16_launch_17 ?_
  refine S_iload dX16_launch_20 rfl ?_
  refine S_iload_n (i := 1) dX16_launch_22 rfl rfl ?_
  refine P2_sai hM (a := 182) (n := 400) rfl dX16_launch_23 h (fun V2 h => ?_)
  refine S_aload_n (i := 0) dX16_launch_24 rfl rfl ?_
  refine P2_gfr hM (a := 183) FLX16_91 rfl ⟨rfl, rfl⟩ dX16_launch_25 ?_
  refine S_iload dX16_launch_28 rfl ?_
  refine S_iload_n (i := 2) dX16_launch_30 rfl rfl ?_
  refine P2_sai hM (a := 183) (n := 400) rfl dX16_launch_31 h (fun V3 h => ?_)
  refine S_aload_n (i := 0) dX16_launch_32 rfl rfl ?_
  refine P2_gfr hM (a := 184) FLX16_94 rfl ⟨rfl, rfl⟩ dX16_launch_33 ?_
  refine S_iload dX16_launch_36 rfl ?_
  refine S_iload_n (i := 3) dX16_launch_38 rfl rfl ?_
  refine P2_sai hM (a := 184) (n := 400) rfl dX16_launch_39 h (fun V4 h => ?_)
  refine S_aload_n (i := 0) dX16_launch_40 rfl rfl ?_
  refine P2_gfr hM (a := 185) FLX16_97 rfl ⟨rfl, rfl⟩ dX16_launch_41 ?_
  refine S_iload dX16_launch_44 rfl ?_
  refine S_aload_n (i := 0) dX16_launch_46 rfl rfl ?_
  refine P2_gfi hM FLX16_467 rfl dX16_launch_47 ?_
  refine P2_sai hM (a := 185) (n := 400) rfl dX16_launch_50 h (fun V5 h => ?_)
  refine S_aload_n (i := 0) dX16_launch_51 rfl rfl ?_
  refine S_dup dX16_launch_52 (Nat.le_of_ble_eq_true rfl) ?_
  refine P2_gfi hM FLX16_467 rfl dX16_launch_53 ?_
  refine S_iconst dX16_launch_56 rfl ?_
  refine S_iadd dX16_launch_57 ?_
  refine P2_pfi hM FLX16_467 FPX16_467 rfl dX16_launch_58 h (fun V6 h => ?_)
  refine S_aload_n (i := 0) dX16_launch_61 rfl rfl ?_
  refine P2_gfr hM (a := 186) FLX16_100 rfl ⟨rfl, rfl⟩ dX16_launch_62 ?_
  refine S_iload dX16_launch_65 rfl ?_
  refine S_aload_n (i := 0) dX16_launch_67 rfl rfl ?_
  refine P2_gfi hM FLX16_470 rfl dX16_launch_68 ?_
  refine P2_sai hM (a := 186) (n := 400) rfl dX16_launch_71 h (fun V7 h => ?_)
  refine S_iconst dX16_launch_72 rfl ?_
  refine S_istore dX16_launch_73 (Nat.le_of_ble_eq_true rfl) rfl rfl ?_
  change Sem g d YX16_launch 75 [(1, 156), (0, x1), (0, x2), (0, x3), (0, w32 (V 156 32)), (0, 0)] [] (wr M V7) o
  refine S_weak (ls' := [(1, 156), (9, 0), (9, 0), (9, 0), (0, w32 (V 156 32)), (0, 0)]) ⟨Or.inr rfl, ⟨Or.inl rfl, ⟨Or.inl rfl, ⟨Or.inl rfl, ⟨Or.inr rfl, ⟨Or.inr rfl, trivial⟩⟩⟩⟩⟩⟩ ?_
  exact sl_X16_launch_75 hD hM r0 h hz
theorem F_X16_launch {g : GG} {d : Nat} (hD : 0 ≤ d) {x1 x2 x3 : Int} {M : MM} (hM : LM M) {V : VV} {r : VV} (h : f_X16_launch x1 x2 x3 V = some r) : Sem g d YX16_launch 0 (ini YX16_launch [(1, 156), (0, x1), (0, x2), (0, x3)]) [] (wr M V) ((9, 0), (wr M r)) := by
  change Sem g d YX16_launch 0 [(1, 156), (0, x1), (0, x2), (0, x3), (9, 0), (9, 0)] [] (wr M V) ((9, 0), (wr M r))
  exact s_X16_launch_0 hD hM (P := fun x => x = r) (fun q e => by rw [e]) h rfl
/-! PeerSearchModel.forge(II)Z -/
theorem dX16_forge_0 : decode cX16_forge 0 = .ok (.aload_n 0, 1) := by decide +kernel
theorem dX16_forge_1 : decode cX16_forge 1 = .ok (.getfield 387, 3) := by decide +kernel
theorem dX16_forge_4 : decode cX16_forge 4 = .ok (.istore_n 3, 1) := by decide +kernel
theorem dX16_forge_5 : decode cX16_forge 5 = .ok (.aload_n 0, 1) := by decide +kernel
theorem dX16_forge_6 : decode cX16_forge 6 = .ok (.iconst 0, 1) := by decide +kernel
theorem dX16_forge_7 : decode cX16_forge 7 = .ok (.putfield 387, 3) := by decide +kernel
theorem dX16_forge_10 : decode cX16_forge 10 = .ok (.aload_n 0, 1) := by decide +kernel
theorem dX16_forge_11 : decode cX16_forge 11 = .ok (.iload_n 1, 1) := by decide +kernel
theorem dX16_forge_12 : decode cX16_forge 12 = .ok (.invokevirtual 427, 3) := by decide +kernel
theorem dX16_forge_15 : decode cX16_forge 15 = .ok (.ifCond .eq 28, 3) := by decide +kernel
theorem dX16_forge_18 : decode cX16_forge 18 = .ok (.aload_n 0, 1) := by decide +kernel
theorem dX16_forge_19 : decode cX16_forge 19 = .ok (.iload_n 2, 1) := by decide +kernel
theorem dX16_forge_20 : decode cX16_forge 20 = .ok (.invokevirtual 427, 3) := by decide +kernel
theorem dX16_forge_23 : decode cX16_forge 23 = .ok (.ifCond .eq 20, 3) := by decide +kernel
theorem dX16_forge_26 : decode cX16_forge 26 = .ok (.iload_n 3, 1) := by decide +kernel
theorem dX16_forge_27 : decode cX16_forge 27 = .ok (.sipush 460, 3) := by decide +kernel
theorem dX16_forge_30 : decode cX16_forge 30 = .ok (.if_icmp .gt 13, 3) := by decide +kernel
theorem dX16_forge_33 : decode cX16_forge 33 = .ok (.aload_n 0, 1) := by decide +kernel
theorem dX16_forge_34 : decode cX16_forge 34 = .ok (.getfield 464, 3) := by decide +kernel
theorem dX16_forge_37 : decode cX16_forge 37 = .ok (.sipush 400, 3) := by decide +kernel
theorem dX16_forge_40 : decode cX16_forge 40 = .ok (.if_icmp .ne 5, 3) := by decide +kernel
theorem dX16_forge_43 : decode cX16_forge 43 = .ok (.iconst 0, 1) := by decide +kernel
theorem dX16_forge_44 : decode cX16_forge 44 = .ok (.ireturn, 1) := by decide +kernel
theorem dX16_forge_45 : decode cX16_forge 45 = .ok (.iconst 0, 1) := by decide +kernel
theorem dX16_forge_46 : decode cX16_forge 46 = .ok (.istore 4, 2) := by decide +kernel
theorem dX16_forge_48 : decode cX16_forge 48 = .ok (.iload 4, 2) := by decide +kernel
theorem dX16_forge_50 : decode cX16_forge 50 = .ok (.iload_n 3, 1) := by decide +kernel
theorem dX16_forge_51 : decode cX16_forge 51 = .ok (.if_icmp .ge 23, 3) := by decide +kernel
theorem dX16_forge_54 : decode cX16_forge 54 = .ok (.aload_n 0, 1) := by decide +kernel
theorem dX16_forge_55 : decode cX16_forge 55 = .ok (.getfield 107, 3) := by decide +kernel
theorem dX16_forge_58 : decode cX16_forge 58 = .ok (.iload 4, 2) := by decide +kernel
theorem dX16_forge_60 : decode cX16_forge 60 = .ok (.aload_n 0, 1) := by decide +kernel
theorem dX16_forge_61 : decode cX16_forge 61 = .ok (.getfield 13, 3) := by decide +kernel
theorem dX16_forge_64 : decode cX16_forge 64 = .ok (.iload 4, 2) := by decide +kernel
theorem dX16_forge_66 : decode cX16_forge 66 = .ok (.iaload, 1) := by decide +kernel
theorem dX16_forge_67 : decode cX16_forge 67 = .ok (.iastore, 1) := by decide +kernel
theorem dX16_forge_68 : decode cX16_forge 68 = .ok (.iinc 4 1, 3) := by decide +kernel
theorem dX16_forge_71 : decode cX16_forge 71 = .ok (.goto (-23), 3) := by decide +kernel
theorem dX16_forge_74 : decode cX16_forge 74 = .ok (.aload_n 0, 1) := by decide +kernel
theorem dX16_forge_75 : decode cX16_forge 75 = .ok (.iload_n 3, 1) := by decide +kernel
theorem dX16_forge_76 : decode cX16_forge 76 = .ok (.putfield 470, 3) := by decide +kernel
theorem dX16_forge_79 : decode cX16_forge 79 = .ok (.aload_n 0, 1) := by decide +kernel
theorem dX16_forge_80 : decode cX16_forge 80 = .ok (.iload_n 1, 1) := by decide +kernel
theorem dX16_forge_81 : decode cX16_forge 81 = .ok (.iload_n 2, 1) := by decide +kernel
theorem dX16_forge_82 : decode cX16_forge 82 = .ok (.aload_n 0, 1) := by decide +kernel
theorem dX16_forge_83 : decode cX16_forge 83 = .ok (.getfield 483, 3) := by decide +kernel
theorem dX16_forge_86 : decode cX16_forge 86 = .ok (.iconst 1, 1) := by decide +kernel
theorem dX16_forge_87 : decode cX16_forge 87 = .ok (.iadd, 1) := by decide +kernel
theorem dX16_forge_88 : decode cX16_forge 88 = .ok (.invokevirtual 486, 3) := by decide +kernel
theorem dX16_forge_91 : decode cX16_forge 91 = .ok (.iconst 1, 1) := by decide +kernel
theorem dX16_forge_92 : decode cX16_forge 92 = .ok (.ireturn, 1) := by decide +kernel
def j_X16_forge_74 (x1 x2 x3 : Int) (V : VV) : Option (Int × VV) :=
  (p2 41 x3 V).bind fun V1 =>
  (f_X16_launch x1 x2 ((w32 (V1 156 11)) + 1) V1).bind fun V2 =>
  some (1, V2)
def b_X16_forge_48 (x1 x2 x3 x4 : Int) (V : VV) : Option ((Int × VV) ⊕ (Int × VV)) :=
  if w32 x4 < w32 x3 then
    (l2 158 500 x4 V).bind fun v1 =>
    (s2 188 460 x4 v1 V).bind fun V1 =>
    cnt (x4 + 1, V1)
  else
    xit (j_X16_forge_74 x1 x2 x3 V)
def l_X16_forge_48 (x1 x2 x3 x4 : Int) (V : VV) : Option (Int × VV) := lpN (fun s : Int × VV => b_X16_forge_48 x1 x2 x3 s.1 s.2) FU (x4, V)
def j_X16_forge_43 (V : VV) : Option (Int × VV) :=
  some (0, V)
def f_X16_forge (x1 x2 : Int) (V : VV) : Option (Int × VV) :=
  (p2 4 0 V).bind fun V1 =>
  (f_X16_isPeer x1 V1).bind fun v1 =>
  if w32 v1 = 0 then
    j_X16_forge_43 V1
  else
    (f_X16_isPeer x2 V1).bind fun v2 =>
    if w32 v2 = 0 then
      j_X16_forge_43 V1
    else
      if w32 460 < w32 (w32 (V 156 4)) then
        j_X16_forge_43 V1
      else
        if w32 (w32 (V1 156 32)) = w32 400 then
          j_X16_forge_43 V1
        else
          l_X16_forge_48 x1 x2 (w32 (V 156 4)) 0 V1
theorem s_X16_forge_74 {g : GG} {d : Nat} (hD : 1 ≤ d) {x1 x2 x3 : Int} {M : MM} (hM : LM M) {V : VV} {o : AV × MM} {P : (Int × VV) → Prop} (r0 : ∀ r : Int × VV, P r → o = ((0, r.1), (wr M r.2))) {z : Int × VV} (h : j_X16_forge_74 x1 x2 x3 V = some z) (hz : P z) : Sem g d YX16_forge 74 [(1, 156), (0, x1), (0, x2), (0, x3), (9, 0)] [] (wr M V) o := by
  delta j_X16_forge_74 at h
  refine S_aload_n (i := 0) dX16_forge_74 rfl rfl ?_
  refine S_iload_n (i := 3) dX16_forge_75 rfl rfl ?_
  refine P2_pfi hM FLX16_470 FPX16_470 rfl dX16_forge_76 h (fun V1 h => ?_)
  refine S_aload_n (i := 0) dX16_forge_79 rfl rfl ?_
  refine S_iload_n (i := 1) dX16_forge_80 rfl rfl ?_
  refine S_iload_n (i := 2) dX16_forge_81 rfl rfl ?_
  refine S_aload_n (i := 0) dX16_forge_82 rfl rfl ?_
  refine P2_gfi hM FLX16_483 rfl dX16_forge_83 ?_
  refine S_iconst dX16_forge_86 rfl ?_
  refine S_iadd dX16_forge_87 ?_
  refine P2_invVm hM [(0, x1), (0, x2), (0, (w32 (V1 156 11)) + 1)] [] CVX16_launch MLX16_486 dX16_forge_88 rfl rfl rfl rfl (by omega) h (fun r h => F_X16_launch (by omega) hM h) (fun V2 h => ?_)
  refine S_iconst dX16_forge_91 rfl ?_
  obtain rfl := r0 _ (some_P (P := fun r => P r) h hz)
  exact P_ret dX16_forge_92 rfl (Or.inr ⟨rfl, Or.inr rfl⟩)
theorem s_X16_forge_48 {g : GG} {d : Nat} (hD : 1 ≤ d) {x1 x2 x3 x4 : Int} {M : MM} (hM : LM M) {V : VV} {o : AV × MM} {P : ((Int × VV) ⊕ (Int × VV)) → Prop} (c0 : ∀ s : Int × VV, P (.inl s) → Sem g d YX16_forge 48 [(1, 156), (0, x1), (0, x2), (0, x3), (0, s.1)] [] (wr M s.2) o) (r0 : ∀ r : Int × VV, P (.inr r) → o = ((0, r.1), (wr M r.2))) {z : (Int × VV) ⊕ (Int × VV)} (h : b_X16_forge_48 x1 x2 x3 x4 V = some z) (hz : P z) : Sem g d YX16_forge 48 [(1, 156), (0, x1), (0, x2), (0, x3), (0, x4)] [] (wr M V) o := by
  delta b_X16_forge_48 at h
  refine S_iload dX16_forge_48 rfl ?_
  refine S_iload_n (i := 3) dX16_forge_50 rfl rfl ?_
  refine P_icmp_ge (tgt := 74) dX16_forge_51 rfl h (fun h => ?_) (fun h => ?_)
  · refine S_weak (ls' := [(1, 156), (0, x1), (0, x2), (0, x3), (9, 0)]) ⟨Or.inr rfl, ⟨Or.inr rfl, ⟨Or.inr rfl, ⟨Or.inr rfl, ⟨Or.inl rfl, trivial⟩⟩⟩⟩⟩ ?_
    obtain ⟨z0, h, hz⟩ := xit_some' (P := fun r => P r) h hz
    exact s_X16_forge_74 hD hM (P := fun r => P (.inr r)) r0 h hz
  · refine S_aload_n (i := 0) dX16_forge_54 rfl rfl ?_
    refine P2_gfr hM (a := 188) FLX16_107 rfl ⟨rfl, rfl⟩ dX16_forge_55 ?_
    refine S_iload dX16_forge_58 rfl ?_
    refine S_aload_n (i := 0) dX16_forge_60 rfl rfl ?_
    refine P2_gfr hM (a := 158) FLX16_13 rfl ⟨rfl, rfl⟩ dX16_forge_61 ?_
    refine S_iload dX16_forge_64 rfl ?_
    refine P2_lai hM (a := 158) (n := 500) rfl dX16_forge_66 h (fun v1 h => ?_)
    refine P2_sai hM (a := 188) (n := 460) rfl dX16_forge_67 h (fun V1 h => ?_)
    refine S_iinc dX16_forge_68 rfl rfl rfl ?_
    change Sem g d YX16_forge 71 [(1, 156), (0, x1), (0, x2), (0, x3), (0, x4 + 1)] [] (wr M V1) o
    refine S_goto (tgt := 48) dX16_forge_71 rfl ?_
    exact c0 (x4 + 1, V1) (some_P (P := fun r => P r) h hz)
theorem sl_X16_forge_48 {g : GG} {d : Nat} (hD : 1 ≤ d) {x1 x2 x3 x4 : Int} {M : MM} (hM : LM M) {V : VV} {o : AV × MM} {P : (Int × VV) → Prop} (r0 : ∀ r : Int × VV, P r → o = ((0, r.1), (wr M r.2))) {z : Int × VV} (h : l_X16_forge_48 x1 x2 x3 x4 V = some z) (hz : P z) : Sem g d YX16_forge 48 [(1, 156), (0, x1), (0, x2), (0, x3), (0, x4)] [] (wr M V) o := by
  refine lp_sound (S := fun s : Int × VV => Sem g d YX16_forge 48 [(1, 156), (0, x1), (0, x2), (0, x3), (0, s.1)] [] (wr M s.2) o) (P := P) ?_ FU (x4, V) z h hz
  intro s x hx hP
  exact s_X16_forge_48 hD hM (P := Sum.elim (fun s : Int × VV => Sem g d YX16_forge 48 [(1, 156), (0, x1), (0, x2), (0, x3), (0, s.1)] [] (wr M s.2) o) P) (fun s h => h) (fun s h => r0 s h) hx hP
theorem s_X16_forge_43 {g : GG} {d : Nat} (hD : 1 ≤ d) {M : MM} (hM : LM M) {V : VV} {o : AV × MM} {P : (Int × VV) → Prop} (r0 : ∀ r : Int × VV, P r → o = ((0, r.1), (wr M r.2))) {z : Int × VV} (h : j_X16_forge_43 V = some z) (hz : P z) : Sem g d YX16_forge 43 [(9, 0), (9, 0), (9, 0), (9, 0), (9, 0)] [] (wr M V) o := by
  delta j_X16_forge_43 at h
  refine S_iconst dX16_forge_43 rfl ?_
  obtain rfl := r0 _ (some_P (P := fun r => P r) h hz)
  exact P_ret dX16_forge_44 rfl (Or.inr ⟨rfl, Or.inl rfl⟩)
theorem s_X16_forge_0 {g : GG} {d : Nat} (hD : 1 ≤ d) {x1 x2 : Int} {M : MM} (hM : LM M) {V : VV} {o : AV × MM} {P : (Int × VV) → Prop} (r0 : ∀ r : Int × VV, P r → o = ((0, r.1), (wr M r.2))) {z : Int × VV} (h : f_X16_forge x1 x2 V = some z) (hz : P z) : Sem g d YX16_forge 0 [(1, 156), (0, x1), (0, x2), (9, 0), (9, 0)] [] (wr M V) o := by
  delta f_X16_forge at h
  refine S_aload_n (i := 0) dX16_forge_0 rfl rfl ?_
  refine P2_gfi hM FLX16_387 rfl dX16_forge_1 ?_
  refine S_istore_n (i := 3) dX16_forge_4 rfl (Nat.le_of_ble_eq_true rfl) rfl rfl ?_
  change Sem g d YX16_forge 5 [(1, 156), (0, x1), (0, x2), (0, w32 (V 156 4)), (9, 0)] [] (wr M V) o
  refine S_aload_n (i := 0) dX16_forge_5 rfl rfl ?_
  refine S_iconst dX16_forge_6 rfl ?_
  refine P2_pfi hM FLX16_387 FPX16_387 rfl dX16_forge_7 h (fun V1 h => ?_)
  refine S_aload_n (i := 0) dX16_forge_10 rfl rfl ?_
  refine S_iload_n (i := 1) dX16_forge_11 rfl rfl ?_
  refine P2_invVp hM 0 [(0, x1)] [] CVX16_isPeer MLX16_427 dX16_forge_12 rfl rfl rfl rfl rfl (by omega) h (fun r h => F_X16_isPeer (by omega) hM h) (fun v1 h => ?_)
  refine P_if_eq (tgt := 43) dX16_forge_15 rfl h (fun h => ?_) (fun h => ?_)
  · refine S_weak (ls' := [(9, 0), (9, 0), (9, 0), (9, 0), (9, 0)]) ⟨Or.inl rfl, ⟨Or.inl rfl, ⟨Or.inl rfl, ⟨Or.inl rfl, ⟨Or.inl rfl, trivial⟩⟩⟩⟩⟩ ?_
    exact s_X16_forge_43 hD hM r0 h hz
  · refine S_aload_n (i := 0) dX16_forge_18 rfl rfl ?_
    refine S_iload_n (i := 2) dX16_forge_19 rfl rfl ?_
    refine P2_invVp hM 0 [(0, x2)] [] CVX16_isPeer MLX16_427 dX16_forge_20 rfl rfl rfl rfl rfl (by omega) h (fun r h => F_X16_isPeer (by omega) hM h) (fun v2 h => ?_)
    refine P_if_eq (tgt := 43) dX16_forge_23 rfl h (fun h => ?_) (fun h => ?_)
    · refine S_weak (ls' := [(9, 0), (9, 0), (9, 0), (9, 0), (9, 0)]) ⟨Or.inl rfl, ⟨Or.inl rfl, ⟨Or.inl rfl, ⟨Or.inl rfl, ⟨Or.inl rfl, trivial⟩⟩⟩⟩⟩ ?_
      exact s_X16_forge_43 hD hM r0 h hz
    · refine S_iload_n (i := 3) dX16_forge_26 rfl rfl ?_
      refine S_sipush (z := 460) dX16_forge_27 rfl ?_
      refine P_icmp_gt (tgt := 43) dX16_forge_30 rfl h (fun h => ?_) (fun h => ?_)
      · refine S_weak (ls' := [(9, 0), (9, 0), (9, 0), (9, 0), (9, 0)]) ⟨Or.inl rfl, ⟨Or.inl rfl, ⟨Or.inl rfl, ⟨Or.inl rfl, ⟨Or.inl rfl, trivial⟩⟩⟩⟩⟩ ?_
        exact s_X16_forge_43 hD hM r0 h hz
      · refine S_aload_n (i := 0) dX16_forge_33 rfl rfl ?_
        refine P2_gfi hM FLX16_464 rfl dX16_forge_34 ?_
        refine S_sipush (z := 400) dX16_forge_37 rfl ?_
        refine P_icmp_ne (tgt := 45) dX16_forge_40 rfl h (fun h => ?_) (fun h => ?_)
        · refine S_iconst dX16_forge_45 rfl ?_
          refine S_istore dX16_forge_46 (Nat.le_of_ble_eq_true rfl) rfl rfl ?_
          change Sem g d YX16_forge 48 [(1, 156), (0, x1), (0, x2), (0, w32 (V 156 4)), (0, 0)] [] (wr M V1) o
          exact sl_X16_forge_48 hD hM r0 h hz
        · refine S_weak (ls' := [(9, 0), (9, 0), (9, 0), (9, 0), (9, 0)]) ⟨Or.inl rfl, ⟨Or.inl rfl, ⟨Or.inl rfl, ⟨Or.inl rfl, ⟨Or.inl rfl, trivial⟩⟩⟩⟩⟩ ?_
          exact s_X16_forge_43 hD hM r0 h hz
theorem F_X16_forge {g : GG} {d : Nat} (hD : 1 ≤ d) {x1 x2 : Int} {M : MM} (hM : LM M) {V : VV} {r : Int × VV} (h : f_X16_forge x1 x2 V = some r) : Sem g d YX16_forge 0 (ini YX16_forge [(1, 156), (0, x1), (0, x2)]) [] (wr M V) ((0, r.1), (wr M r.2)) := by
  change Sem g d YX16_forge 0 [(1, 156), (0, x1), (0, x2), (9, 0), (9, 0)] [] (wr M V) ((0, r.1), (wr M r.2))
  exact s_X16_forge_0 hD hM (P := fun x => x = r) (fun q e => by rw [e]) h rfl
/-! PeerSearchModel.found(III)I -/
theorem dX16_found_0 : decode cX16_found 0 = .ok (.iload_n 1, 1) := by decide +kernel
theorem dX16_found_1 : decode cX16_found 1 = .ok (.ifCond .lt 19, 3) := by decide +kernel
theorem dX16_found_4 : decode cX16_found 4 = .ok (.iload_n 1, 1) := by decide +kernel
theorem dX16_found_5 : decode cX16_found 5 = .ok (.aload_n 0, 1) := by decide +kernel
theorem dX16_found_6 : decode cX16_found 6 = .ok (.getfield 615, 3) := by decide +kernel
theorem dX16_found_9 : decode cX16_found 9 = .ok (.if_icmp .ge 11, 3) := by decide +kernel
theorem dX16_found_12 : decode cX16_found 12 = .ok (.iload_n 2, 1) := by decide +kernel
theorem dX16_found_13 : decode cX16_found 13 = .ok (.ifCond .lt 7, 3) := by decide +kernel
theorem dX16_found_16 : decode cX16_found 16 = .ok (.iload_n 3, 1) := by decide +kernel
theorem dX16_found_17 : decode cX16_found 17 = .ok (.ifCond .ge 5, 3) := by decide +kernel
theorem dX16_found_20 : decode cX16_found 20 = .ok (.iconst 0, 1) := by decide +kernel
theorem dX16_found_21 : decode cX16_found 21 = .ok (.ireturn, 1) := by decide +kernel
theorem dX16_found_22 : decode cX16_found 22 = .ok (.aload_n 0, 1) := by decide +kernel
theorem dX16_found_23 : decode cX16_found 23 = .ok (.getfield 348, 3) := by decide +kernel
theorem dX16_found_26 : decode cX16_found 26 = .ok (.iload_n 1, 1) := by decide +kernel
theorem dX16_found_27 : decode cX16_found 27 = .ok (.iaload, 1) := by decide +kernel
theorem dX16_found_28 : decode cX16_found 28 = .ok (.iconst 1, 1) := by decide +kernel
theorem dX16_found_29 : decode cX16_found 29 = .ok (.if_icmp .ne 13, 3) := by decide +kernel
theorem dX16_found_32 : decode cX16_found 32 = .ok (.iload_n 2, 1) := by decide +kernel
theorem dX16_found_33 : decode cX16_found 33 = .ok (.aload_n 0, 1) := by decide +kernel
theorem dX16_found_34 : decode cX16_found 34 = .ok (.getfield 354, 3) := by decide +kernel
theorem dX16_found_37 : decode cX16_found 37 = .ok (.iload_n 1, 1) := by decide +kernel
theorem dX16_found_38 : decode cX16_found 38 = .ok (.iaload, 1) := by decide +kernel
theorem dX16_found_39 : decode cX16_found 39 = .ok (.if_icmp .lt 5, 3) := by decide +kernel
theorem dX16_found_42 : decode cX16_found 42 = .ok (.iconst 0, 1) := by decide +kernel
theorem dX16_found_43 : decode cX16_found 43 = .ok (.ireturn, 1) := by decide +kernel
theorem dX16_found_44 : decode cX16_found 44 = .ok (.aload_n 0, 1) := by decide +kernel
theorem dX16_found_45 : decode cX16_found 45 = .ok (.getfield 342, 3) := by decide +kernel
theorem dX16_found_48 : decode cX16_found 48 = .ok (.iload_n 1, 1) := by decide +kernel
theorem dX16_found_49 : decode cX16_found 49 = .ok (.iaload, 1) := by decide +kernel
theorem dX16_found_50 : decode cX16_found 50 = .ok (.iconst 1, 1) := by decide +kernel
theorem dX16_found_51 : decode cX16_found 51 = .ok (.if_icmp .ne 31, 3) := by decide +kernel
theorem dX16_found_54 : decode cX16_found 54 = .ok (.iload_n 3, 1) := by decide +kernel
theorem dX16_found_55 : decode cX16_found 55 = .ok (.bipush 6, 2) := by decide +kernel
theorem dX16_found_57 : decode cX16_found 57 = .ok (.if_icmp .ge 23, 3) := by decide +kernel
theorem dX16_found_60 : decode cX16_found 60 = .ok (.aload_n 0, 1) := by decide +kernel
theorem dX16_found_61 : decode cX16_found 61 = .ok (.getfield 358, 3) := by decide +kernel
theorem dX16_found_64 : decode cX16_found 64 = .ok (.sipush 180, 3) := by decide +kernel
theorem dX16_found_67 : decode cX16_found 67 = .ok (.iload_n 1, 1) := by decide +kernel
theorem dX16_found_68 : decode cX16_found 68 = .ok (.imul, 1) := by decide +kernel
theorem dX16_found_69 : decode cX16_found 69 = .ok (.bipush 6, 2) := by decide +kernel
theorem dX16_found_71 : decode cX16_found 71 = .ok (.iload_n 2, 1) := by decide +kernel
theorem dX16_found_72 : decode cX16_found 72 = .ok (.imul, 1) := by decide +kernel
theorem dX16_found_73 : decode cX16_found 73 = .ok (.iadd, 1) := by decide +kernel
theorem dX16_found_74 : decode cX16_found 74 = .ok (.iload_n 3, 1) := by decide +kernel
theorem dX16_found_75 : decode cX16_found 75 = .ok (.iadd, 1) := by decide +kernel
theorem dX16_found_76 : decode cX16_found 76 = .ok (.iaload, 1) := by decide +kernel
theorem dX16_found_77 : decode cX16_found 77 = .ok (.goto 4, 3) := by decide +kernel
theorem dX16_found_80 : decode cX16_found 80 = .ok (.iconst 0, 1) := by decide +kernel
theorem dX16_found_81 : decode cX16_found 81 = .ok (.ireturn, 1) := by decide +kernel
theorem dX16_found_82 : decode cX16_found 82 = .ok (.aload_n 0, 1) := by decide +kernel
theorem dX16_found_83 : decode cX16_found 83 = .ok (.getfield 342, 3) := by decide +kernel
theorem dX16_found_86 : decode cX16_found 86 = .ok (.iload_n 1, 1) := by decide +kernel
theorem dX16_found_87 : decode cX16_found 87 = .ok (.iaload, 1) := by decide +kernel
theorem dX16_found_88 : decode cX16_found 88 = .ok (.iconst 3, 1) := by decide +kernel
theorem dX16_found_89 : decode cX16_found 89 = .ok (.if_icmp .ne 27, 3) := by decide +kernel
theorem dX16_found_92 : decode cX16_found 92 = .ok (.iload_n 3, 1) := by decide +kernel
theorem dX16_found_93 : decode cX16_found 93 = .ok (.iconst 3, 1) := by decide +kernel
theorem dX16_found_94 : decode cX16_found 94 = .ok (.if_icmp .ge 22, 3) := by decide +kernel
theorem dX16_found_97 : decode cX16_found 97 = .ok (.aload_n 0, 1) := by decide +kernel
theorem dX16_found_98 : decode cX16_found 98 = .ok (.getfield 358, 3) := by decide +kernel
theorem dX16_found_101 : decode cX16_found 101 = .ok (.sipush 180, 3) := by decide +kernel
theorem dX16_found_104 : decode cX16_found 104 = .ok (.iload_n 1, 1) := by decide +kernel
theorem dX16_found_105 : decode cX16_found 105 = .ok (.imul, 1) := by decide +kernel
theorem dX16_found_106 : decode cX16_found 106 = .ok (.iconst 3, 1) := by decide +kernel
theorem dX16_found_107 : decode cX16_found 107 = .ok (.iload_n 2, 1) := by decide +kernel
theorem dX16_found_108 : decode cX16_found 108 = .ok (.imul, 1) := by decide +kernel
theorem dX16_found_109 : decode cX16_found 109 = .ok (.iadd, 1) := by decide +kernel
theorem dX16_found_110 : decode cX16_found 110 = .ok (.iload_n 3, 1) := by decide +kernel
theorem dX16_found_111 : decode cX16_found 111 = .ok (.iadd, 1) := by decide +kernel
theorem dX16_found_112 : decode cX16_found 112 = .ok (.iaload, 1) := by decide +kernel
theorem dX16_found_113 : decode cX16_found 113 = .ok (.goto 4, 3) := by decide +kernel
theorem dX16_found_116 : decode cX16_found 116 = .ok (.iconst 0, 1) := by decide +kernel
theorem dX16_found_117 : decode cX16_found 117 = .ok (.ireturn, 1) := by decide +kernel
def j_X16_found_117 (y0 : Int) (V : VV) : Option (Int) :=
  some y0
def j_X16_found_116 (V : VV) : Option (Int) :=
  j_X16_found_117 0 V
def j_X16_found_81 (y0 : Int) (V : VV) : Option (Int) :=
  some y0
def j_X16_found_42 (V : VV) : Option (Int) :=
  some 0
def j_X16_found_20 (V : VV) : Option (Int) :=
  some 0
def f_X16_found (x1 x2 x3 : Int) (V : VV) : Option (Int) :=
  if w32 x1 < 0 then
    j_X16_found_20 V
  else
    if w32 x1 < w32 (w32 (V 156 91)) then
      if w32 x2 < 0 then
        j_X16_found_20 V
      else
        if w32 x3 < 0 then
          j_X16_found_20 V
        else
          (l2 267 256 x1 V).bind fun v1 =>
          if w32 v1 = w32 1 then
            (l2 269 256 x1 V).bind fun v2 =>
            if w32 x2 < w32 v2 then
              (l2 265 256 x1 V).bind fun v3 =>
              if w32 v3 = w32 1 then
                if w32 x3 < w32 6 then
                  (l2 270 46080 (((180 * x1) + (6 * x2)) + x3) V).bind fun v6 =>
                  j_X16_found_81 v6 V
                else
                  j_X16_found_81 0 V
              else
                (l2 265 256 x1 V).bind fun v4 =>
                if w32 v4 = w32 3 then
                  if w32 x3 < w32 3 then
                    (l2 270 46080 (((180 * x1) + (3 * x2)) + x3) V).bind fun v5 =>
                    j_X16_found_117 v5 V
                  else
                    j_X16_found_116 V
                else
                  j_X16_found_116 V
            else
              j_X16_found_42 V
          else
            j_X16_found_42 V
    else
      j_X16_found_20 V
theorem s_X16_found_117 {g : GG} {d : Nat} (hD : 0 ≤ d) {y0 : Int} {M : MM} (hM : LM M) {V : VV} {o : AV × MM} {P : (Int) → Prop} (r0 : ∀ r : Int, P r → o = ((0, r), (wr M V))) {z : Int} (h : j_X16_found_117 y0 V = some z) (hz : P z) : Sem g d YX16_found 117 [(9, 0), (9, 0), (9, 0), (9, 0)] [(0, y0)] (wr M V) o := by
  delta j_X16_found_117 at h
  obtain rfl := r0 _ (some_P (P := fun r => P r) h hz)
  exact P_ret dX16_found_117 rfl (Or.inl rfl)
theorem s_X16_found_116 {g : GG} {d : Nat} (hD : 0 ≤ d) {M : MM} (hM : LM M) {V : VV} {o : AV × MM} {P : (Int) → Prop} (r0 : ∀ r : Int, P r → o = ((0, r), (wr M V))) {z : Int} (h : j_X16_found_116 V = some z) (hz : P z) : Sem g d YX16_found 116 [(9, 0), (9, 0), (9, 0), (9, 0)] [] (wr M V) o := by
  delta j_X16_found_116 at h
  refine S_iconst dX16_found_116 rfl ?_
  exact s_X16_found_117 hD hM r0 h hz
theorem s_X16_found_81 {g : GG} {d : Nat} (hD : 0 ≤ d) {y0 : Int} {M : MM} (hM : LM M) {V : VV} {o : AV × MM} {P : (Int) → Prop} (r0 : ∀ r : Int, P r → o = ((0, r), (wr M V))) {z : Int} (h : j_X16_found_81 y0 V = some z) (hz : P z) : Sem g d YX16_found 81 [(9, 0), (9, 0), (9, 0), (9, 0)] [(0, y0)] (wr M V) o := by
  delta j_X16_found_81 at h
  obtain rfl := r0 _ (some_P (P := fun r => P r) h hz)
  exact P_ret dX16_found_81 rfl (Or.inl rfl)
theorem s_X16_found_42 {g : GG} {d : Nat} (hD : 0 ≤ d) {M : MM} (hM : LM M) {V : VV} {o : AV × MM} {P : (Int) → Prop} (r0 : ∀ r : Int, P r → o = ((0, r), (wr M V))) {z : Int} (h : j_X16_found_42 V = some z) (hz : P z) : Sem g d YX16_found 42 [(9, 0), (9, 0), (9, 0), (9, 0)] [] (wr M V) o := by
  delta j_X16_found_42 at h
  refine S_iconst dX16_found_42 rfl ?_
  obtain rfl := r0 _ (some_P (P := fun r => P r) h hz)
  exact P_ret dX16_found_43 rfl (Or.inl rfl)
theorem s_X16_found_20 {g : GG} {d : Nat} (hD : 0 ≤ d) {M : MM} (hM : LM M) {V : VV} {o : AV × MM} {P : (Int) → Prop} (r0 : ∀ r : Int, P r → o = ((0, r), (wr M V))) {z : Int} (h : j_X16_found_20 V = some z) (hz : P z) : Sem g d YX16_found 20 [(9, 0), (9, 0), (9, 0), (9, 0)] [] (wr M V) o := by
  delta j_X16_found_20 at h
  refine S_iconst dX16_found_20 rfl ?_
  obtain rfl := r0 _ (some_P (P := fun r => P r) h hz)
  exact P_ret dX16_found_21 rfl (Or.inl rfl)
theorem s_X16_found_0 {g : GG} {d : Nat} (hD : 0 ≤ d) {x1 x2 x3 : Int} {M : MM} (hM : LM M) {V : VV} {o : AV × MM} {P : (Int) → Prop} (r0 : ∀ r : Int, P r → o = ((0, r), (wr M V))) {z : Int} (h : f_X16_found x1 x2 x3 V = some z) (hz : P z) : Sem g d YX16_found 0 [(1, 156), (0, x1), (0, x2), (0, x3)] [] (wr M V) o := by
  delta f_X16_found at h
  refine S_iload_n (i := 1) dX16_found_0 rfl rfl ?_
  refine P_if_lt (tgt := 20) dX16_found_1 rfl h (fun h => ?_) (fun h => ?_)
  · refine S_weak (ls' := [(9, 0), (9, 0), (9, 0), (9, 0)]) ⟨Or.inl rfl, ⟨Or.inl rfl, ⟨Or.inl rfl, ⟨Or.inl rfl, trivial⟩⟩⟩⟩ ?_
    exact s_X16_found_20 hD hM r0 h hz
  · refine S_iload_n (i := 1) dX16_found_4 rfl rfl ?_
    refine S_aload_n (i := 0) dX16_found_5 rfl rfl ?_
    refine P2_gfi hM FLX16_615 rfl dX16_found_6 ?_
    refine P_icmp_ge (tgt := 20) dX16_found_9 rfl h (fun h => ?_) (fun h => ?_)
    · refine S_weak (ls' := [(9, 0), (9, 0), (9, 0), (9, 0)]) ⟨Or.inl rfl, ⟨Or.inl rfl, ⟨Or.inl rfl, ⟨Or.inl rfl, trivial⟩⟩⟩⟩ ?_
      exact s_X16_found_20 hD hM r0 h hz
    · refine S_iload_n (i := 2) dX16_found_12 rfl rfl ?_
      refine P_if_lt (tgt := 20) dX16_found_13 rfl h (fun h => ?_) (fun h => ?_)
      · refine S_weak (ls' := [(9, 0), (9, 0), (9, 0), (9, 0)]) ⟨Or.inl rfl, ⟨Or.inl rfl, ⟨Or.inl rfl, ⟨Or.inl rfl, trivial⟩⟩⟩⟩ ?_
        exact s_X16_found_20 hD hM r0 h hz
      · refine S_iload_n (i := 3) dX16_found_16 rfl rfl ?_
        refine P_if_ge (tgt := 22) dX16_found_17 rfl h (fun h => ?_) (fun h => ?_)
        · refine S_aload_n (i := 0) dX16_found_22 rfl rfl ?_
          refine P2_gfr hM (a := 267) FLX16_348 rfl ⟨rfl, rfl⟩ dX16_found_23 ?_
          refine S_iload_n (i := 1) dX16_found_26 rfl rfl ?_
          refine P2_lai hM (a := 267) (n := 256) rfl dX16_found_27 h (fun v1 h => ?_)
          refine S_iconst dX16_found_28 rfl ?_
          refine P_icmp_ne (tgt := 42) dX16_found_29 rfl h (fun h => ?_) (fun h => ?_)
          · refine S_weak (ls' := [(9, 0), (9, 0), (9, 0), (9, 0)]) ⟨Or.inl rfl, ⟨Or.inl rfl, ⟨Or.inl rfl, ⟨Or.inl rfl, trivial⟩⟩⟩⟩ ?_
            exact s_X16_found_42 hD hM r0 h hz
          · refine S_iload_n (i := 2) dX16_found_32 rfl rfl ?_
            refine S_aload_n (i := 0) dX16_found_33 rfl rfl ?_
            refine P2_gfr hM (a := 269) FLX16_354 rfl ⟨rfl, rfl⟩ dX16_found_34 ?_
            refine S_iload_n (i := 1) dX16_found_37 rfl rfl ?_
            refine P2_lai hM (a := 269) (n := 256) rfl dX16_found_38 h (fun v2 h => ?_)
            refine P_icmp_lt (tgt := 44) dX16_found_39 rfl h (fun h => ?_) (fun h => ?_)
            · refine S_aload_n (i := 0) dX16_found_44 rfl rfl ?_
              refine P2_gfr hM (a := 265) FLX16_342 rfl ⟨rfl, rfl⟩ dX16_found_45 ?_
              refine S_iload_n (i := 1) dX16_found_48 rfl rfl ?_
              refine P2_lai hM (a := 265) (n := 256) rfl dX16_found_49 h (fun v3 h => ?_)
              refine S_iconst dX16_found_50 rfl ?_
              refine P_icmp_ne (tgt := 82) dX16_found_51 rfl h (fun h => ?_) (fun h => ?_)
              · refine S_aload_n (i := 0) dX16_found_82 rfl rfl ?_
                refine P2_gfr hM (a := 265) FLX16_342 rfl ⟨rfl, rfl⟩ dX16_found_83 ?_
                refine S_iload_n (i := 1) dX16_found_86 rfl rfl ?_
                refine P2_lai hM (a := 265) (n := 256) rfl dX16_found_87 h (fun v4 h => ?_)
                refine S_iconst dX16_found_88 rfl ?_
                refine P_icmp_ne (tgt := 116) dX16_found_89 rfl h (fun h => ?_) (fun h => ?_)
                · refine S_weak (ls' := [(9, 0), (9, 0), (9, 0), (9, 0)]) ⟨Or.inl rfl, ⟨Or.inl rfl, ⟨Or.inl rfl, ⟨Or.inl rfl, trivial⟩⟩⟩⟩ ?_
                  exact s_X16_found_116 hD hM r0 h hz
                · refine S_iload_n (i := 3) dX16_found_92 rfl rfl ?_
                  refine S_iconst dX16_found_93 rfl ?_
                  refine P_icmp_ge (tgt := 116) dX16_found_94 rfl h (fun h => ?_) (fun h => ?_)
                  · refine S_weak (ls' := [(9, 0), (9, 0), (9, 0), (9, 0)]) ⟨Or.inl rfl, ⟨Or.inl rfl, ⟨Or.inl rfl, ⟨Or.inl rfl, trivial⟩⟩⟩⟩ ?_
                    exact s_X16_found_116 hD hM r0 h hz
                  · refine S_aload_n (i := 0) dX16_found_97 rfl rfl ?_
                    refine P2_gfr hM (a := 270) FLX16_358 rfl ⟨rfl, rfl⟩ dX16_found_98 ?_
                    refine S_sipush (z := 180) dX16_found_101 rfl ?_
                    refine S_iload_n (i := 1) dX16_found_104 rfl rfl ?_
                    refine S_imul dX16_found_105 ?_
                    refine S_iconst dX16_found_106 rfl ?_
                    refine S_iload_n (i := 2) dX16_found_107 rfl rfl ?_
                    refine S_imul dX16_found_108 ?_
                    refine S_iadd dX16_found_109 ?_
                    refine S_iload_n (i := 3) dX16_found_110 rfl rfl ?_
                    refine S_iadd dX16_found_111 ?_
                    refine P2_lai hM (a := 270) (n := 46080) rfl dX16_found_112 h (fun v5 h => ?_)
                    refine S_goto (tgt := 117) dX16_found_113 rfl ?_
                    refine S_weak (ls' := [(9, 0), (9, 0), (9, 0), (9, 0)]) ⟨Or.inl rfl, ⟨Or.inl rfl, ⟨Or.inl rfl, ⟨Or.inl rfl, trivial⟩⟩⟩⟩ ?_
                    exact s_X16_found_117 hD hM r0 h hz
              · refine S_iload_n (i := 3) dX16_found_54 rfl rfl ?_
                refine S_bipush (z := 6) dX16_found_55 rfl ?_
                refine P_icmp_ge (tgt := 80) dX16_found_57 rfl h (fun h => ?_) (fun h => ?_)
                · refine S_iconst dX16_found_80 rfl ?_
                  refine S_weak (ls' := [(9, 0), (9, 0), (9, 0), (9, 0)]) ⟨Or.inl rfl, ⟨Or.inl rfl, ⟨Or.inl rfl, ⟨Or.inl rfl, trivial⟩⟩⟩⟩ ?_
                  exact s_X16_found_81 hD hM r0 h hz
                · refine S_aload_n (i := 0) dX16_found_60 rfl rfl ?_
                  refine P2_gfr hM (a := 270) FLX16_358 rfl ⟨rfl, rfl⟩ dX16_found_61 ?_
                  refine S_sipush (z := 180) dX16_found_64 rfl ?_
                  refine S_iload_n (i := 1) dX16_found_67 rfl rfl ?_
                  refine S_imul dX16_found_68 ?_
                  refine S_bipush (z := 6) dX16_found_69 rfl ?_
                  refine S_iload_n (i := 2) dX16_found_71 rfl rfl ?_
                  refine S_imul dX16_found_72 ?_
                  refine S_iadd dX16_found_73 ?_
                  refine S_iload_n (i := 3) dX16_found_74 rfl rfl ?_
                  refine S_iadd dX16_found_75 ?_
                  refine P2_lai hM (a := 270) (n := 46080) rfl dX16_found_76 h (fun v6 h => ?_)
                  refine S_goto (tgt := 81) dX16_found_77 rfl ?_
                  refine S_weak (ls' := [(9, 0), (9, 0), (9, 0), (9, 0)]) ⟨Or.inl rfl, ⟨Or.inl rfl, ⟨Or.inl rfl, ⟨Or.inl rfl, trivial⟩⟩⟩⟩ ?_
                  exact s_X16_found_81 hD hM r0 h hz
            · refine S_weak (ls' := [(9, 0), (9, 0), (9, 0), (9, 0)]) ⟨Or.inl rfl, ⟨Or.inl rfl, ⟨Or.inl rfl, ⟨Or.inl rfl, trivial⟩⟩⟩⟩ ?_
              exact s_X16_found_42 hD hM r0 h hz
        · refine S_weak (ls' := [(9, 0), (9, 0), (9, 0), (9, 0)]) ⟨Or.inl rfl, ⟨Or.inl rfl, ⟨Or.inl rfl, ⟨Or.inl rfl, trivial⟩⟩⟩⟩ ?_
          exact s_X16_found_20 hD hM r0 h hz
theorem F_X16_found {g : GG} {d : Nat} (hD : 0 ≤ d) {x1 x2 x3 : Int} {M : MM} (hM : LM M) {V : VV} {r : Int} (h : f_X16_found x1 x2 x3 V = some r) : Sem g d YX16_found 0 (ini YX16_found [(1, 156), (0, x1), (0, x2), (0, x3)]) [] (wr M V) ((0, r), (wr M V)) := by
  change Sem g d YX16_found 0 [(1, 156), (0, x1), (0, x2), (0, x3)] [] (wr M V) ((0, r), (wr M V))
  exact s_X16_found_0 hD hM (P := fun x => x = r) (fun q e => by rw [e]) h rfl
/-! PeerSearchModel.hashTape()V -/
theorem dX16_hashTape_0 : decode cX16_hashTape 0 = .ok (.iconst 0, 1) := by decide +kernel
theorem dX16_hashTape_1 : decode cX16_hashTape 1 = .ok (.istore_n 1, 1) := by decide +kernel
theorem dX16_hashTape_2 : decode cX16_hashTape 2 = .ok (.iload_n 1, 1) := by decide +kernel
theorem dX16_hashTape_3 : decode cX16_hashTape 3 = .ok (.aload_n 0, 1) := by decide +kernel
theorem dX16_hashTape_4 : decode cX16_hashTape 4 = .ok (.getfield 387, 3) := by decide +kernel
theorem dX16_hashTape_7 : decode cX16_hashTape 7 = .ok (.if_icmp .ge 21, 3) := by decide +kernel
theorem dX16_hashTape_10 : decode cX16_hashTape 10 = .ok (.aload_n 0, 1) := by decide +kernel
theorem dX16_hashTape_11 : decode cX16_hashTape 11 = .ok (.getfield 16, 3) := by decide +kernel
theorem dX16_hashTape_14 : decode cX16_hashTape 14 = .ok (.iload_n 1, 1) := by decide +kernel
theorem dX16_hashTape_15 : decode cX16_hashTape 15 = .ok (.aload_n 0, 1) := by decide +kernel
theorem dX16_hashTape_16 : decode cX16_hashTape 16 = .ok (.getfield 13, 3) := by decide +kernel
theorem dX16_hashTape_19 : decode cX16_hashTape 19 = .ok (.iload_n 1, 1) := by decide +kernel
theorem dX16_hashTape_20 : decode cX16_hashTape 20 = .ok (.iaload, 1) := by decide +kernel
theorem dX16_hashTape_21 : decode cX16_hashTape 21 = .ok (.iastore, 1) := by decide +kernel
theorem dX16_hashTape_22 : decode cX16_hashTape 22 = .ok (.iinc 1 1, 3) := by decide +kernel
theorem dX16_hashTape_25 : decode cX16_hashTape 25 = .ok (.goto (-23), 3) := by decide +kernel
theorem dX16_hashTape_28 : decode cX16_hashTape 28 = .ok (.aload_n 0, 1) := by decide +kernel
theorem dX16_hashTape_29 : decode cX16_hashTape 29 = .ok (.aload_n 0, 1) := by decide +kernel
theorem dX16_hashTape_30 : decode cX16_hashTape 30 = .ok (.getfield 387, 3) := by decide +kernel
theorem dX16_hashTape_33 : decode cX16_hashTape 33 = .ok (.invokevirtual 407, 3) := by decide +kernel
theorem dX16_hashTape_36 : decode cX16_hashTape 36 = .ok (.return_, 1) := by decide +kernel
def j_X16_hashTape_28 (V : VV) : Option (VV) :=
  (f_X16_sha (w32 (V 156 4)) V).bind fun V1 =>
  some V1
def b_X16_hashTape_2 (x1 : Int) (V : VV) : Option ((Int × VV) ⊕ (VV)) :=
  if w32 x1 < w32 (w32 (V 156 4)) then
    (l2 158 500 x1 V).bind fun v1 =>
    (s2 159 576 x1 v1 V).bind fun V1 =>
    cnt (x1 + 1, V1)
  else
    xit (j_X16_hashTape_28 V)
def l_X16_hashTape_2 (x1 : Int) (V : VV) : Option (VV) := lpN (fun s : Int × VV => b_X16_hashTape_2 s.1 s.2) FU (x1, V)
def f_X16_hashTape (V : VV) : Option (VV) :=
  l_X16_hashTape_2 0 V
theorem s_X16_hashTape_28 {g : GG} {d : Nat} (hD : 3 ≤ d) {M : MM} (hM : LM M) {V : VV} {o : AV × MM} {P : (VV) → Prop} (r0 : ∀ r : VV, P r → o = ((9, 0), (wr M r))) {z : VV} (h : j_X16_hashTape_28 V = some z) (hz : P z) : Sem g d YX16_hashTape 28 [(1, 156), (9, 0)] [] (wr M V) o := by
  delta j_X16_hashTape_28 at h
  refine S_aload_n (i := 0) dX16_hashTape_28 rfl rfl ?_
  refine S_aload_n (i := 0) dX16_hashTape_29 rfl rfl ?_
  refine P2_gfi hM FLX16_387 rfl dX16_hashTape_30 ?_
  refine P2_invVm hM [(0, w32 (V 156 4))] [] CVX16_sha MLX16_407 dX16_hashTape_33 rfl rfl rfl rfl (by omega) h (fun r h => F_X16_sha (by omega) hM h) (fun V1 h => ?_)
  obtain rfl := r0 _ (some_P (P := fun r => P r) h hz)
  exact S_return dX16_hashTape_36 rfl
theorem s_X16_hashTape_2 {g : GG} {d : Nat} (hD : 3 ≤ d) {x1 : Int} {M : MM} (hM : LM M) {V : VV} {o : AV × MM} {P : ((Int × VV) ⊕ (VV)) → Prop} (c0 : ∀ s : Int × VV, P (.inl s) → Sem g d YX16_hashTape 2 [(1, 156), (0, s.1)] [] (wr M s.2) o) (r0 : ∀ r : VV, P (.inr r) → o = ((9, 0), (wr M r))) {z : (Int × VV) ⊕ (VV)} (h : b_X16_hashTape_2 x1 V = some z) (hz : P z) : Sem g d YX16_hashTape 2 [(1, 156), (0, x1)] [] (wr M V) o := by
  delta b_X16_hashTape_2 at h
  refine S_iload_n (i := 1) dX16_hashTape_2 rfl rfl ?_
  refine S_aload_n (i := 0) dX16_hashTape_3 rfl rfl ?_
  refine P2_gfi hM FLX16_387 rfl dX16_hashTape_4 ?_
  refine P_icmp_ge (tgt := 28) dX16_hashTape_7 rfl h (fun h => ?_) (fun h => ?_)
  · refine S_weak (ls' := [(1, 156), (9, 0)]) ⟨Or.inr rfl, ⟨Or.inl rfl, trivial⟩⟩ ?_
    obtain ⟨z0, h, hz⟩ := xit_some' (P := fun r => P r) h hz
    exact s_X16_hashTape_28 hD hM (P := fun r => P (.inr r)) r0 h hz
  · refine S_aload_n (i := 0) dX16_hashTape_10 rfl rfl ?_
    refine P2_gfr hM (a := 159) FLX16_16 rfl ⟨rfl, rfl⟩ dX16_hashTape_11 ?_
    refine S_iload_n (i := 1) dX16_hashTape_14 rfl rfl ?_
    refine S_aload_n (i := 0) dX16_hashTape_15 rfl rfl ?_
    refine P2_gfr hM (a := 158) FLX16_13 rfl ⟨rfl, rfl⟩ dX16_hashTape_16 ?_
    refine S_iload_n (i := 1) dX16_hashTape_19 rfl rfl ?_
    refine P2_lai hM (a := 158) (n := 500) rfl dX16_hashTape_20 h (fun v1 h => ?_)
    refine P2_sai hM (a := 159) (n := 576) rfl dX16_hashTape_21 h (fun V1 h => ?_)
    refine S_iinc dX16_hashTape_22 rfl rfl rfl ?_
    change Sem g d YX16_hashTape 25 [(1, 156), (0, x1 + 1)] [] (wr M V1) o
    refine S_goto (tgt := 2) dX16_hashTape_25 rfl ?_
    exact c0 (x1 + 1, V1) (some_P (P := fun r => P r) h hz)
theorem sl_X16_hashTape_2 {g : GG} {d : Nat} (hD : 3 ≤ d) {x1 : Int} {M : MM} (hM : LM M) {V : VV} {o : AV × MM} {P : (VV) → Prop} (r0 : ∀ r : VV, P r → o = ((9, 0), (wr M r))) {z : VV} (h : l_X16_hashTape_2 x1 V = some z) (hz : P z) : Sem g d YX16_hashTape 2 [(1, 156), (0, x1)] [] (wr M V) o := by
  refine lp_sound (S := fun s : Int × VV => Sem g d YX16_hashTape 2 [(1, 156), (0, s.1)] [] (wr M s.2) o) (P := P) ?_ FU (x1, V) z h hz
  intro s x hx hP
  exact s_X16_hashTape_2 hD hM (P := Sum.elim (fun s : Int × VV => Sem g d YX16_hashTape 2 [(1, 156), (0, s.1)] [] (wr M s.2) o) P) (fun s h => h) (fun s h => r0 s h) hx hP
theorem s_X16_hashTape_0 {g : GG} {d : Nat} (hD : 3 ≤ d) {M : MM} (hM : LM M) {V : VV} {o : AV × MM} {P : (VV) → Prop} (r0 : ∀ r : VV, P r → o = ((9, 0), (wr M r))) {z : VV} (h : f_X16_hashTape V = some z) (hz : P z) : Sem g d YX16_hashTape 0 [(1, 156), (9, 0)] [] (wr M V) o := by
  delta f_X16_hashTape at h
  refine S_iconst dX16_hashTape_0 rfl ?_
  refine S_istore_n (i := 1) dX16_hashTape_1 rfl (Nat.le_of_ble_eq_true rfl) rfl rfl ?_
  change Sem g d YX16_hashTape 2 [(1, 156), (0, 0)] [] (wr M V) o
  exact sl_X16_hashTape_2 hD hM r0 h hz
theorem F_X16_hashTape {g : GG} {d : Nat} (hD : 3 ≤ d) {M : MM} (hM : LM M) {V : VV} {r : VV} (h : f_X16_hashTape V = some r) : Sem g d YX16_hashTape 0 (ini YX16_hashTape [(1, 156)]) [] (wr M V) ((9, 0), (wr M r)) := by
  change Sem g d YX16_hashTape 0 [(1, 156), (9, 0)] [] (wr M V) ((9, 0), (wr M r))
  exact s_X16_hashTape_0 hD hM (P := fun x => x = r) (fun q e => by rw [e]) h rfl
/-! PeerSearchModel.hash(I)I -/
theorem dX16_hash_0 : decode cX16_hash 0 = .ok (.aload_n 0, 1) := by decide +kernel
theorem dX16_hash_1 : decode cX16_hash 1 = .ok (.invokevirtual 431, 3) := by decide +kernel
theorem dX16_hash_4 : decode cX16_hash 4 = .ok (.iload_n 1, 1) := by decide +kernel
theorem dX16_hash_5 : decode cX16_hash 5 = .ok (.ifCond .lt 17, 3) := by decide +kernel
theorem dX16_hash_8 : decode cX16_hash 8 = .ok (.iload_n 1, 1) := by decide +kernel
theorem dX16_hash_9 : decode cX16_hash 9 = .ok (.iconst 5, 1) := by decide +kernel
theorem dX16_hash_10 : decode cX16_hash 10 = .ok (.if_icmp .ge 12, 3) := by decide +kernel
theorem dX16_hash_13 : decode cX16_hash 13 = .ok (.aload_n 0, 1) := by decide +kernel
theorem dX16_hash_14 : decode cX16_hash 14 = .ok (.getfield 22, 3) := by decide +kernel
theorem dX16_hash_17 : decode cX16_hash 17 = .ok (.iload_n 1, 1) := by decide +kernel
theorem dX16_hash_18 : decode cX16_hash 18 = .ok (.iaload, 1) := by decide +kernel
theorem dX16_hash_19 : decode cX16_hash 19 = .ok (.goto 4, 3) := by decide +kernel
theorem dX16_hash_22 : decode cX16_hash 22 = .ok (.iconst 0, 1) := by decide +kernel
theorem dX16_hash_23 : decode cX16_hash 23 = .ok (.ireturn, 1) := by decide +kernel
def j_X16_hash_23 (y0 : Int) (V : VV) : Option (Int × VV) :=
  some (y0, V)
def j_X16_hash_22 (V : VV) : Option (Int × VV) :=
  j_X16_hash_23 0 V
def f_X16_hash (x1 : Int) (V : VV) : Option (Int × VV) :=
  (f_X16_hashTape V).bind fun V1 =>
  if w32 x1 < 0 then
    j_X16_hash_22 V1
  else
    if w32 x1 < w32 5 then
      (l2 161 5 x1 V1).bind fun v1 =>
      j_X16_hash_23 v1 V1
    else
      j_X16_hash_22 V1
theorem s_X16_hash_23 {g : GG} {d : Nat} (hD : 4 ≤ d) {y0 : Int} {M : MM} (hM : LM M) {V : VV} {o : AV × MM} {P : (Int × VV) → Prop} (r0 : ∀ r : Int × VV, P r → o = ((0, r.1), (wr M r.2))) {z : Int × VV} (h : j_X16_hash_23 y0 V = some z) (hz : P z) : Sem g d YX16_hash 23 [(9, 0), (9, 0)] [(0, y0)] (wr M V) o := by
  delta j_X16_hash_23 at h
  obtain rfl := r0 _ (some_P (P := fun r => P r) h hz)
  exact P_ret dX16_hash_23 rfl (Or.inl rfl)
theorem s_X16_hash_22 {g : GG} {d : Nat} (hD : 4 ≤ d) {M : MM} (hM : LM M) {V : VV} {o : AV × MM} {P : (Int × VV) → Prop} (r0 : ∀ r : Int × VV, P r → o = ((0, r.1), (wr M r.2))) {z : Int × VV} (h : j_X16_hash_22 V = some z) (hz : P z) : Sem g d YX16_hash 22 [(9, 0), (9, 0)] [] (wr M V) o := by
  delta j_X16_hash_22 at h
  refine S_iconst dX16_hash_22 rfl ?_
  exact s_X16_hash_23 hD hM r0 h hz
theorem s_X16_hash_0 {g : GG} {d : Nat} (hD : 4 ≤ d) {x1 : Int} {M : MM} (hM : LM M) {V : VV} {o : AV × MM} {P : (Int × VV) → Prop} (r0 : ∀ r : Int × VV, P r → o = ((0, r.1), (wr M r.2))) {z : Int × VV} (h : f_X16_hash x1 V = some z) (hz : P z) : Sem g d YX16_hash 0 [(1, 156), (0, x1)] [] (wr M V) o := by
  delta f_X16_hash at h
  refine S_aload_n (i := 0) dX16_hash_0 rfl rfl ?_
  refine P2_invVm hM [] [] CVX16_hashTape MLX16_431 dX16_hash_1 rfl rfl rfl rfl (by omega) h (fun r h => F_X16_hashTape (by omega) hM h) (fun V1 h => ?_)
  refine S_iload_n (i := 1) dX16_hash_4 rfl rfl ?_
  refine P_if_lt (tgt := 22) dX16_hash_5 rfl h (fun h => ?_) (fun h => ?_)
  · refine S_weak (ls' := [(9, 0), (9, 0)]) ⟨Or.inl rfl, ⟨Or.inl rfl, trivial⟩⟩ ?_
    exact s_X16_hash_22 hD hM r0 h hz
  · refine S_iload_n (i := 1) dX16_hash_8 rfl rfl ?_
    refine S_iconst dX16_hash_9 rfl ?_
    refine P_icmp_ge (tgt := 22) dX16_hash_10 rfl h (fun h => ?_) (fun h => ?_)
    · refine S_weak (ls' := [(9, 0), (9, 0)]) ⟨Or.inl rfl, ⟨Or.inl rfl, trivial⟩⟩ ?_
      exact s_X16_hash_22 hD hM r0 h hz
    · refine S_aload_n (i := 0) dX16_hash_13 rfl rfl ?_
      refine P2_gfr hM (a := 161) FLX16_22 rfl ⟨rfl, rfl⟩ dX16_hash_14 ?_
      refine S_iload_n (i := 1) dX16_hash_17 rfl rfl ?_
      refine P2_lai hM (a := 161) (n := 5) rfl dX16_hash_18 h (fun v1 h => ?_)
      refine S_goto (tgt := 23) dX16_hash_19 rfl ?_
      refine S_weak (ls' := [(9, 0), (9, 0)]) ⟨Or.inl rfl, ⟨Or.inl rfl, trivial⟩⟩ ?_
      exact s_X16_hash_23 hD hM r0 h hz
theorem F_X16_hash {g : GG} {d : Nat} (hD : 4 ≤ d) {x1 : Int} {M : MM} (hM : LM M) {V : VV} {r : Int × VV} (h : f_X16_hash x1 V = some r) : Sem g d YX16_hash 0 (ini YX16_hash [(1, 156), (0, x1)]) [] (wr M V) ((0, r.1), (wr M r.2)) := by
  change Sem g d YX16_hash 0 [(1, 156), (0, x1)] [] (wr M V) ((0, r.1), (wr M r.2))
  exact s_X16_hash_0 hD hM (P := fun x => x = r) (fun q e => by rw [e]) h rfl
/-! PeerSearchModel.alive(I)V -/
theorem dX16_alive_0 : decode cX16_alive 0 = .ok (.aload_n 0, 1) := by decide +kernel
theorem dX16_alive_1 : decode cX16_alive 1 = .ok (.getfield 42, 3) := by decide +kernel
theorem dX16_alive_4 : decode cX16_alive 4 = .ok (.iload_n 1, 1) := by decide +kernel
theorem dX16_alive_5 : decode cX16_alive 5 = .ok (.iconst 1, 1) := by decide +kernel
theorem dX16_alive_6 : decode cX16_alive 6 = .ok (.iastore, 1) := by decide +kernel
theorem dX16_alive_7 : decode cX16_alive 7 = .ok (.aload_n 0, 1) := by decide +kernel
theorem dX16_alive_8 : decode cX16_alive 8 = .ok (.getfield 45, 3) := by decide +kernel
theorem dX16_alive_11 : decode cX16_alive 11 = .ok (.iload_n 1, 1) := by decide +kernel
theorem dX16_alive_12 : decode cX16_alive 12 = .ok (.aload_n 0, 1) := by decide +kernel
theorem dX16_alive_13 : decode cX16_alive 13 = .ok (.getfield 483, 3) := by decide +kernel
theorem dX16_alive_16 : decode cX16_alive 16 = .ok (.iastore, 1) := by decide +kernel
theorem dX16_alive_17 : decode cX16_alive 17 = .ok (.aload_n 0, 1) := by decide +kernel
theorem dX16_alive_18 : decode cX16_alive 18 = .ok (.getfield 110, 3) := by decide +kernel
theorem dX16_alive_21 : decode cX16_alive 21 = .ok (.iload_n 1, 1) := by decide +kernel
theorem dX16_alive_22 : decode cX16_alive 22 = .ok (.iconst 0, 1) := by decide +kernel
theorem dX16_alive_23 : decode cX16_alive 23 = .ok (.iastore, 1) := by decide +kernel
theorem dX16_alive_24 : decode cX16_alive 24 = .ok (.aload_n 0, 1) := by decide +kernel
theorem dX16_alive_25 : decode cX16_alive 25 = .ok (.getfield 177, 3) := by decide +kernel
theorem dX16_alive_28 : decode cX16_alive 28 = .ok (.iload_n 1, 1) := by decide +kernel
theorem dX16_alive_29 : decode cX16_alive 29 = .ok (.iconst 0, 1) := by decide +kernel
theorem dX16_alive_30 : decode cX16_alive 30 = .ok (.iastore, 1) := by decide +kernel
theorem dX16_alive_31 : decode cX16_alive 31 = .ok (.return_, 1) := by decide +kernel
def f_X16_alive (x1 : Int) (V : VV) : Option (VV) :=
  (s2 167 32 x1 1 V).bind fun V1 =>
  (s2 168 32 x1 (w32 (V1 156 11)) V1).bind fun V2 =>
  (s2 189 32 x1 0 V2).bind fun V3 =>
  (s2 210 32 x1 0 V3).bind fun V4 =>
  some V4
theorem s_X16_alive_0 {g : GG} {d : Nat} (hD : 0 ≤ d) {x1 : Int} {M : MM} (hM : LM M) {V : VV} {o : AV × MM} {P : (VV) → Prop} (r0 : ∀ r : VV, P r → o = ((9, 0), (wr M r))) {z : VV} (h : f_X16_alive x1 V = some z) (hz : P z) : Sem g d YX16_alive 0 [(1, 156), (0, x1)] [] (wr M V) o := by
  delta f_X16_alive at h
  refine S_aload_n (i := 0) dX16_alive_0 rfl rfl ?_
  refine P2_gfr hM (a := 167) FLX16_42 rfl ⟨rfl, rfl⟩ dX16_alive_1 ?_
  refine S_iload_n (i := 1) dX16_alive_4 rfl rfl ?_
  refine S_iconst dX16_alive_5 rfl ?_
  refine P2_sai hM (a := 167) (n := 32) rfl dX16_alive_6 h (fun V1 h => ?_)
  refine S_aload_n (i := 0) dX16_alive_7 rfl rfl ?_
  refine P2_gfr hM (a := 168) FLX16_45 rfl ⟨rfl, rfl⟩ dX16_alive_8 ?_
  refine S_iload_n (i := 1) dX16_alive_11 rfl rfl ?_
  refine S_aload_n (i := 0) dX16_alive_12 rfl rfl ?_
  refine P2_gfi hM FLX16_483 rfl dX16_alive_13 ?_
  refine P2_sai hM (a := 168) (n := 32) rfl dX16_alive_16 h (fun V2 h => ?_)
  refine S_aload_n (i := 0) dX16_alive_17 rfl rfl ?_
  refine P2_gfr hM (a := 189) FLX16_110 rfl ⟨rfl, rfl⟩ dX16_alive_18 ?_
  refine S_iload_n (i := 1) dX16_alive_21 rfl rfl ?_
  refine S_iconst dX16_alive_22 rfl ?_
  refine P2_sai hM (a := 189) (n := 32) rfl dX16_alive_23 h (fun V3 h => ?_)
  refine S_aload_n (i := 0) dX16_alive_24 rfl rfl ?_
  refine P2_gfr hM (a := 210) FLX16_177 rfl ⟨rfl, rfl⟩ dX16_alive_25 ?_
  refine S_iload_n (i := 1) dX16_alive_28 rfl rfl ?_
  refine S_iconst dX16_alive_29 rfl ?_
  refine P2_sai hM (a := 210) (n := 32) rfl dX16_alive_30 h (fun V4 h => ?_)
  obtain rfl := r0 _ (some_P (P := fun r => P r) h hz)
  exact S_return dX16_alive_31 rfl
theorem F_X16_alive {g : GG} {d : Nat} (hD : 0 ≤ d) {x1 : Int} {M : MM} (hM : LM M) {V : VV} {r : VV} (h : f_X16_alive x1 V = some r) : Sem g d YX16_alive 0 (ini YX16_alive [(1, 156), (0, x1)]) [] (wr M V) ((9, 0), (wr M r)) := by
  change Sem g d YX16_alive 0 [(1, 156), (0, x1)] [] (wr M V) ((9, 0), (wr M r))
  exact s_X16_alive_0 hD hM (P := fun x => x = r) (fun q e => by rw [e]) h rfl
/-! PeerSearchModel.same([II[II)Z -/
theorem dX16_same_0 : decode cX16_same 0 = .ok (.iconst 1, 1) := by decide +kernel
theorem dX16_same_1 : decode cX16_same 1 = .ok (.istore 4, 2) := by decide +kernel
theorem dX16_same_3 : decode cX16_same 3 = .ok (.iconst 0, 1) := by decide +kernel
theorem dX16_same_4 : decode cX16_same 4 = .ok (.istore 5, 2) := by decide +kernel
theorem dX16_same_6 : decode cX16_same 6 = .ok (.iload 5, 2) := by decide +kernel
theorem dX16_same_8 : decode cX16_same 8 = .ok (.iconst 5, 1) := by decide +kernel
theorem dX16_same_9 : decode cX16_same 9 = .ok (.if_icmp .ge 36, 3) := by decide +kernel
theorem dX16_same_12 : decode cX16_same 12 = .ok (.iload 4, 2) := by decide +kernel
theorem dX16_same_14 : decode cX16_same 14 = .ok (.ifCond .eq 22, 3) := by decide +kernel
theorem dX16_same_17 : decode cX16_same 17 = .ok (.aload_n 0, 1) := by decide +kernel
theorem dX16_same_18 : decode cX16_same 18 = .ok (.iload_n 1, 1) := by decide +kernel
theorem dX16_same_19 : decode cX16_same 19 = .ok (.iload 5, 2) := by decide +kernel
theorem dX16_same_21 : decode cX16_same 21 = .ok (.iadd, 1) := by decide +kernel
theorem dX16_same_22 : decode cX16_same 22 = .ok (.iaload, 1) := by decide +kernel
theorem dX16_same_23 : decode cX16_same 23 = .ok (.aload_n 2, 1) := by decide +kernel
theorem dX16_same_24 : decode cX16_same 24 = .ok (.iload_n 3, 1) := by decide +kernel
theorem dX16_same_25 : decode cX16_same 25 = .ok (.iload 5, 2) := by decide +kernel
theorem dX16_same_27 : decode cX16_same 27 = .ok (.iadd, 1) := by decide +kernel
theorem dX16_same_28 : decode cX16_same 28 = .ok (.iaload, 1) := by decide +kernel
theorem dX16_same_29 : decode cX16_same 29 = .ok (.if_icmp .ne 7, 3) := by decide +kernel
theorem dX16_same_32 : decode cX16_same 32 = .ok (.iconst 1, 1) := by decide +kernel
theorem dX16_same_33 : decode cX16_same 33 = .ok (.goto 4, 3) := by decide +kernel
theorem dX16_same_36 : decode cX16_same 36 = .ok (.iconst 0, 1) := by decide +kernel
theorem dX16_same_37 : decode cX16_same 37 = .ok (.istore 4, 2) := by decide +kernel
theorem dX16_same_39 : decode cX16_same 39 = .ok (.iinc 5 1, 3) := by decide +kernel
theorem dX16_same_42 : decode cX16_same 42 = .ok (.goto (-36), 3) := by decide +kernel
theorem dX16_same_45 : decode cX16_same 45 = .ok (.iload 4, 2) := by decide +kernel
theorem dX16_same_47 : decode cX16_same 47 = .ok (.ireturn, 1) := by decide +kernel
def j_X16_same_37 (x0 x1 x2 x3 x5 y0 : Int) (V : VV) : Option ((Int × Int) ⊕ (Int)) :=
  cnt (y0, x5 + 1)
def j_X16_same_36 (x0 x1 x2 x3 x5 : Int) (V : VV) : Option ((Int × Int) ⊕ (Int)) :=
  j_X16_same_37 x0 x1 x2 x3 x5 0 V
def b_X16_same_6 (x0 x1 x2 x3 x4 x5 : Int) (V : VV) : Option ((Int × Int) ⊕ (Int)) :=
  if w32 x5 < w32 5 then
    if w32 x4 = 0 then
      j_X16_same_36 x0 x1 x2 x3 x5 V
    else
      (lp x0 (x1 + x5) V).bind fun v1 =>
      (lp x2 (x3 + x5) V).bind fun v2 =>
      if w32 v1 = w32 v2 then
        j_X16_same_37 x0 x1 x2 x3 x5 1 V
      else
        j_X16_same_36 x0 x1 x2 x3 x5 V
  else
    xit (bz x4 (some x4))
def l_X16_same_6 (x0 x1 x2 x3 x4 x5 : Int) (V : VV) : Option (Int) := lpN (fun s : Int × Int => b_X16_same_6 x0 x1 x2 x3 s.1 s.2 V) FU (x4, x5)
def f_X16_same (x0 x1 x2 x3 : Int) (V : VV) : Option (Int) :=
  l_X16_same_6 x0 x1 x2 x3 1 0 V
theorem s_X16_same_37 {g : GG} {d : Nat} (hD : 0 ≤ d) {x0 x1 x2 x3 x5 y0 : Int} {M : MM} (hM : LM M) {V : VV} {o : AV × MM} {P : ((Int × Int) ⊕ (Int)) → Prop} (c0 : ∀ s : Int × Int, P (.inl s) → Sem g d YX16_same 6 [(1, x0), (0, x1), (1, x2), (0, x3), (0, s.1), (0, s.2)] [] (wr M V) o) (r0 : ∀ r : Int, P (.inr r) → o = ((0, r), (wr M V))) {z : (Int × Int) ⊕ (Int)} (h : j_X16_same_37 x0 x1 x2 x3 x5 y0 V = some z) (hz : P z) : Sem g d YX16_same 37 [(1, x0), (0, x1), (1, x2), (0, x3), (9, 0), (0, x5)] [(0, y0)] (wr M V) o := by
  delta j_X16_same_37 at h
  refine S_istore dX16_same_37 (Nat.le_of_ble_eq_true rfl) rfl rfl ?_
  change Sem g d YX16_same 39 [(1, x0), (0, x1), (1, x2), (0, x3), (0, y0), (0, x5)] [] (wr M V) o
  refine S_iinc dX16_same_39 rfl rfl rfl ?_
  change Sem g d YX16_same 42 [(1, x0), (0, x1), (1, x2), (0, x3), (0, y0), (0, x5 + 1)] [] (wr M V) o
  refine S_goto (tgt := 6) dX16_same_42 rfl ?_
  exact c0 (y0, x5 + 1) (some_P (P := fun r => P r) h hz)
theorem s_X16_same_36 {g : GG} {d : Nat} (hD : 0 ≤ d) {x0 x1 x2 x3 x5 : Int} {M : MM} (hM : LM M) {V : VV} {o : AV × MM} {P : ((Int × Int) ⊕ (Int)) → Prop} (c0 : ∀ s : Int × Int, P (.inl s) → Sem g d YX16_same 6 [(1, x0), (0, x1), (1, x2), (0, x3), (0, s.1), (0, s.2)] [] (wr M V) o) (r0 : ∀ r : Int, P (.inr r) → o = ((0, r), (wr M V))) {z : (Int × Int) ⊕ (Int)} (h : j_X16_same_36 x0 x1 x2 x3 x5 V = some z) (hz : P z) : Sem g d YX16_same 36 [(1, x0), (0, x1), (1, x2), (0, x3), (9, 0), (0, x5)] [] (wr M V) o := by
  delta j_X16_same_36 at h
  refine S_iconst dX16_same_36 rfl ?_
  exact s_X16_same_37 hD hM c0 r0 h hz
theorem s_X16_same_6 {g : GG} {d : Nat} (hD : 0 ≤ d) {x0 x1 x2 x3 x4 x5 : Int} {M : MM} (hM : LM M) {V : VV} {o : AV × MM} {P : ((Int × Int) ⊕ (Int)) → Prop} (c0 : ∀ s : Int × Int, P (.inl s) → Sem g d YX16_same 6 [(1, x0), (0, x1), (1, x2), (0, x3), (0, s.1), (0, s.2)] [] (wr M V) o) (r0 : ∀ r : Int, P (.inr r) → o = ((0, r), (wr M V))) {z : (Int × Int) ⊕ (Int)} (h : b_X16_same_6 x0 x1 x2 x3 x4 x5 V = some z) (hz : P z) : Sem g d YX16_same 6 [(1, x0), (0, x1), (1, x2), (0, x3), (0, x4), (0, x5)] [] (wr M V) o := by
  delta b_X16_same_6 at h
  refine S_iload dX16_same_6 rfl ?_
  refine S_iconst dX16_same_8 rfl ?_
  refine P_icmp_ge (tgt := 45) dX16_same_9 rfl h (fun h => ?_) (fun h => ?_)
  · obtain ⟨z0, h, hz⟩ := xit_some' (P := fun r => P r) h hz
    refine S_iload dX16_same_45 rfl ?_
    obtain ⟨hb, h⟩ := bz_some h
    obtain rfl := r0 _ (some_P (P := fun r => P (.inr r)) h hz)
    exact P_ret dX16_same_47 rfl (Or.inr ⟨rfl, hb⟩)
  · refine S_iload dX16_same_12 rfl ?_
    refine P_if_eq (tgt := 36) dX16_same_14 rfl h (fun h => ?_) (fun h => ?_)
    · refine S_weak (ls' := [(1, x0), (0, x1), (1, x2), (0, x3), (9, 0), (0, x5)]) ⟨Or.inr rfl, ⟨Or.inr rfl, ⟨Or.inr rfl, ⟨Or.inr rfl, ⟨Or.inl rfl, ⟨Or.inr rfl, trivial⟩⟩⟩⟩⟩⟩ ?_
      exact s_X16_same_36 hD hM c0 r0 h hz
    · refine S_aload_n (i := 0) dX16_same_17 rfl rfl ?_
      refine S_iload_n (i := 1) dX16_same_18 rfl rfl ?_
      refine S_iload dX16_same_19 rfl ?_
      refine S_iadd dX16_same_21 ?_
      refine P2_lp hM dX16_same_22 h (fun v1 h => ?_)
      refine S_aload_n (i := 2) dX16_same_23 rfl rfl ?_
      refine S_iload_n (i := 3) dX16_same_24 rfl rfl ?_
      refine S_iload dX16_same_25 rfl ?_
      refine S_iadd dX16_same_27 ?_
      refine P2_lp hM dX16_same_28 h (fun v2 h => ?_)
      refine P_icmp_ne (tgt := 36) dX16_same_29 rfl h (fun h => ?_) (fun h => ?_)
      · refine S_weak (ls' := [(1, x0), (0, x1), (1, x2), (0, x3), (9, 0), (0, x5)]) ⟨Or.inr rfl, ⟨Or.inr rfl, ⟨Or.inr rfl, ⟨Or.inr rfl, ⟨Or.inl rfl, ⟨Or.inr rfl, trivial⟩⟩⟩⟩⟩⟩ ?_
        exact s_X16_same_36 hD hM c0 r0 h hz
      · refine S_iconst dX16_same_32 rfl ?_
        refine S_goto (tgt := 37) dX16_same_33 rfl ?_
        refine S_weak (ls' := [(1, x0), (0, x1), (1, x2), (0, x3), (9, 0), (0, x5)]) ⟨Or.inr rfl, ⟨Or.inr rfl, ⟨Or.inr rfl, ⟨Or.inr rfl, ⟨Or.inl rfl, ⟨Or.inr rfl, trivial⟩⟩⟩⟩⟩⟩ ?_
        exact s_X16_same_37 hD hM c0 r0 h hz
theorem sl_X16_same_6 {g : GG} {d : Nat} (hD : 0 ≤ d) {x0 x1 x2 x3 x4 x5 : Int} {M : MM} (hM : LM M) {V : VV} {o : AV × MM} {P : (Int) → Prop} (r0 : ∀ r : Int, P r → o = ((0, r), (wr M V))) {z : Int} (h : l_X16_same_6 x0 x1 x2 x3 x4 x5 V = some z) (hz : P z) : Sem g d YX16_same 6 [(1, x0), (0, x1), (1, x2), (0, x3), (0, x4), (0, x5)] [] (wr M V) o := by
  refine lp_sound (S := fun s : Int × Int => Sem g d YX16_same 6 [(1, x0), (0, x1), (1, x2), (0, x3), (0, s.1), (0, s.2)] [] (wr M V) o) (P := P) ?_ FU (x4, x5) z h hz
  intro s x hx hP
  exact s_X16_same_6 hD hM (P := Sum.elim (fun s : Int × Int => Sem g d YX16_same 6 [(1, x0), (0, x1), (1, x2), (0, x3), (0, s.1), (0, s.2)] [] (wr M V) o) P) (fun s h => h) (fun s h => r0 s h) hx hP
theorem s_X16_same_0 {g : GG} {d : Nat} (hD : 0 ≤ d) {x0 x1 x2 x3 : Int} {M : MM} (hM : LM M) {V : VV} {o : AV × MM} {P : (Int) → Prop} (r0 : ∀ r : Int, P r → o = ((0, r), (wr M V))) {z : Int} (h : f_X16_same x0 x1 x2 x3 V = some z) (hz : P z) : Sem g d YX16_same 0 [(1, x0), (0, x1), (1, x2), (0, x3), (9, 0), (9, 0)] [] (wr M V) o := by
  delta f_X16_same at h
  refine S_iconst dX16_same_0 rfl ?_
  refine S_istore dX16_same_1 (Nat.le_of_ble_eq_true rfl) rfl rfl ?_
  change Sem g d YX16_same 3 [(1, x0), (0, x1), (1, x2), (0, x3), (0, 1), (9, 0)] [] (wr M V) o
  refine S_iconst dX16_same_3 rfl ?_
  refine S_istore dX16_same_4 (Nat.le_of_ble_eq_true rfl) rfl rfl ?_
  change Sem g d YX16_same 6 [(1, x0), (0, x1), (1, x2), (0, x3), (0, 1), (0, 0)] [] (wr M V) o
  exact sl_X16_same_6 hD hM r0 h hz
theorem F_X16_same {g : GG} {d : Nat} (hD : 0 ≤ d) {x0 x1 x2 x3 : Int} {M : MM} (hM : LM M) {V : VV} {r : Int} (h : f_X16_same x0 x1 x2 x3 V = some r) : Sem g d YX16_same 0 (ini YX16_same [(1, x0), (0, x1), (1, x2), (0, x3)]) [] (wr M V) ((0, r), (wr M V)) := by
  change Sem g d YX16_same 0 [(1, x0), (0, x1), (1, x2), (0, x3), (9, 0), (9, 0)] [] (wr M V) ((0, r), (wr M V))
  exact s_X16_same_0 hD hM (P := fun x => x = r) (fun q e => by rw [e]) h rfl
/-! PeerSearchModel.entryWith(I[II)I -/
theorem dX16_entryWith_0 : decode cX16_entryWith 0 = .ok (.bipush 65, 2) := by decide +kernel
theorem dX16_entryWith_2 : decode cX16_entryWith 2 = .ok (.iload_n 1, 1) := by decide +kernel
theorem dX16_entryWith_3 : decode cX16_entryWith 3 = .ok (.imul, 1) := by decide +kernel
theorem dX16_entryWith_4 : decode cX16_entryWith 4 = .ok (.istore 4, 2) := by decide +kernel
theorem dX16_entryWith_6 : decode cX16_entryWith 6 = .ok (.iload 4, 2) := by decide +kernel
theorem dX16_entryWith_8 : decode cX16_entryWith 8 = .ok (.bipush 65, 2) := by decide +kernel
theorem dX16_entryWith_10 : decode cX16_entryWith 10 = .ok (.iload_n 1, 1) := by decide +kernel
theorem dX16_entryWith_11 : decode cX16_entryWith 11 = .ok (.imul, 1) := by decide +kernel
theorem dX16_entryWith_12 : decode cX16_entryWith 12 = .ok (.aload_n 0, 1) := by decide +kernel
theorem dX16_entryWith_13 : decode cX16_entryWith 13 = .ok (.getfield 249, 3) := by decide +kernel
theorem dX16_entryWith_16 : decode cX16_entryWith 16 = .ok (.iload_n 1, 1) := by decide +kernel
theorem dX16_entryWith_17 : decode cX16_entryWith 17 = .ok (.iaload, 1) := by decide +kernel
theorem dX16_entryWith_18 : decode cX16_entryWith 18 = .ok (.iadd, 1) := by decide +kernel
theorem dX16_entryWith_19 : decode cX16_entryWith 19 = .ok (.if_icmp .ge 28, 3) := by decide +kernel
theorem dX16_entryWith_22 : decode cX16_entryWith 22 = .ok (.aload_n 0, 1) := by decide +kernel
theorem dX16_entryWith_23 : decode cX16_entryWith 23 = .ok (.getfield 252, 3) := by decide +kernel
theorem dX16_entryWith_26 : decode cX16_entryWith 26 = .ok (.iconst 5, 1) := by decide +kernel
theorem dX16_entryWith_27 : decode cX16_entryWith 27 = .ok (.iload 4, 2) := by decide +kernel
theorem dX16_entryWith_29 : decode cX16_entryWith 29 = .ok (.imul, 1) := by decide +kernel
theorem dX16_entryWith_30 : decode cX16_entryWith 30 = .ok (.aload_n 2, 1) := by decide +kernel
theorem dX16_entryWith_31 : decode cX16_entryWith 31 = .ok (.iload_n 3, 1) := by decide +kernel
theorem dX16_entryWith_32 : decode cX16_entryWith 32 = .ok (.invokestatic 434, 3) := by decide +kernel
theorem dX16_entryWith_35 : decode cX16_entryWith 35 = .ok (.ifCond .eq 6, 3) := by decide +kernel
theorem dX16_entryWith_38 : decode cX16_entryWith 38 = .ok (.iload 4, 2) := by decide +kernel
theorem dX16_entryWith_40 : decode cX16_entryWith 40 = .ok (.ireturn, 1) := by decide +kernel
theorem dX16_entryWith_41 : decode cX16_entryWith 41 = .ok (.iinc 4 1, 3) := by decide +kernel
theorem dX16_entryWith_44 : decode cX16_entryWith 44 = .ok (.goto (-38), 3) := by decide +kernel
theorem dX16_entryWith_47 : decode cX16_entryWith 47 = .ok (.iconst (-1), 1) := by decide +kernel
theorem dX16_entryWith_48 : decode cX16_entryWith 48 = .ok (.ireturn, 1) := by decide +kernel
def b_X16_entryWith_6 (x1 x2 x3 x4 : Int) (V : VV) : Option ((Int) ⊕ (Int)) :=
  (l2 234 44 x1 V).bind fun v1 =>
  if w32 x4 < w32 ((65 * x1) + v1) then
    (f_X16_same 235 (5 * x4) x2 x3 V).bind fun v2 =>
    if w32 v2 = 0 then
      cnt (x4 + 1)
    else
      xit (some x4)
  else
    xit (some (-1))
def l_X16_entryWith_6 (x1 x2 x3 x4 : Int) (V : VV) : Option (Int) := lpN (fun s : Int => b_X16_entryWith_6 x1 x2 x3 s V) FU x4
def f_X16_entryWith (x1 x2 x3 : Int) (V : VV) : Option (Int) :=
  l_X16_entryWith_6 x1 x2 x3 (65 * x1) V
theorem s_X16_entryWith_6 {g : GG} {d : Nat} (hD : 1 ≤ d) {x1 x2 x3 x4 : Int} {M : MM} (hM : LM M) {V : VV} {o : AV × MM} {P : ((Int) ⊕ (Int)) → Prop} (c0 : ∀ s : Int, P (.inl s) → Sem g d YX16_entryWith 6 [(1, 156), (0, x1), (1, x2), (0, x3), (0, s)] [] (wr M V) o) (r0 : ∀ r : Int, P (.inr r) → o = ((0, r), (wr M V))) {z : (Int) ⊕ (Int)} (h : b_X16_entryWith_6 x1 x2 x3 x4 V = some z) (hz : P z) : Sem g d YX16_entryWith 6 [(1, 156), (0, x1), (1, x2), (0, x3), (0, x4)] [] (wr M V) o := by
  delta b_X16_entryWith_6 at h
  refine S_iload dX16_entryWith_6 rfl ?_
  refine S_bipush (z := 65) dX16_entryWith_8 rfl ?_
  refine S_iload_n (i := 1) dX16_entryWith_10 rfl rfl ?_
  refine S_imul dX16_entryWith_11 ?_
  refine S_aload_n (i := 0) dX16_entryWith_12 rfl rfl ?_
  refine P2_gfr hM (a := 234) FLX16_249 rfl ⟨rfl, rfl⟩ dX16_entryWith_13 ?_
  refine S_iload_n (i := 1) dX16_entryWith_16 rfl rfl ?_
  refine P2_lai hM (a := 234) (n := 44) rfl dX16_entryWith_17 h (fun v1 h => ?_)
  refine S_iadd dX16_entryWith_18 ?_
  refine P_icmp_ge (tgt := 47) dX16_entryWith_19 rfl h (fun h => ?_) (fun h => ?_)
  · obtain ⟨z0, h, hz⟩ := xit_some' (P := fun r => P r) h hz
    refine S_iconst dX16_entryWith_47 rfl ?_
    obtain rfl := r0 _ (some_P (P := fun r => P (.inr r)) h hz)
    exact P_ret dX16_entryWith_48 rfl (Or.inl rfl)
  · refine S_aload_n (i := 0) dX16_entryWith_22 rfl rfl ?_
    refine P2_gfr hM (a := 235) FLX16_252 rfl ⟨rfl, rfl⟩ dX16_entryWith_23 ?_
    refine S_iconst dX16_entryWith_26 rfl ?_
    refine S_iload dX16_entryWith_27 rfl ?_
    refine S_imul dX16_entryWith_29 ?_
    refine S_aload_n (i := 2) dX16_entryWith_30 rfl rfl ?_
    refine S_iload_n (i := 3) dX16_entryWith_31 rfl rfl ?_
    refine P_invSp 0 [(1, 235), (0, 5 * x4), (1, x2), (0, x3)] [] CSX16_same MLX16_434 dX16_entryWith_32 rfl rfl rfl rfl rfl (by omega) h (fun r h => F_X16_same (by omega) hM h) (fun v2 h => ?_)
    refine P_if_eq (tgt := 41) dX16_entryWith_35 rfl h (fun h => ?_) (fun h => ?_)
    · refine S_iinc dX16_entryWith_41 rfl rfl rfl ?_
      change Sem g d YX16_entryWith 44 [(1, 156), (0, x1), (1, x2), (0, x3), (0, x4 + 1)] [] (wr M V) o
      refine S_goto (tgt := 6) dX16_entryWith_44 rfl ?_
      exact c0 (x4 + 1) (some_P (P := fun r => P r) h hz)
    · obtain ⟨z0, h, hz⟩ := xit_some' (P := fun r => P r) h hz
      refine S_iload dX16_entryWith_38 rfl ?_
      obtain rfl := r0 _ (some_P (P := fun r => P (.inr r)) h hz)
      exact P_ret dX16_entryWith_40 rfl (Or.inl rfl)
theorem sl_X16_entryWith_6 {g : GG} {d : Nat} (hD : 1 ≤ d) {x1 x2 x3 x4 : Int} {M : MM} (hM : LM M) {V : VV} {o : AV × MM} {P : (Int) → Prop} (r0 : ∀ r : Int, P r → o = ((0, r), (wr M V))) {z : Int} (h : l_X16_entryWith_6 x1 x2 x3 x4 V = some z) (hz : P z) : Sem g d YX16_entryWith 6 [(1, 156), (0, x1), (1, x2), (0, x3), (0, x4)] [] (wr M V) o := by
  refine lp_sound (S := fun s : Int => Sem g d YX16_entryWith 6 [(1, 156), (0, x1), (1, x2), (0, x3), (0, s)] [] (wr M V) o) (P := P) ?_ FU x4 z h hz
  intro s x hx hP
  exact s_X16_entryWith_6 hD hM (P := Sum.elim (fun s : Int => Sem g d YX16_entryWith 6 [(1, 156), (0, x1), (1, x2), (0, x3), (0, s)] [] (wr M V) o) P) (fun s h => h) (fun s h => r0 s h) hx hP
theorem s_X16_entryWith_0 {g : GG} {d : Nat} (hD : 1 ≤ d) {x1 x2 x3 : Int} {M : MM} (hM : LM M) {V : VV} {o : AV × MM} {P : (Int) → Prop} (r0 : ∀ r : Int, P r → o = ((0, r), (wr M V))) {z : Int} (h : f_X16_entryWith x1 x2 x3 V = some z) (hz : P z) : Sem g d YX16_entryWith 0 [(1, 156), (0, x1), (1, x2), (0, x3), (9, 0)] [] (wr M V) o := by
  delta f_X16_entryWith at h
  refine S_bipush (z := 65) dX16_entryWith_0 rfl ?_
  refine S_iload_n (i := 1) dX16_entryWith_2 rfl rfl ?_
  refine S_imul dX16_entryWith_3 ?_
  refine S_istore dX16_entryWith_4 (Nat.le_of_ble_eq_true rfl) rfl rfl ?_
  change Sem g d YX16_entryWith 6 [(1, 156), (0, x1), (1, x2), (0, x3), (0, 65 * x1)] [] (wr M V) o
  exact sl_X16_entryWith_6 hD hM r0 h hz
theorem F_X16_entryWith {g : GG} {d : Nat} (hD : 1 ≤ d) {x1 x2 x3 : Int} {M : MM} (hM : LM M) {V : VV} {r : Int} (h : f_X16_entryWith x1 x2 x3 V = some r) : Sem g d YX16_entryWith 0 (ini YX16_entryWith [(1, 156), (0, x1), (1, x2), (0, x3)]) [] (wr M V) ((0, r), (wr M V)) := by
  change Sem g d YX16_entryWith 0 [(1, 156), (0, x1), (1, x2), (0, x3), (9, 0)] [] (wr M V) ((0, r), (wr M V))
  exact s_X16_entryWith_0 hD hM (P := fun x => x = r) (fun q e => by rw [e]) h rfl
/-! PeerSearchModel.order(II)I -/
theorem dX16_order_0 : decode cX16_order 0 = .ok (.iload_n 0, 1) := by decide +kernel
theorem dX16_order_1 : decode cX16_order 1 = .ok (.ldc_w 412, 3) := by decide +kernel
theorem dX16_order_4 : decode cX16_order 4 = .ok (.iadd, 1) := by decide +kernel
theorem dX16_order_5 : decode cX16_order 5 = .ok (.iload_n 1, 1) := by decide +kernel
theorem dX16_order_6 : decode cX16_order 6 = .ok (.ldc_w 412, 3) := by decide +kernel
theorem dX16_order_9 : decode cX16_order 9 = .ok (.iadd, 1) := by decide +kernel
theorem dX16_order_10 : decode cX16_order 10 = .ok (.invokestatic 413, 3) := by decide +kernel
theorem dX16_order_13 : decode cX16_order 13 = .ok (.ireturn, 1) := by decide +kernel
def f_X16_order (x0 x1 : Int) : Option (Int) :=
  (f_J1_compare (x0 + (-2147483648)) (x1 + (-2147483648))).bind fun v1 =>
  some v1
theorem s_X16_order_0 {g : GG} {d : Nat} (hD : 1 ≤ d) {x0 x1 : Int} {M : MM} (hM : LM M) {V : VV} {o : AV × MM} {P : (Int) → Prop} (r0 : ∀ r : Int, P r → o = ((0, r), (wr M V))) {z : Int} (h : f_X16_order x0 x1 = some z) (hz : P z) : Sem g d YX16_order 0 [(0, x0), (0, x1)] [] (wr M V) o := by
  delta f_X16_order at h
  refine S_iload_n (i := 0) dX16_order_0 rfl rfl ?_
  refine S_ldcw (z := (-2147483648)) kX16_412 dX16_order_1 ?_
  refine S_iadd dX16_order_4 ?_
  refine S_iload_n (i := 1) dX16_order_5 rfl rfl ?_
  refine S_ldcw (z := (-2147483648)) kX16_412 dX16_order_6 ?_
  refine S_iadd dX16_order_9 ?_
  refine P_invSp 0 [(0, x0 + (-2147483648)), (0, x1 + (-2147483648))] [] CSJ1_compare MLX16_413 dX16_order_10 rfl rfl rfl rfl rfl (by omega) h (fun r h => F_J1_compare (by omega) h) (fun v1 h => ?_)
  obtain rfl := r0 _ (some_P (P := fun r => P r) h hz)
  exact P_ret dX16_order_13 rfl (Or.inl rfl)
theorem F_X16_order {g : GG} {d : Nat} (hD : 1 ≤ d) {x0 x1 : Int} {M : MM} (hM : LM M) {V : VV} {r : Int} (h : f_X16_order x0 x1 = some r) : Sem g d YX16_order 0 (ini YX16_order [(0, x0), (0, x1)]) [] (wr M V) ((0, r), (wr M V)) := by
  change Sem g d YX16_order 0 [(0, x0), (0, x1)] [] (wr M V) ((0, r), (wr M V))
  exact s_X16_order_0 hD hM (P := fun x => x = r) (fun q e => by rw [e]) h rfl
/-! PeerSearchModel.nearer([II[II[II)Z -/
theorem dX16_nearer_0 : decode cX16_nearer 0 = .ok (.iconst 0, 1) := by decide +kernel
theorem dX16_nearer_1 : decode cX16_nearer 1 = .ok (.istore 6, 2) := by decide +kernel
theorem dX16_nearer_3 : decode cX16_nearer 3 = .ok (.iload 6, 2) := by decide +kernel
theorem dX16_nearer_5 : decode cX16_nearer 5 = .ok (.iconst 5, 1) := by decide +kernel
theorem dX16_nearer_6 : decode cX16_nearer 6 = .ok (.if_icmp .ge 60, 3) := by decide +kernel
theorem dX16_nearer_9 : decode cX16_nearer 9 = .ok (.aload_n 0, 1) := by decide +kernel
theorem dX16_nearer_10 : decode cX16_nearer 10 = .ok (.iload_n 1, 1) := by decide +kernel
theorem dX16_nearer_11 : decode cX16_nearer 11 = .ok (.iload 6, 2) := by decide +kernel
theorem dX16_nearer_13 : decode cX16_nearer 13 = .ok (.iadd, 1) := by decide +kernel
theorem dX16_nearer_14 : decode cX16_nearer 14 = .ok (.iaload, 1) := by decide +kernel
theorem dX16_nearer_15 : decode cX16_nearer 15 = .ok (.aload 4, 2) := by decide +kernel
theorem dX16_nearer_17 : decode cX16_nearer 17 = .ok (.iload 5, 2) := by decide +kernel
theorem dX16_nearer_19 : decode cX16_nearer 19 = .ok (.iload 6, 2) := by decide +kernel
theorem dX16_nearer_21 : decode cX16_nearer 21 = .ok (.iadd, 1) := by decide +kernel
theorem dX16_nearer_22 : decode cX16_nearer 22 = .ok (.iaload, 1) := by decide +kernel
theorem dX16_nearer_23 : decode cX16_nearer 23 = .ok (.ixor, 1) := by decide +kernel
theorem dX16_nearer_24 : decode cX16_nearer 24 = .ok (.aload_n 2, 1) := by decide +kernel
theorem dX16_nearer_25 : decode cX16_nearer 25 = .ok (.iload_n 3, 1) := by decide +kernel
theorem dX16_nearer_26 : decode cX16_nearer 26 = .ok (.iload 6, 2) := by decide +kernel
theorem dX16_nearer_28 : decode cX16_nearer 28 = .ok (.iadd, 1) := by decide +kernel
theorem dX16_nearer_29 : decode cX16_nearer 29 = .ok (.iaload, 1) := by decide +kernel
theorem dX16_nearer_30 : decode cX16_nearer 30 = .ok (.aload 4, 2) := by decide +kernel
theorem dX16_nearer_32 : decode cX16_nearer 32 = .ok (.iload 5, 2) := by decide +kernel
theorem dX16_nearer_34 : decode cX16_nearer 34 = .ok (.iload 6, 2) := by decide +kernel
theorem dX16_nearer_36 : decode cX16_nearer 36 = .ok (.iadd, 1) := by decide +kernel
theorem dX16_nearer_37 : decode cX16_nearer 37 = .ok (.iaload, 1) := by decide +kernel
theorem dX16_nearer_38 : decode cX16_nearer 38 = .ok (.ixor, 1) := by decide +kernel
theorem dX16_nearer_39 : decode cX16_nearer 39 = .ok (.invokestatic 416, 3) := by decide +kernel
theorem dX16_nearer_42 : decode cX16_nearer 42 = .ok (.istore 7, 2) := by decide +kernel
theorem dX16_nearer_44 : decode cX16_nearer 44 = .ok (.iload 7, 2) := by decide +kernel
theorem dX16_nearer_46 : decode cX16_nearer 46 = .ok (.ifCond .eq 14, 3) := by decide +kernel
theorem dX16_nearer_49 : decode cX16_nearer 49 = .ok (.iload 7, 2) := by decide +kernel
theorem dX16_nearer_51 : decode cX16_nearer 51 = .ok (.ifCond .ge 7, 3) := by decide +kernel
theorem dX16_nearer_54 : decode cX16_nearer 54 = .ok (.iconst 1, 1) := by decide +kernel
theorem dX16_nearer_55 : decode cX16_nearer 55 = .ok (.goto 4, 3) := by decide +kernel
theorem dX16_nearer_58 : decode cX16_nearer 58 = .ok (.iconst 0, 1) := by decide +kernel
theorem dX16_nearer_59 : decode cX16_nearer 59 = .ok (.ireturn, 1) := by decide +kernel
theorem dX16_nearer_60 : decode cX16_nearer 60 = .ok (.iinc 6 1, 3) := by decide +kernel
theorem dX16_nearer_63 : decode cX16_nearer 63 = .ok (.goto (-60), 3) := by decide +kernel
theorem dX16_nearer_66 : decode cX16_nearer 66 = .ok (.iconst 0, 1) := by decide +kernel
theorem dX16_nearer_67 : decode cX16_nearer 67 = .ok (.ireturn, 1) := by decide +kernel
def j_X16_nearer_59 (y0 : Int) (V : VV) : Option (Int) :=
  bz y0 (some y0)
def j_X16_nearer_49 (x7 : Int) (V : VV) : Option (Int) :=
  if w32 x7 < 0 then
    j_X16_nearer_59 1 V
  else
    j_X16_nearer_59 0 V
def b_X16_nearer_3 (x0 x1 x2 x3 x4 x5 x6 : Int) (V : VV) : Option ((Int) ⊕ (Int)) :=
  if w32 x6 < w32 5 then
    (lp x0 (x1 + x6) V).bind fun v1 =>
    (lp x4 (x5 + x6) V).bind fun v2 =>
    (lp x2 (x3 + x6) V).bind fun v3 =>
    (lp x4 (x5 + x6) V).bind fun v4 =>
    (f_X16_order (bxor v1 v2) (bxor v3 v4)).bind fun v5 =>
    if w32 v5 = 0 then
      cnt (x6 + 1)
    else
      xit (j_X16_nearer_49 v5 V)
  else
    xit (some 0)
def l_X16_nearer_3 (x0 x1 x2 x3 x4 x5 x6 : Int) (V : VV) : Option (Int) := lpN (fun s : Int => b_X16_nearer_3 x0 x1 x2 x3 x4 x5 s V) FU x6
def f_X16_nearer (x0 x1 x2 x3 x4 x5 : Int) (V : VV) : Option (Int) :=
  l_X16_nearer_3 x0 x1 x2 x3 x4 x5 0 V
theorem s_X16_nearer_59 {g : GG} {d : Nat} (hD : 2 ≤ d) {y0 : Int} {M : MM} (hM : LM M) {V : VV} {o : AV × MM} {P : (Int) → Prop} (r0 : ∀ r : Int, P r → o = ((0, r), (wr M V))) {z : Int} (h : j_X16_nearer_59 y0 V = some z) (hz : P z) : Sem g d YX16_nearer 59 [(9, 0), (9, 0), (9, 0), (9, 0), (9, 0), (9, 0), (9, 0), (9, 0)] [(0, y0)] (wr M V) o := by
  delta j_X16_nearer_59 at h
  obtain ⟨hb, h⟩ := bz_some h
  obtain rfl := r0 _ (some_P (P := fun r => P r) h hz)
  exact P_ret dX16_nearer_59 rfl (Or.inr ⟨rfl, hb⟩)
theorem s_X16_nearer_49 {g : GG} {d : Nat} (hD : 2 ≤ d) {x7 : Int} {M : MM} (hM : LM M) {V : VV} {o : AV × MM} {P : (Int) → Prop} (r0 : ∀ r : Int, P r → o = ((0, r), (wr M V))) {z : Int} (h : j_X16_nearer_49 x7 V = some z) (hz : P z) : Sem g d YX16_nearer 49 [(9, 0), (9, 0), (9, 0), (9, 0), (9, 0), (9, 0), (9, 0), (0, x7)] [] (wr M V) o := by
  delta j_X16_nearer_49 at h
  refine S_iload dX16_nearer_49 rfl ?_
  refine P_if_ge (tgt := 58) dX16_nearer_51 rfl h (fun h => ?_) (fun h => ?_)
  · refine S_iconst dX16_nearer_58 rfl ?_
    refine S_weak (ls' := [(9, 0), (9, 0), (9, 0), (9, 0), (9, 0), (9, 0), (9, 0), (9, 0)]) ⟨Or.inl rfl, ⟨Or.inl rfl, ⟨Or.inl rfl, ⟨Or.inl rfl, ⟨Or.inl rfl, ⟨Or.inl rfl, ⟨Or.inl rfl, ⟨Or.inl rfl, trivial⟩⟩⟩⟩⟩⟩⟩⟩ ?_
    exact s_X16_nearer_59 hD hM r0 h hz
  · refine S_iconst dX16_nearer_54 rfl ?_
    refine S_goto (tgt := 59) dX16_nearer_55 rfl ?_
    refine S_weak (ls' := [(9, 0), (9, 0), (9, 0), (9, 0), (9, 0), (9, 0), (9, 0), (9, 0)]) ⟨Or.inl rfl, ⟨Or.inl rfl, ⟨Or.inl rfl, ⟨Or.inl rfl, ⟨Or.inl rfl, ⟨Or.inl rfl, ⟨Or.inl rfl, ⟨Or.inl rfl, trivial⟩⟩⟩⟩⟩⟩⟩⟩ ?_
    exact s_X16_nearer_59 hD hM r0 h hz
theorem s_X16_nearer_3 {g : GG} {d : Nat} (hD : 2 ≤ d) {x0 x1 x2 x3 x4 x5 x6 : Int} {M : MM} (hM : LM M) {V : VV} {o : AV × MM} {P : ((Int) ⊕ (Int)) → Prop} (c0 : ∀ s : Int, P (.inl s) → Sem g d YX16_nearer 3 [(1, x0), (0, x1), (1, x2), (0, x3), (1, x4), (0, x5), (0, s), (9, 0)] [] (wr M V) o) (r0 : ∀ r : Int, P (.inr r) → o = ((0, r), (wr M V))) {z : (Int) ⊕ (Int)} (h : b_X16_nearer_3 x0 x1 x2 x3 x4 x5 x6 V = some z) (hz : P z) : Sem g d YX16_nearer 3 [(1, x0), (0, x1), (1, x2), (0, x3), (1, x4), (0, x5), (0, x6), (9, 0)] [] (wr M V) o := by
  delta b_X16_nearer_3 at h
  refine S_iload dX16_nearer_3 rfl ?_
  refine S_iconst dX16_nearer_5 rfl ?_
  refine P_icmp_ge (tgt := 66) dX16_nearer_6 rfl h (fun h => ?_) (fun h => ?_)
  · obtain ⟨z0, h, hz⟩ := xit_some' (P := fun r => P r) h hz
    refine S_iconst dX16_nearer_66 rfl ?_
    obtain rfl := r0 _ (some_P (P := fun r => P (.inr r)) h hz)
    exact P_ret dX16_nearer_67 rfl (Or.inr ⟨rfl, Or.inl rfl⟩)
  · refine S_aload_n (i := 0) dX16_nearer_9 rfl rfl ?_
    refine S_iload_n (i := 1) dX16_nearer_10 rfl rfl ?_
    refine S_iload dX16_nearer_11 rfl ?_
    refine S_iadd dX16_nearer_13 ?_
    refine P2_lp hM dX16_nearer_14 h (fun v1 h => ?_)
    refine S_aload dX16_nearer_15 rfl ?_
    refine S_iload dX16_nearer_17 rfl ?_
    refine S_iload dX16_nearer_19 rfl ?_
    refine S_iadd dX16_nearer_21 ?_
    refine P2_lp hM dX16_nearer_22 h (fun v2 h => ?_)
    refine S_ixor dX16_nearer_23 ?_
    refine S_aload_n (i := 2) dX16_nearer_24 rfl rfl ?_
    refine S_iload_n (i := 3) dX16_nearer_25 rfl rfl ?_
    refine S_iload dX16_nearer_26 rfl ?_
    refine S_iadd dX16_nearer_28 ?_
    refine P2_lp hM dX16_nearer_29 h (fun v3 h => ?_)
    refine S_aload dX16_nearer_30 rfl ?_
    refine S_iload dX16_nearer_32 rfl ?_
    refine S_iload dX16_nearer_34 rfl ?_
    refine S_iadd dX16_nearer_36 ?_
    refine P2_lp hM dX16_nearer_37 h (fun v4 h => ?_)
    refine S_ixor dX16_nearer_38 ?_
    refine P_invSp 0 [(0, bxor v1 v2), (0, bxor v3 v4)] [] CSX16_order MLX16_416 dX16_nearer_39 rfl rfl rfl rfl rfl (by omega) h (fun r h => F_X16_order (by omega) hM h) (fun v5 h => ?_)
    refine S_istore dX16_nearer_42 (Nat.le_of_ble_eq_true rfl) rfl rfl ?_
    change Sem g d YX16_nearer 44 [(1, x0), (0, x1), (1, x2), (0, x3), (1, x4), (0, x5), (0, x6), (0, v5)] [] (wr M V) o
    refine S_iload dX16_nearer_44 rfl ?_
    refine P_if_eq (tgt := 60) dX16_nearer_46 rfl h (fun h => ?_) (fun h => ?_)
    · refine S_iinc dX16_nearer_60 rfl rfl rfl ?_
      change Sem g d YX16_nearer 63 [(1, x0), (0, x1), (1, x2), (0, x3), (1, x4), (0, x5), (0, x6 + 1), (0, v5)] [] (wr M V) o
      refine S_goto (tgt := 3) dX16_nearer_63 rfl ?_
      refine S_weak (ls' := [(1, x0), (0, x1), (1, x2), (0, x3), (1, x4), (0, x5), (0, x6 + 1), (9, 0)]) ⟨Or.inr rfl, ⟨Or.inr rfl, ⟨Or.inr rfl, ⟨Or.inr rfl, ⟨Or.inr rfl, ⟨Or.inr rfl, ⟨Or.inr rfl, ⟨Or.inl rfl, trivial⟩⟩⟩⟩⟩⟩⟩⟩ ?_
      exact c0 (x6 + 1) (some_P (P := fun r => P r) h hz)
    · refine S_weak (ls' := [(9, 0), (9, 0), (9, 0), (9, 0), (9, 0), (9, 0), (9, 0), (0, v5)]) ⟨Or.inl rfl, ⟨Or.inl rfl, ⟨Or.inl rfl, ⟨Or.inl rfl, ⟨Or.inl rfl, ⟨Or.inl rfl, ⟨Or.inl rfl, ⟨Or.inr rfl, trivial⟩⟩⟩⟩⟩⟩⟩⟩ ?_
      obtain ⟨z0, h, hz⟩ := xit_some' (P := fun r => P r) h hz
      exact s_X16_nearer_49 hD hM (P := fun r => P (.inr r)) r0 h hz
theorem sl_X16_nearer_3 {g : GG} {d : Nat} (hD : 2 ≤ d) {x0 x1 x2 x3 x4 x5 x6 : Int} {M : MM} (hM : LM M) {V : VV} {o : AV × MM} {P : (Int) → Prop} (r0 : ∀ r : Int, P r → o = ((0, r), (wr M V))) {z : Int} (h : l_X16_nearer_3 x0 x1 x2 x3 x4 x5 x6 V = some z) (hz : P z) : Sem g d YX16_nearer 3 [(1, x0), (0, x1), (1, x2), (0, x3), (1, x4), (0, x5), (0, x6), (9, 0)] [] (wr M V) o := by
  refine lp_sound (S := fun s : Int => Sem g d YX16_nearer 3 [(1, x0), (0, x1), (1, x2), (0, x3), (1, x4), (0, x5), (0, s), (9, 0)] [] (wr M V) o) (P := P) ?_ FU x6 z h hz
  intro s x hx hP
  exact s_X16_nearer_3 hD hM (P := Sum.elim (fun s : Int => Sem g d YX16_nearer 3 [(1, x0), (0, x1), (1, x2), (0, x3), (1, x4), (0, x5), (0, s), (9, 0)] [] (wr M V) o) P) (fun s h => h) (fun s h => r0 s h) hx hP
theorem s_X16_nearer_0 {g : GG} {d : Nat} (hD : 2 ≤ d) {x0 x1 x2 x3 x4 x5 : Int} {M : MM} (hM : LM M) {V : VV} {o : AV × MM} {P : (Int) → Prop} (r0 : ∀ r : Int, P r → o = ((0, r), (wr M V))) {z : Int} (h : f_X16_nearer x0 x1 x2 x3 x4 x5 V = some z) (hz : P z) : Sem g d YX16_nearer 0 [(1, x0), (0, x1), (1, x2), (0, x3), (1, x4), (0, x5), (9, 0), (9, 0)] [] (wr M V) o := by
  delta f_X16_nearer at h
  refine S_iconst dX16_nearer_0 rfl ?_
  refine S_istore dX16_nearer_1 (Nat.le_of_ble_eq_true rfl) rfl rfl ?_
  change Sem g d YX16_nearer 3 [(1, x0), (0, x1), (1, x2), (0, x3), (1, x4), (0, x5), (0, 0), (9, 0)] [] (wr M V) o
  exact sl_X16_nearer_3 hD hM r0 h hz
theorem F_X16_nearer {g : GG} {d : Nat} (hD : 2 ≤ d) {x0 x1 x2 x3 x4 x5 : Int} {M : MM} (hM : LM M) {V : VV} {r : Int} (h : f_X16_nearer x0 x1 x2 x3 x4 x5 V = some r) : Sem g d YX16_nearer 0 (ini YX16_nearer [(1, x0), (0, x1), (1, x2), (0, x3), (1, x4), (0, x5)]) [] (wr M V) ((0, r), (wr M V)) := by
  change Sem g d YX16_nearer 0 [(1, x0), (0, x1), (1, x2), (0, x3), (1, x4), (0, x5), (9, 0), (9, 0)] [] (wr M V) ((0, r), (wr M V))
  exact s_X16_nearer_0 hD hM (P := fun x => x = r) (fun q e => by rw [e]) h rfl
/-! PeerSearchModel.addEntry(I[IIII)V -/
theorem dX16_addEntry_0 : decode cX16_addEntry 0 = .ok (.aload_n 0, 1) := by decide +kernel
theorem dX16_addEntry_1 : decode cX16_addEntry 1 = .ok (.iload_n 1, 1) := by decide +kernel
theorem dX16_addEntry_2 : decode cX16_addEntry 2 = .ok (.aload_n 2, 1) := by decide +kernel
theorem dX16_addEntry_3 : decode cX16_addEntry 3 = .ok (.iload_n 3, 1) := by decide +kernel
theorem dX16_addEntry_4 : decode cX16_addEntry 4 = .ok (.invokevirtual 618, 3) := by decide +kernel
theorem dX16_addEntry_7 : decode cX16_addEntry 7 = .ok (.ifCond .lt 4, 3) := by decide +kernel
theorem dX16_addEntry_10 : decode cX16_addEntry 10 = .ok (.return_, 1) := by decide +kernel
theorem dX16_addEntry_11 : decode cX16_addEntry 11 = .ok (.bipush 65, 2) := by decide +kernel
theorem dX16_addEntry_13 : decode cX16_addEntry 13 = .ok (.iload_n 1, 1) := by decide +kernel
theorem dX16_addEntry_14 : decode cX16_addEntry 14 = .ok (.imul, 1) := by decide +kernel
theorem dX16_addEntry_15 : decode cX16_addEntry 15 = .ok (.aload_n 0, 1) := by decide +kernel
theorem dX16_addEntry_16 : decode cX16_addEntry 16 = .ok (.getfield 249, 3) := by decide +kernel
theorem dX16_addEntry_19 : decode cX16_addEntry 19 = .ok (.iload_n 1, 1) := by decide +kernel
theorem dX16_addEntry_20 : decode cX16_addEntry 20 = .ok (.iaload, 1) := by decide +kernel
theorem dX16_addEntry_21 : decode cX16_addEntry 21 = .ok (.iadd, 1) := by decide +kernel
theorem dX16_addEntry_22 : decode cX16_addEntry 22 = .ok (.istore 6, 2) := by decide +kernel
theorem dX16_addEntry_24 : decode cX16_addEntry 24 = .ok (.aload_n 0, 1) := by decide +kernel
theorem dX16_addEntry_25 : decode cX16_addEntry 25 = .ok (.getfield 249, 3) := by decide +kernel
theorem dX16_addEntry_28 : decode cX16_addEntry 28 = .ok (.iload_n 1, 1) := by decide +kernel
theorem dX16_addEntry_29 : decode cX16_addEntry 29 = .ok (.dup2, 1) := by decide +kernel
theorem dX16_addEntry_30 : decode cX16_addEntry 30 = .ok (.iaload, 1) := by decide +kernel
theorem dX16_addEntry_31 : decode cX16_addEntry 31 = .ok (.iconst 1, 1) := by decide +kernel
theorem dX16_addEntry_32 : decode cX16_addEntry 32 = .ok (.iadd, 1) := by decide +kernel
theorem dX16_addEntry_33 : decode cX16_addEntry 33 = .ok (.iastore, 1) := by decide +kernel
theorem dX16_addEntry_34 : decode cX16_addEntry 34 = .ok (.aload_n 0, 1) := by decide +kernel
theorem dX16_addEntry_35 : decode cX16_addEntry 35 = .ok (.getfield 252, 3) := by decide +kernel
theorem dX16_addEntry_38 : decode cX16_addEntry 38 = .ok (.iconst 5, 1) := by decide +kernel
theorem dX16_addEntry_39 : decode cX16_addEntry 39 = .ok (.iload 6, 2) := by decide +kernel
theorem dX16_addEntry_41 : decode cX16_addEntry 41 = .ok (.imul, 1) := by decide +kernel
theorem dX16_addEntry_42 : decode cX16_addEntry 42 = .ok (.aload_n 2, 1) := by decide +kernel
theorem dX16_addEntry_43 : decode cX16_addEntry 43 = .ok (.iload_n 3, 1) := by decide +kernel
theorem dX16_addEntry_44 : decode cX16_addEntry 44 = .ok (.invokestatic 438, 3) := by decide +kernel
theorem dX16_addEntry_47 : decode cX16_addEntry 47 = .ok (.aload_n 0, 1) := by decide +kernel
theorem dX16_addEntry_48 : decode cX16_addEntry 48 = .ok (.getfield 255, 3) := by decide +kernel
theorem dX16_addEntry_51 : decode cX16_addEntry 51 = .ok (.iload 6, 2) := by decide +kernel
theorem dX16_addEntry_53 : decode cX16_addEntry 53 = .ok (.iload 4, 2) := by decide +kernel
theorem dX16_addEntry_55 : decode cX16_addEntry 55 = .ok (.iastore, 1) := by decide +kernel
theorem dX16_addEntry_56 : decode cX16_addEntry 56 = .ok (.aload_n 0, 1) := by decide +kernel
theorem dX16_addEntry_57 : decode cX16_addEntry 57 = .ok (.getfield 258, 3) := by decide +kernel
theorem dX16_addEntry_60 : decode cX16_addEntry 60 = .ok (.iload 6, 2) := by decide +kernel
theorem dX16_addEntry_62 : decode cX16_addEntry 62 = .ok (.iload 5, 2) := by decide +kernel
theorem dX16_addEntry_64 : decode cX16_addEntry 64 = .ok (.iastore, 1) := by decide +kernel
theorem dX16_addEntry_65 : decode cX16_addEntry 65 = .ok (.aload_n 0, 1) := by decide +kernel
theorem dX16_addEntry_66 : decode cX16_addEntry 66 = .ok (.getfield 261, 3) := by decide +kernel
theorem dX16_addEntry_69 : decode cX16_addEntry 69 = .ok (.iload 6, 2) := by decide +kernel
theorem dX16_addEntry_71 : decode cX16_addEntry 71 = .ok (.iconst (-1), 1) := by decide +kernel
theorem dX16_addEntry_72 : decode cX16_addEntry 72 = .ok (.iastore, 1) := by decide +kernel
theorem dX16_addEntry_73 : decode cX16_addEntry 73 = .ok (.aload_n 0, 1) := by decide +kernel
theorem dX16_addEntry_74 : decode cX16_addEntry 74 = .ok (.getfield 249, 3) := by decide +kernel
theorem dX16_addEntry_77 : decode cX16_addEntry 77 = .ok (.iload_n 1, 1) := by decide +kernel
theorem dX16_addEntry_78 : decode cX16_addEntry 78 = .ok (.iaload, 1) := by decide +kernel
theorem dX16_addEntry_79 : decode cX16_addEntry 79 = .ok (.bipush 65, 2) := by decide +kernel
theorem dX16_addEntry_81 : decode cX16_addEntry 81 = .ok (.if_icmp .ge 4, 3) := by decide +kernel
theorem dX16_addEntry_84 : decode cX16_addEntry 84 = .ok (.return_, 1) := by decide +kernel
theorem dX16_addEntry_85 : decode cX16_addEntry 85 = .ok (.bipush 65, 2) := by decide +kernel
theorem dX16_addEntry_87 : decode cX16_addEntry 87 = .ok (.iload_n 1, 1) := by decide +kernel
theorem dX16_addEntry_88 : decode cX16_addEntry 88 = .ok (.imul, 1) := by decide +kernel
theorem dX16_addEntry_89 : decode cX16_addEntry 89 = .ok (.istore 7, 2) := by decide +kernel
theorem dX16_addEntry_91 : decode cX16_addEntry 91 = .ok (.bipush 65, 2) := by decide +kernel
theorem dX16_addEntry_93 : decode cX16_addEntry 93 = .ok (.iload_n 1, 1) := by decide +kernel
theorem dX16_addEntry_94 : decode cX16_addEntry 94 = .ok (.imul, 1) := by decide +kernel
theorem dX16_addEntry_95 : decode cX16_addEntry 95 = .ok (.istore 8, 2) := by decide +kernel
theorem dX16_addEntry_97 : decode cX16_addEntry 97 = .ok (.iload 8, 2) := by decide +kernel
theorem dX16_addEntry_99 : decode cX16_addEntry 99 = .ok (.iload 6, 2) := by decide +kernel
theorem dX16_addEntry_101 : decode cX16_addEntry 101 = .ok (.if_icmp .gt 47, 3) := by decide +kernel
theorem dX16_addEntry_104 : decode cX16_addEntry 104 = .ok (.aload_n 0, 1) := by decide +kernel
theorem dX16_addEntry_105 : decode cX16_addEntry 105 = .ok (.getfield 252, 3) := by decide +kernel
theorem dX16_addEntry_108 : decode cX16_addEntry 108 = .ok (.iconst 5, 1) := by decide +kernel
theorem dX16_addEntry_109 : decode cX16_addEntry 109 = .ok (.iload 7, 2) := by decide +kernel
theorem dX16_addEntry_111 : decode cX16_addEntry 111 = .ok (.imul, 1) := by decide +kernel
theorem dX16_addEntry_112 : decode cX16_addEntry 112 = .ok (.aload_n 0, 1) := by decide +kernel
theorem dX16_addEntry_113 : decode cX16_addEntry 113 = .ok (.getfield 252, 3) := by decide +kernel
theorem dX16_addEntry_116 : decode cX16_addEntry 116 = .ok (.iconst 5, 1) := by decide +kernel
theorem dX16_addEntry_117 : decode cX16_addEntry 117 = .ok (.iload 8, 2) := by decide +kernel
theorem dX16_addEntry_119 : decode cX16_addEntry 119 = .ok (.imul, 1) := by decide +kernel
theorem dX16_addEntry_120 : decode cX16_addEntry 120 = .ok (.aload_n 0, 1) := by decide +kernel
theorem dX16_addEntry_121 : decode cX16_addEntry 121 = .ok (.getfield 243, 3) := by decide +kernel
theorem dX16_addEntry_124 : decode cX16_addEntry 124 = .ok (.iconst 5, 1) := by decide +kernel
theorem dX16_addEntry_125 : decode cX16_addEntry 125 = .ok (.iload_n 1, 1) := by decide +kernel
theorem dX16_addEntry_126 : decode cX16_addEntry 126 = .ok (.imul, 1) := by decide +kernel
theorem dX16_addEntry_127 : decode cX16_addEntry 127 = .ok (.invokestatic 540, 3) := by decide +kernel
theorem dX16_addEntry_130 : decode cX16_addEntry 130 = .ok (.ifCond .eq 8, 3) := by decide +kernel
theorem dX16_addEntry_133 : decode cX16_addEntry 133 = .ok (.iload 8, 2) := by decide +kernel
theorem dX16_addEntry_135 : decode cX16_addEntry 135 = .ok (.goto 5, 3) := by decide +kernel
theorem dX16_addEntry_138 : decode cX16_addEntry 138 = .ok (.iload 7, 2) := by decide +kernel
theorem dX16_addEntry_140 : decode cX16_addEntry 140 = .ok (.istore 7, 2) := by decide +kernel
theorem dX16_addEntry_142 : decode cX16_addEntry 142 = .ok (.iinc 8 1, 3) := by decide +kernel
theorem dX16_addEntry_145 : decode cX16_addEntry 145 = .ok (.goto (-48), 3) := by decide +kernel
theorem dX16_addEntry_148 : decode cX16_addEntry 148 = .ok (.aload_n 0, 1) := by decide +kernel
theorem dX16_addEntry_149 : decode cX16_addEntry 149 = .ok (.getfield 249, 3) := by decide +kernel
theorem dX16_addEntry_152 : decode cX16_addEntry 152 = .ok (.iload_n 1, 1) := by decide +kernel
theorem dX16_addEntry_153 : decode cX16_addEntry 153 = .ok (.dup2, 1) := by decide +kernel
theorem dX16_addEntry_154 : decode cX16_addEntry 154 = .ok (.iaload, 1) := by decide +kernel
theorem dX16_addEntry_155 : decode cX16_addEntry 155 = .ok (.iconst 1, 1) := by decide +kernel
theorem dX16_addEntry_156 : decode cX16_addEntry 156 = .ok (.isub, 1) := by decide +kernel
theorem dX16_addEntry_157 : decode cX16_addEntry 157 = .ok (.iastore, 1) := by decide +kernel
theorem dX16_addEntry_158 : decode cX16_addEntry 158 = .ok (.aload_n 0, 1) := by decide +kernel
theorem dX16_addEntry_159 : decode cX16_addEntry 159 = .ok (.getfield 252, 3) := by decide +kernel
theorem dX16_addEntry_162 : decode cX16_addEntry 162 = .ok (.iconst 5, 1) := by decide +kernel
theorem dX16_addEntry_163 : decode cX16_addEntry 163 = .ok (.iload 7, 2) := by decide +kernel
theorem dX16_addEntry_165 : decode cX16_addEntry 165 = .ok (.imul, 1) := by decide +kernel
theorem dX16_addEntry_166 : decode cX16_addEntry 166 = .ok (.aload_n 0, 1) := by decide +kernel
theorem dX16_addEntry_167 : decode cX16_addEntry 167 = .ok (.getfield 252, 3) := by decide +kernel
theorem dX16_addEntry_170 : decode cX16_addEntry 170 = .ok (.iconst 5, 1) := by decide +kernel
theorem dX16_addEntry_171 : decode cX16_addEntry 171 = .ok (.iload 6, 2) := by decide +kernel
theorem dX16_addEntry_173 : decode cX16_addEntry 173 = .ok (.imul, 1) := by decide +kernel
theorem dX16_addEntry_174 : decode cX16_addEntry 174 = .ok (.invokestatic 438, 3) := by decide +kernel
theorem dX16_addEntry_177 : decode cX16_addEntry 177 = .ok (.aload_n 0, 1) := by decide +kernel
theorem dX16_addEntry_178 : decode cX16_addEntry 178 = .ok (.getfield 255, 3) := by decide +kernel
theorem dX16_addEntry_181 : decode cX16_addEntry 181 = .ok (.iload 7, 2) := by decide +kernel
theorem dX16_addEntry_183 : decode cX16_addEntry 183 = .ok (.aload_n 0, 1) := by decide +kernel
theorem dX16_addEntry_184 : decode cX16_addEntry 184 = .ok (.getfield 255, 3) := by decide +kernel
theorem dX16_addEntry_187 : decode cX16_addEntry 187 = .ok (.iload 6, 2) := by decide +kernel
theorem dX16_addEntry_189 : decode cX16_addEntry 189 = .ok (.iaload, 1) := by decide +kernel
theorem dX16_addEntry_190 : decode cX16_addEntry 190 = .ok (.iastore, 1) := by decide +kernel
theorem dX16_addEntry_191 : decode cX16_addEntry 191 = .ok (.aload_n 0, 1) := by decide +kernel
theorem dX16_addEntry_192 : decode cX16_addEntry 192 = .ok (.getfield 258, 3) := by decide +kernel
theorem dX16_addEntry_195 : decode cX16_addEntry 195 = .ok (.iload 7, 2) := by decide +kernel
theorem dX16_addEntry_197 : decode cX16_addEntry 197 = .ok (.aload_n 0, 1) := by decide +kernel
theorem dX16_addEntry_198 : decode cX16_addEntry 198 = .ok (.getfield 258, 3) := by decide +kernel
theorem dX16_addEntry_201 : decode cX16_addEntry 201 = .ok (.iload 6, 2) := by decide +kernel
theorem dX16_addEntry_203 : decode cX16_addEntry 203 = .ok (.iaload, 1) := by decide +kernel
theorem dX16_addEntry_204 : decode cX16_addEntry 204 = .ok (.iastore, 1) := by decide +kernel
theorem dX16_addEntry_205 : decode cX16_addEntry 205 = .ok (.aload_n 0, 1) := by decide +kernel
theorem dX16_addEntry_206 : decode cX16_addEntry 206 = .ok (.getfield 261, 3) := by decide +kernel
theorem dX16_addEntry_209 : decode cX16_addEntry 209 = .ok (.iload 7, 2) := by decide +kernel
theorem dX16_addEntry_211 : decode cX16_addEntry 211 = .ok (.aload_n 0, 1) := by decide +kernel
theorem dX16_addEntry_212 : decode cX16_addEntry 212 = .ok (.getfield 261, 3) := by decide +kernel
theorem dX16_addEntry_215 : decode cX16_addEntry 215 = .ok (.iload 6, 2) := by decide +kernel
theorem dX16_addEntry_217 : decode cX16_addEntry 217 = .ok (.iaload, 1) := by decide +kernel
theorem dX16_addEntry_218 : decode cX16_addEntry 218 = .ok (.iastore, 1) := by decide +kernel
theorem dX16_addEntry_219 : decode cX16_addEntry 219 = .ok (.return_, 1) := by decide +kernel
def j_X16_addEntry_148 (x1 x6 x7 : Int) (V : VV) : Option (VV) :=
  (l2 234 44 x1 V).bind fun v1 =>
  (s2 234 44 x1 (v1 - 1) V).bind fun V1 =>
  (f_X16_put 235 (5 * x7) 235 (5 * x6) V1).bind fun V2 =>
  (l2 236 2860 x6 V2).bind fun v2 =>
  (s2 236 2860 x7 v2 V2).bind fun V3 =>
  (l2 237 2860 x6 V3).bind fun v3 =>
  (s2 237 2860 x7 v3 V3).bind fun V4 =>
  (l2 238 2860 x6 V4).bind fun v4 =>
  (s2 238 2860 x7 v4 V4).bind fun V5 =>
  some V5
def j_X16_addEntry_140 (x1 x6 x8 y0 : Int) (V : VV) : Option ((Int × Int) ⊕ (VV)) :=
  cnt (y0, x8 + 1)
def b_X16_addEntry_97 (x1 x6 x7 x8 : Int) (V : VV) : Option ((Int × Int) ⊕ (VV)) :=
  if w32 x6 < w32 x8 then
    xit (j_X16_addEntry_148 x1 x6 x7 V)
  else
    (f_X16_nearer 235 (5 * x7) 235 (5 * x8) 232 (5 * x1) V).bind fun v1 =>
    if w32 v1 = 0 then
      j_X16_addEntry_140 x1 x6 x8 x7 V
    else
      j_X16_addEntry_140 x1 x6 x8 x8 V
def l_X16_addEntry_97 (x1 x6 x7 x8 : Int) (V : VV) : Option (VV) := lpN (fun s : Int × Int => b_X16_addEntry_97 x1 x6 s.1 s.2 V) FU (x7, x8)
def f_X16_addEntry (x1 x2 x3 x4 x5 : Int) (V : VV) : Option (VV) :=
  (f_X16_entryWith x1 x2 x3 V).bind fun v1 =>
  if w32 v1 < 0 then
    (l2 234 44 x1 V).bind fun v2 =>
    (l2 234 44 x1 V).bind fun v3 =>
    (s2 234 44 x1 (v3 + 1) V).bind fun V1 =>
    (f_X16_put 235 (5 * ((65 * x1) + v2)) x2 x3 V1).bind fun V2 =>
    (s2 236 2860 ((65 * x1) + v2) x4 V2).bind fun V3 =>
    (s2 237 2860 ((65 * x1) + v2) x5 V3).bind fun V4 =>
    (s2 238 2860 ((65 * x1) + v2) (-1) V4).bind fun V5 =>
    (l2 234 44 x1 V5).bind fun v4 =>
    if w32 v4 < w32 65 then
      some V5
    else
      l_X16_addEntry_97 x1 ((65 * x1) + v2) (65 * x1) (65 * x1) V5
  else
    some V
theorem s_X16_addEntry_148 {g : GG} {d : Nat} (hD : 3 ≤ d) {x1 x6 x7 : Int} {M : MM} (hM : LM M) {V : VV} {o : AV × MM} {P : (VV) → Prop} (r0 : ∀ r : VV, P r → o = ((9, 0), (wr M r))) {z : VV} (h : j_X16_addEntry_148 x1 x6 x7 V = some z) (hz : P z) : Sem g d YX16_addEntry 148 [(1, 156), (0, x1), (9, 0), (9, 0), (9, 0), (9, 0), (0, x6), (0, x7), (9, 0)] [] (wr M V) o := by
  delta j_X16_addEntry_148 at h
  refine S_aload_n (i := 0) dX16_addEntry_148 rfl rfl ?_
  refine P2_gfr hM (a := 234) FLX16_249 rfl ⟨rfl, rfl⟩ dX16_addEntry_149 ?_
  refine S_iload_n (i := 1) dX16_addEntry_152 rfl rfl ?_
  refine S_dup2 dX16_addEntry_153 (Nat.le_of_ble_eq_true rfl) (Nat.le_of_ble_eq_true rfl) ?_
  refine P2_lai hM (a := 234) (n := 44) rfl dX16_addEntry_154 h (fun v1 h => ?_)
  refine S_iconst dX16_addEntry_155 rfl ?_
  refine S_isub dX16_addEntry_156 ?_
  refine P2_sai hM (a := 234) (n := 44) rfl dX16_addEntry_157 h (fun V1 h => ?_)
  refine S_aload_n (i := 0) dX16_addEntry_158 rfl rfl ?_
  refine P2_gfr hM (a := 235) FLX16_252 rfl ⟨rfl, rfl⟩ dX16_addEntry_159 ?_
  refine S_iconst dX16_addEntry_162 rfl ?_
  refine S_iload dX16_addEntry_163 rfl ?_
  refine S_imul dX16_addEntry_165 ?_
  refine S_aload_n (i := 0) dX16_addEntry_166 rfl rfl ?_
  refine P2_gfr hM (a := 235) FLX16_252 rfl ⟨rfl, rfl⟩ dX16_addEntry_167 ?_
  refine S_iconst dX16_addEntry_170 rfl ?_
  refine S_iload dX16_addEntry_171 rfl ?_
  refine S_imul dX16_addEntry_173 ?_
  refine P2_invSm hM [(1, 235), (0, 5 * x7), (1, 235), (0, 5 * x6)] [] CSX16_put MLX16_438 dX16_addEntry_174 rfl rfl rfl rfl (by omega) h (fun r h => F_X16_put (by omega) hM h) (fun V2 h => ?_)
  refine S_aload_n (i := 0) dX16_addEntry_177 rfl rfl ?_
  refine P2_gfr hM (a := 236) FLX16_255 rfl ⟨rfl, rfl⟩ dX16_addEntry_178 ?_
  refine S_iload dX16_addEntry_181 rfl ?_
  refine S_aload_n (i := 0) dX16_addEntry_183 rfl rfl ?_
  refine P2_gfr hM (a := 236) FLX16_255 rfl ⟨rfl, rfl⟩ dX16_addEntry_184 ?_
  refine S_iload dX16_addEntry_187 rfl ?_
  refine P2_lai hM (a := 236) (n := 2860) rfl dX16_addEntry_189 h (fun v2 h => ?_)
  refine P2_sai hM (a := 236) (n := 2860) rfl dX16_addEntry_190 h (fun V3 h => ?_)
  refine S_aload_n (i := 0) dX16_addEntry_191 rfl rfl ?_
  refine P2_gfr hM (a := 237) FLX16_258 rfl ⟨rfl, rfl⟩ dX16_addEntry_192 ?_
  refine S_iload dX16_addEntry_195 rfl ?_
  refine S_aload_n (i := 0) dX16_addEntry_197 rfl rfl ?_
  refine P2_gfr hM (a := 237) FLX16_258 rfl ⟨rfl, rfl⟩ dX16_addEntry_198 ?_
  refine S_iload dX16_addEntry_201 rfl ?_
  refine P2_lai hM (a := 237) (n := 2860) rfl dX16_addEntry_203 h (fun v3 h => ?_)
  refine P2_sai hM (a := 237) (n := 2860) rfl dX16_addEntry_204 h (fun V4 h => ?_)
  refine S_aload_n (i := 0) dX16_addEntry_205 rfl rfl ?_
  refine P2_gfr hM (a := 238) FLX16_261 rfl ⟨rfl, rfl⟩ dX16_addEntry_206 ?_
  refine S_iload dX16_addEntry_209 rfl ?_
  refine S_aload_n (i := 0) dX16_addEntry_211 rfl rfl ?_
  refine P2_gfr hM (a := 238) FLX16_261 rfl ⟨rfl, rfl⟩ dX16_addEntry_212 ?_
  refine S_iload dX16_addEntry_215 rfl ?_
  refine P2_lai hM (a := 238) (n := 2860) rfl dX16_addEntry_217 h (fun v4 h => ?_)
  refine P2_sai hM (a := 238) (n := 2860) rfl dX16_addEntry_218 h (fun V5 h => ?_)
  obtain rfl := r0 _ (some_P (P := fun r => P r) h hz)
  exact S_return dX16_addEntry_219 rfl
theorem s_X16_addEntry_140 {g : GG} {d : Nat} (hD : 3 ≤ d) {x1 x6 x8 y0 : Int} {M : MM} (hM : LM M) {V : VV} {o : AV × MM} {P : ((Int × Int) ⊕ (VV)) → Prop} (c0 : ∀ s : Int × Int, P (.inl s) → Sem g d YX16_addEntry 97 [(1, 156), (0, x1), (9, 0), (9, 0), (9, 0), (9, 0), (0, x6), (0, s.1), (0, s.2)] [] (wr M V) o) (r0 : ∀ r : VV, P (.inr r) → o = ((9, 0), (wr M r))) {z : (Int × Int) ⊕ (VV)} (h : j_X16_addEntry_140 x1 x6 x8 y0 V = some z) (hz : P z) : Sem g d YX16_addEntry 140 [(1, 156), (0, x1), (9, 0), (9, 0), (9, 0), (9, 0), (0, x6), (9, 0), (0, x8)] [(0, y0)] (wr M V) o := by
  delta j_X16_addEntry_140 at h
  refine S_istore dX16_addEntry_140 (Nat.le_of_ble_eq_true rfl) rfl rfl ?_
  change Sem g d YX16_addEntry 142 [(1, 156), (0, x1), (9, 0), (9, 0), (9, 0), (9, 0), (0, x6), (0, y0), (0, x8)] [] (wr M V) o
  refine S_iinc dX16_addEntry_142 rfl rfl rfl ?_
  change Sem g d YX16_addEntry 145 [(1, 156), (0, x1), (9, 0), (9, 0), (9, 0), (9, 0), (0, x6), (0, y0), (0, x8 + 1)] [] (wr M V) o
  refine S_goto (tgt := 97) dX16_addEntry_145 rfl ?_
  exact c0 (y0, x8 + 1) (some_P (P := fun r => P r) h hz)
theorem s_X16_addEntry_97 {g : GG} {d : Nat} (hD : 3 ≤ d) {x1 x6 x7 x8 : Int} {M : MM} (hM : LM M) {V : VV} {o : AV × MM} {P : ((Int × Int) ⊕ (VV)) → Prop} (c0 : ∀ s : Int × Int, P (.inl s) → Sem g d YX16_addEntry 97 [(1, 156), (0, x1), (9, 0), (9, 0), (9, 0), (9, 0), (0, x6), (0, s.1), (0, s.2)] [] (wr M V) o) (r0 : ∀ r : VV, P (.inr r) → o = ((9, 0), (wr M r))) {z : (Int × Int) ⊕ (VV)} (h : b_X16_addEntry_97 x1 x6 x7 x8 V = some z) (hz : P z) : Sem g d YX16_addEntry 97 [(1, 156), (0, x1), (9, 0), (9, 0), (9, 0), (9, 0), (0, x6), (0, x7), (0, x8)] [] (wr M V) o := by
  delta b_X16_addEntry_97 at h
  refine S_iload dX16_addEntry_97 rfl ?_
  refine S_iload dX16_addEntry_99 rfl ?_
  refine P_icmp_gt (tgt := 148) dX16_addEntry_101 rfl h (fun h => ?_) (fun h => ?_)
  · refine S_weak (ls' := [(1, 156), (0, x1), (9, 0), (9, 0), (9, 0), (9, 0), (0, x6), (0, x7), (9, 0)]) ⟨Or.inr rfl, ⟨Or.inr rfl, ⟨Or.inl rfl, ⟨Or.inl rfl, ⟨Or.inl rfl, ⟨Or.inl rfl, ⟨Or.inr rfl, ⟨Or.inr rfl, ⟨Or.inl rfl, trivial⟩⟩⟩⟩⟩⟩⟩⟩⟩ ?_
    obtain ⟨z0, h, hz⟩ := xit_some' (P := fun r => P r) h hz
    exact s_X16_addEntry_148 hD hM (P := fun r => P (.inr r)) r0 h hz
  · refine S_aload_n (i := 0) dX16_addEntry_104 rfl rfl ?_
    refine P2_gfr hM (a := 235) FLX16_252 rfl ⟨rfl, rfl⟩ dX16_addEntry_105 ?_
    refine S_iconst dX16_addEntry_108 rfl ?_
    refine S_iload dX16_addEntry_109 rfl ?_
    refine S_imul dX16_addEntry_111 ?_
    refine S_aload_n (i := 0) dX16_addEntry_112 rfl rfl ?_
    refine P2_gfr hM (a := 235) FLX16_252 rfl ⟨rfl, rfl⟩ dX16_addEntry_113 ?_
    refine S_iconst dX16_addEntry_116 rfl ?_
    refine S_iload dX16_addEntry_117 rfl ?_
    refine S_imul dX16_addEntry_119 ?_
    refine S_aload_n (i := 0) dX16_addEntry_120 rfl rfl ?_
    refine P2_gfr hM (a := 232) FLX16_243 rfl ⟨rfl, rfl⟩ dX16_addEntry_121 ?_
    refine S_iconst dX16_addEntry_124 rfl ?_
    refine S_iload_n (i := 1) dX16_addEntry_125 rfl rfl ?_
    refine S_imul dX16_addEntry_126 ?_
    refine P_invSp 0 [(1, 235), (0, 5 * x7), (1, 235), (0, 5 * x8), (1, 232), (0, 5 * x1)] [] CSX16_nearer MLX16_540 dX16_addEntry_127 rfl rfl rfl rfl rfl (by omega) h (fun r h => F_X16_nearer (by omega) hM h) (fun v1 h => ?_)
    refine P_if_eq (tgt := 138) dX16_addEntry_130 rfl h (fun h => ?_) (fun h => ?_)
    · refine S_iload dX16_addEntry_138 rfl ?_
      refine S_weak (ls' := [(1, 156), (0, x1), (9, 0), (9, 0), (9, 0), (9, 0), (0, x6), (9, 0), (0, x8)]) ⟨Or.inr rfl, ⟨Or.inr rfl, ⟨Or.inl rfl, ⟨Or.inl rfl, ⟨Or.inl rfl, ⟨Or.inl rfl, ⟨Or.inr rfl, ⟨Or.inl rfl, ⟨Or.inr rfl, trivial⟩⟩⟩⟩⟩⟩⟩⟩⟩ ?_
      exact s_X16_addEntry_140 hD hM c0 r0 h hz
    · refine S_iload dX16_addEntry_133 rfl ?_
      refine S_goto (tgt := 140) dX16_addEntry_135 rfl ?_
      refine S_weak (ls' := [(1, 156), (0, x1), (9, 0), (9, 0), (9, 0), (9, 0), (0, x6), (9, 0), (0, x8)]) ⟨Or.inr rfl, ⟨Or.inr rfl, ⟨Or.inl rfl, ⟨Or.inl rfl, ⟨Or.inl rfl, ⟨Or.inl rfl, ⟨Or.inr rfl, ⟨Or.inl rfl, ⟨Or.inr rfl, trivial⟩⟩⟩⟩⟩⟩⟩⟩⟩ ?_
      exact s_X16_addEntry_140 hD hM c0 r0 h hz
theorem sl_X16_addEntry_97 {g : GG} {d : Nat} (hD : 3 ≤ d) {x1 x6 x7 x8 : Int} {M : MM} (hM : LM M) {V : VV} {o : AV × MM} {P : (VV) → Prop} (r0 : ∀ r : VV, P r → o = ((9, 0), (wr M r))) {z : VV} (h : l_X16_addEntry_97 x1 x6 x7 x8 V = some z) (hz : P z) : Sem g d YX16_addEntry 97 [(1, 156), (0, x1), (9, 0), (9, 0), (9, 0), (9, 0), (0, x6), (0, x7), (0, x8)] [] (wr M V) o := by
  refine lp_sound (S := fun s : Int × Int => Sem g d YX16_addEntry 97 [(1, 156), (0, x1), (9, 0), (9, 0), (9, 0), (9, 0), (0, x6), (0, s.1), (0, s.2)] [] (wr M V) o) (P := P) ?_ FU (x7, x8) z h hz
  intro s x hx hP
  exact s_X16_addEntry_97 hD hM (P := Sum.elim (fun s : Int × Int => Sem g d YX16_addEntry 97 [(1, 156), (0, x1), (9, 0), (9, 0), (9, 0), (9, 0), (0, x6), (0, s.1), (0, s.2)] [] (wr M V) o) P) (fun s h => h) (fun s h => r0 s h) hx hP
theorem s_X16_addEntry_0 {g : GG} {d : Nat} (hD : 3 ≤ d) {x1 x2 x3 x4 x5 : Int} {M : MM} (hM : LM M) {V : VV} {o : AV × MM} {P : (VV) → Prop} (r0 : ∀ r : VV, P r → o = ((9, 0), (wr M r))) {z : VV} (h : f_X16_addEntry x1 x2 x3 x4 x5 V = some z) (hz : P z) : Sem g d YX16_addEntry 0 [(1, 156), (0, x1), (1, x2), (0, x3), (0, x4), (0, x5), (9, 0), (9, 0), (9, 0)] [] (wr M V) o := by
  delta f_X16_addEntry at h
  refine S_aload_n (i := 0) dX16_addEntry_0 rfl rfl ?_
  refine S_iload_n (i := 1) dX16_addEntry_1 rfl rfl ?_
  refine S_aload_n (i := 2) dX16_addEntry_2 rfl rfl ?_
  refine S_iload_n (i := 3) dX16_addEntry_3 rfl rfl ?_
  refine P2_invVp hM 0 [(0, x1), (1, x2), (0, x3)] [] CVX16_entryWith MLX16_618 dX16_addEntry_4 rfl rfl rfl rfl rfl (by omega) h (fun r h => F_X16_entryWith (by omega) hM h) (fun v1 h => ?_)
  refine P_if_lt (tgt := 11) dX16_addEntry_7 rfl h (fun h => ?_) (fun h => ?_)
  · refine S_bipush (z := 65) dX16_addEntry_11 rfl ?_
    refine S_iload_n (i := 1) dX16_addEntry_13 rfl rfl ?_
    refine S_imul dX16_addEntry_14 ?_
    refine S_aload_n (i := 0) dX16_addEntry_15 rfl rfl ?_
    refine P2_gfr hM (a := 234) FLX16_249 rfl ⟨rfl, rfl⟩ dX16_addEntry_16 ?_
    refine S_iload_n (i := 1) dX16_addEntry_19 rfl rfl ?_
    refine P2_lai hM (a := 234) (n := 44) rfl dX16_addEntry_20 h (fun v2 h => ?_)
    refine S_iadd dX16_addEntry_21 ?_
    refine S_istore dX16_addEntry_22 (Nat.le_of_ble_eq_true rfl) rfl rfl ?_
    change Sem g d YX16_addEntry 24 [(1, 156), (0, x1), (1, x2), (0, x3), (0, x4), (0, x5), (0, (65 * x1) + v2), (9, 0), (9, 0)] [] (wr M V) o
    refine S_aload_n (i := 0) dX16_addEntry_24 rfl rfl ?_
    refine P2_gfr hM (a := 234) FLX16_249 rfl ⟨rfl, rfl⟩ dX16_addEntry_25 ?_
    refine S_iload_n (i := 1) dX16_addEntry_28 rfl rfl ?_
    refine S_dup2 dX16_addEntry_29 (Nat.le_of_ble_eq_true rfl) (Nat.le_of_ble_eq_true rfl) ?_
    refine P2_lai hM (a := 234) (n := 44) rfl dX16_addEntry_30 h (fun v3 h => ?_)
    refine S_iconst dX16_addEntry_31 rfl ?_
    refine S_iadd dX16_addEntry_32 ?_
    refine P2_sai hM (a := 234) (n := 44) rfl dX16_addEntry_33 h (fun V1 h => ?_)
    refine S_aload_n (i := 0) dX16_addEntry_34 rfl rfl ?_
    refine P2_gfr hM (a := 235) FLX16_252 rfl ⟨rfl, rfl⟩ dX16_addEntry_35 ?_
    refine S_iconst dX16_addEntry_38 rfl ?_
    refine S_iload dX16_addEntry_39 rfl ?_
    refine S_imul dX16_addEntry_41 ?_
    refine S_aload_n (i := 2) dX16_addEntry_42 rfl rfl ?_
    refine S_iload_n (i := 3) dX16_addEntry_43 rfl rfl ?_
    refine P2_invSm hM [(1, 235), (0, 5 * ((65 * x1) + v2)), (1, x2), (0, x3)] [] CSX16_put MLX16_438 dX16_addEntry_44 rfl rfl rfl rfl (by omega) h (fun r h => F_X16_put (by omega) hM h) (fun V2 h => ?_)
    refine S_aload_n (i := 0) dX16_addEntry_47 rfl rfl ?_
    refine P2_gfr hM (a := 236) FLX16_255 rfl ⟨rfl, rfl⟩ dX16_addEntry_48 ?_
    refine S_iload dX16_addEntry_51 rfl ?_
    refine S_iload dX16_addEntry_53 rfl ?_
    refine P2_sai hM (a := 236) (n := 2860) rfl dX16_addEntry_55 h (fun V3 h => ?_)
    refine S_aload_n (i := 0) dX16_addEntry_56 rfl rfl ?_
    refine P2_gfr hM (a := 237) FLX16_258 rfl ⟨rfl, rfl⟩ dX16_addEntry_57 ?_
    refine S_iload dX16_addEntry_60 rfl ?_
    refine S_iload dX16_addEntry_62 rfl ?_
    refine P2_sai hM (a := 237) (n := 2860) rfl dX16_addEntry_64 h (fun V4 h => ?_)
    refine S_aload_n (i := 0) dX16_addEntry_65 rfl rfl ?_
    refine P2_gfr hM (a := 238) FLX16_261 rfl ⟨rfl, rfl⟩ dX16_addEntry_66 ?_
    refine S_iload dX16_addEntry_69 rfl ?_
    refine S_iconst dX16_addEntry_71 rfl ?_
    refine P2_sai hM (a := 238) (n := 2860) rfl dX16_addEntry_72 h (fun V5 h => ?_)
    refine S_aload_n (i := 0) dX16_addEntry_73 rfl rfl ?_
    refine P2_gfr hM (a := 234) FLX16_249 rfl ⟨rfl, rfl⟩ dX16_addEntry_74 ?_
    refine S_iload_n (i := 1) dX16_addEntry_77 rfl rfl ?_
    refine P2_lai hM (a := 234) (n := 44) rfl dX16_addEntry_78 h (fun v4 h => ?_)
    refine S_bipush (z := 65) dX16_addEntry_79 rfl ?_
    refine P_icmp_ge (tgt := 85) dX16_addEntry_81 rfl h (fun h => ?_) (fun h => ?_)
    · refine S_bipush (z := 65) dX16_addEntry_85 rfl ?_
      refine S_iload_n (i := 1) dX16_addEntry_87 rfl rfl ?_
      refine S_imul dX16_addEntry_88 ?_
      refine S_istore dX16_addEntry_89 (Nat.le_of_ble_eq_true rfl) rfl rfl ?_
      change Sem g d YX16_addEntry 91 [(1, 156), (0, x1), (1, x2), (0, x3), (0, x4), (0, x5), (0, (65 * x1) + v2), (0, 65 * x1), (9, 0)] [] (wr M V5) o
      refine S_bipush (z := 65) dX16_addEntry_91 rfl ?_
      refine S_iload_n (i := 1) dX16_addEntry_93 rfl rfl ?_
      refine S_imul dX16_addEntry_94 ?_
      refine S_istore dX16_addEntry_95 (Nat.le_of_ble_eq_true rfl) rfl rfl ?_
      change Sem g d YX16_addEntry 97 [(1, 156), (0, x1), (1, x2), (0, x3), (0, x4), (0, x5), (0, (65 * x1) + v2), (0, 65 * x1), (0, 65 * x1)] [] (wr M V5) o
      refine S_weak (ls' := [(1, 156), (0, x1), (9, 0), (9, 0), (9, 0), (9, 0), (0, (65 * x1) + v2), (0, 65 * x1), (0, 65 * x1)]) ⟨Or.inr rfl, ⟨Or.inr rfl, ⟨Or.inl rfl, ⟨Or.inl rfl, ⟨Or.inl rfl, ⟨Or.inl rfl, ⟨Or.inr rfl, ⟨Or.inr rfl, ⟨Or.inr rfl, trivial⟩⟩⟩⟩⟩⟩⟩⟩⟩ ?_
      exact sl_X16_addEntry_97 hD hM r0 h hz
    · obtain rfl := r0 _ (some_P (P := fun r => P r) h hz)
      exact S_return dX16_addEntry_84 rfl
  · obtain rfl := r0 _ (some_P (P := fun r => P r) h hz)
    exact S_return dX16_addEntry_10 rfl
theorem F_X16_addEntry {g : GG} {d : Nat} (hD : 3 ≤ d) {x1 x2 x3 x4 x5 : Int} {M : MM} (hM : LM M) {V : VV} {r : VV} (h : f_X16_addEntry x1 x2 x3 x4 x5 V = some r) : Sem g d YX16_addEntry 0 (ini YX16_addEntry [(1, 156), (0, x1), (1, x2), (0, x3), (0, x4), (0, x5)]) [] (wr M V) ((9, 0), (wr M r)) := by
  change Sem g d YX16_addEntry 0 [(1, 156), (0, x1), (1, x2), (0, x3), (0, x4), (0, x5), (9, 0), (9, 0), (9, 0)] [] (wr M V) ((9, 0), (wr M r))
  exact s_X16_addEntry_0 hD hM (P := fun x => x = r) (fun q e => by rw [e]) h rfl
/-! PeerSearchModel.nodesFor(I[II)V -/
theorem dX16_nodesFor_0 : decode cX16_nodesFor 0 = .ok (.aload_n 0, 1) := by decide +kernel
theorem dX16_nodesFor_1 : decode cX16_nodesFor 1 = .ok (.iconst 0, 1) := by decide +kernel
theorem dX16_nodesFor_2 : decode cX16_nodesFor 2 = .ok (.putfield 537, 3) := by decide +kernel
theorem dX16_nodesFor_5 : decode cX16_nodesFor 5 = .ok (.sipush 1100, 3) := by decide +kernel
theorem dX16_nodesFor_8 : decode cX16_nodesFor 8 = .ok (.iload_n 1, 1) := by decide +kernel
theorem dX16_nodesFor_9 : decode cX16_nodesFor 9 = .ok (.imul, 1) := by decide +kernel
theorem dX16_nodesFor_10 : decode cX16_nodesFor 10 = .ok (.istore 4, 2) := by decide +kernel
theorem dX16_nodesFor_12 : decode cX16_nodesFor 12 = .ok (.iload 4, 2) := by decide +kernel
theorem dX16_nodesFor_14 : decode cX16_nodesFor 14 = .ok (.sipush 1100, 3) := by decide +kernel
theorem dX16_nodesFor_17 : decode cX16_nodesFor 17 = .ok (.iload_n 1, 1) := by decide +kernel
theorem dX16_nodesFor_18 : decode cX16_nodesFor 18 = .ok (.imul, 1) := by decide +kernel
theorem dX16_nodesFor_19 : decode cX16_nodesFor 19 = .ok (.aload_n 0, 1) := by decide +kernel
theorem dX16_nodesFor_20 : decode cX16_nodesFor 20 = .ok (.getfield 110, 3) := by decide +kernel
theorem dX16_nodesFor_23 : decode cX16_nodesFor 23 = .ok (.iload_n 1, 1) := by decide +kernel
theorem dX16_nodesFor_24 : decode cX16_nodesFor 24 = .ok (.iaload, 1) := by decide +kernel
theorem dX16_nodesFor_25 : decode cX16_nodesFor 25 = .ok (.iadd, 1) := by decide +kernel
theorem dX16_nodesFor_26 : decode cX16_nodesFor 26 = .ok (.if_icmp .ge 163, 3) := by decide +kernel
theorem dX16_nodesFor_29 : decode cX16_nodesFor 29 = .ok (.aload_n 0, 1) := by decide +kernel
theorem dX16_nodesFor_30 : decode cX16_nodesFor 30 = .ok (.getfield 124, 3) := by decide +kernel
theorem dX16_nodesFor_33 : decode cX16_nodesFor 33 = .ok (.iload 4, 2) := by decide +kernel
theorem dX16_nodesFor_35 : decode cX16_nodesFor 35 = .ok (.baload, 1) := by decide +kernel
theorem dX16_nodesFor_36 : decode cX16_nodesFor 36 = .ok (.ifCond .ne 147, 3) := by decide +kernel
theorem dX16_nodesFor_39 : decode cX16_nodesFor 39 = .ok (.iload_n 3, 1) := by decide +kernel
theorem dX16_nodesFor_40 : decode cX16_nodesFor 40 = .ok (.ifCond .lt 30, 3) := by decide +kernel
theorem dX16_nodesFor_43 : decode cX16_nodesFor 43 = .ok (.aload_n 0, 1) := by decide +kernel
theorem dX16_nodesFor_44 : decode cX16_nodesFor 44 = .ok (.getfield 114, 3) := by decide +kernel
theorem dX16_nodesFor_47 : decode cX16_nodesFor 47 = .ok (.iconst 5, 1) := by decide +kernel
theorem dX16_nodesFor_48 : decode cX16_nodesFor 48 = .ok (.iload 4, 2) := by decide +kernel
theorem dX16_nodesFor_50 : decode cX16_nodesFor 50 = .ok (.imul, 1) := by decide +kernel
theorem dX16_nodesFor_51 : decode cX16_nodesFor 51 = .ok (.aload_n 2, 1) := by decide +kernel
theorem dX16_nodesFor_52 : decode cX16_nodesFor 52 = .ok (.iload_n 3, 1) := by decide +kernel
theorem dX16_nodesFor_53 : decode cX16_nodesFor 53 = .ok (.ifCond .ge 7, 3) := by decide +kernel
theorem dX16_nodesFor_56 : decode cX16_nodesFor 56 = .ok (.iconst 0, 1) := by decide +kernel
theorem dX16_nodesFor_57 : decode cX16_nodesFor 57 = .ok (.goto 4, 3) := by decide +kernel
theorem dX16_nodesFor_60 : decode cX16_nodesFor 60 = .ok (.iload_n 3, 1) := by decide +kernel
theorem dX16_nodesFor_61 : decode cX16_nodesFor 61 = .ok (.invokestatic 434, 3) := by decide +kernel
theorem dX16_nodesFor_64 : decode cX16_nodesFor 64 = .ok (.ifCond .eq 6, 3) := by decide +kernel
theorem dX16_nodesFor_67 : decode cX16_nodesFor 67 = .ok (.goto 116, 3) := by decide +kernel
theorem dX16_nodesFor_70 : decode cX16_nodesFor 70 = .ok (.aload_n 0, 1) := by decide +kernel
theorem dX16_nodesFor_71 : decode cX16_nodesFor 71 = .ok (.getfield 537, 3) := by decide +kernel
theorem dX16_nodesFor_74 : decode cX16_nodesFor 74 = .ok (.istore 5, 2) := by decide +kernel
theorem dX16_nodesFor_76 : decode cX16_nodesFor 76 = .ok (.iload 5, 2) := by decide +kernel
theorem dX16_nodesFor_78 : decode cX16_nodesFor 78 = .ok (.ifCond .le 68, 3) := by decide +kernel
theorem dX16_nodesFor_81 : decode cX16_nodesFor 81 = .ok (.aload_n 0, 1) := by decide +kernel
theorem dX16_nodesFor_82 : decode cX16_nodesFor 82 = .ok (.getfield 114, 3) := by decide +kernel
theorem dX16_nodesFor_85 : decode cX16_nodesFor 85 = .ok (.iconst 5, 1) := by decide +kernel
theorem dX16_nodesFor_86 : decode cX16_nodesFor 86 = .ok (.iload 4, 2) := by decide +kernel
theorem dX16_nodesFor_88 : decode cX16_nodesFor 88 = .ok (.imul, 1) := by decide +kernel
theorem dX16_nodesFor_89 : decode cX16_nodesFor 89 = .ok (.aload_n 0, 1) := by decide +kernel
theorem dX16_nodesFor_90 : decode cX16_nodesFor 90 = .ok (.getfield 114, 3) := by decide +kernel
theorem dX16_nodesFor_93 : decode cX16_nodesFor 93 = .ok (.iconst 5, 1) := by decide +kernel
theorem dX16_nodesFor_94 : decode cX16_nodesFor 94 = .ok (.aload_n 0, 1) := by decide +kernel
theorem dX16_nodesFor_95 : decode cX16_nodesFor 95 = .ok (.getfield 134, 3) := by decide +kernel
theorem dX16_nodesFor_98 : decode cX16_nodesFor 98 = .ok (.iload 5, 2) := by decide +kernel
theorem dX16_nodesFor_100 : decode cX16_nodesFor 100 = .ok (.ifCond .le 10, 3) := by decide +kernel
theorem dX16_nodesFor_103 : decode cX16_nodesFor 103 = .ok (.iload 5, 2) := by decide +kernel
theorem dX16_nodesFor_105 : decode cX16_nodesFor 105 = .ok (.iconst 1, 1) := by decide +kernel
theorem dX16_nodesFor_106 : decode cX16_nodesFor 106 = .ok (.isub, 1) := by decide +kernel
theorem dX16_nodesFor_107 : decode cX16_nodesFor 107 = .ok (.goto 4, 3) := by decide +kernel
theorem dX16_nodesFor_110 : decode cX16_nodesFor 110 = .ok (.iconst 0, 1) := by decide +kernel
theorem dX16_nodesFor_111 : decode cX16_nodesFor 111 = .ok (.iaload, 1) := by decide +kernel
theorem dX16_nodesFor_112 : decode cX16_nodesFor 112 = .ok (.imul, 1) := by decide +kernel
theorem dX16_nodesFor_113 : decode cX16_nodesFor 113 = .ok (.aload_n 0, 1) := by decide +kernel
theorem dX16_nodesFor_114 : decode cX16_nodesFor 114 = .ok (.getfield 131, 3) := by decide +kernel
theorem dX16_nodesFor_117 : decode cX16_nodesFor 117 = .ok (.iconst 0, 1) := by decide +kernel
theorem dX16_nodesFor_118 : decode cX16_nodesFor 118 = .ok (.invokestatic 540, 3) := by decide +kernel
theorem dX16_nodesFor_121 : decode cX16_nodesFor 121 = .ok (.ifCond .eq 25, 3) := by decide +kernel
theorem dX16_nodesFor_124 : decode cX16_nodesFor 124 = .ok (.aload_n 0, 1) := by decide +kernel
theorem dX16_nodesFor_125 : decode cX16_nodesFor 125 = .ok (.getfield 134, 3) := by decide +kernel
theorem dX16_nodesFor_128 : decode cX16_nodesFor 128 = .ok (.iload 5, 2) := by decide +kernel
theorem dX16_nodesFor_130 : decode cX16_nodesFor 130 = .ok (.aload_n 0, 1) := by decide +kernel
theorem dX16_nodesFor_131 : decode cX16_nodesFor 131 = .ok (.getfield 134, 3) := by decide +kernel
theorem dX16_nodesFor_134 : decode cX16_nodesFor 134 = .ok (.iload 5, 2) := by decide +kernel
theorem dX16_nodesFor_136 : decode cX16_nodesFor 136 = .ok (.iconst 1, 1) := by decide +kernel
theorem dX16_nodesFor_137 : decode cX16_nodesFor 137 = .ok (.isub, 1) := by decide +kernel
theorem dX16_nodesFor_138 : decode cX16_nodesFor 138 = .ok (.iaload, 1) := by decide +kernel
theorem dX16_nodesFor_139 : decode cX16_nodesFor 139 = .ok (.iastore, 1) := by decide +kernel
theorem dX16_nodesFor_140 : decode cX16_nodesFor 140 = .ok (.iinc 5 (-1), 3) := by decide +kernel
theorem dX16_nodesFor_143 : decode cX16_nodesFor 143 = .ok (.goto (-67), 3) := by decide +kernel
theorem dX16_nodesFor_146 : decode cX16_nodesFor 146 = .ok (.aload_n 0, 1) := by decide +kernel
theorem dX16_nodesFor_147 : decode cX16_nodesFor 147 = .ok (.getfield 134, 3) := by decide +kernel
theorem dX16_nodesFor_150 : decode cX16_nodesFor 150 = .ok (.iload 5, 2) := by decide +kernel
theorem dX16_nodesFor_152 : decode cX16_nodesFor 152 = .ok (.iload 4, 2) := by decide +kernel
theorem dX16_nodesFor_154 : decode cX16_nodesFor 154 = .ok (.iastore, 1) := by decide +kernel
theorem dX16_nodesFor_155 : decode cX16_nodesFor 155 = .ok (.aload_n 0, 1) := by decide +kernel
theorem dX16_nodesFor_156 : decode cX16_nodesFor 156 = .ok (.aload_n 0, 1) := by decide +kernel
theorem dX16_nodesFor_157 : decode cX16_nodesFor 157 = .ok (.getfield 537, 3) := by decide +kernel
theorem dX16_nodesFor_160 : decode cX16_nodesFor 160 = .ok (.aload_n 0, 1) := by decide +kernel
theorem dX16_nodesFor_161 : decode cX16_nodesFor 161 = .ok (.getfield 376, 3) := by decide +kernel
theorem dX16_nodesFor_164 : decode cX16_nodesFor 164 = .ok (.if_icmp .ge 12, 3) := by decide +kernel
theorem dX16_nodesFor_167 : decode cX16_nodesFor 167 = .ok (.aload_n 0, 1) := by decide +kernel
theorem dX16_nodesFor_168 : decode cX16_nodesFor 168 = .ok (.getfield 537, 3) := by decide +kernel
theorem dX16_nodesFor_171 : decode cX16_nodesFor 171 = .ok (.iconst 1, 1) := by decide +kernel
theorem dX16_nodesFor_172 : decode cX16_nodesFor 172 = .ok (.iadd, 1) := by decide +kernel
theorem dX16_nodesFor_173 : decode cX16_nodesFor 173 = .ok (.goto 7, 3) := by decide +kernel
theorem dX16_nodesFor_176 : decode cX16_nodesFor 176 = .ok (.aload_n 0, 1) := by decide +kernel
theorem dX16_nodesFor_177 : decode cX16_nodesFor 177 = .ok (.getfield 376, 3) := by decide +kernel
theorem dX16_nodesFor_180 : decode cX16_nodesFor 180 = .ok (.putfield 537, 3) := by decide +kernel
theorem dX16_nodesFor_183 : decode cX16_nodesFor 183 = .ok (.iinc 4 1, 3) := by decide +kernel
theorem dX16_nodesFor_186 : decode cX16_nodesFor 186 = .ok (.goto (-174), 3) := by decide +kernel
theorem dX16_nodesFor_189 : decode cX16_nodesFor 189 = .ok (.return_, 1) := by decide +kernel
def j_X16_nodesFor_183 (x1 x2 x3 x4 : Int) (V : VV) : Option ((Int × VV) ⊕ (VV)) :=
  cnt (x4 + 1, V)
def j_X16_nodesFor_180 (x1 x2 x3 x4 y1 : Int) (V : VV) : Option ((Int × VV) ⊕ (VV)) :=
  (p2 50 y1 V).bind fun V1 =>
  j_X16_nodesFor_183 x1 x2 x3 x4 V1
def j_X16_nodesFor_146 (x1 x2 x3 x4 x5 : Int) (V : VV) : Option ((Int × VV) ⊕ (VV)) :=
  (s2 196 21 x5 x4 V).bind fun V1 =>
  if w32 (w32 (V1 156 50)) < w32 (w32 (V1 156 0)) then
    j_X16_nodesFor_180 x1 x2 x3 x4 ((w32 (V1 156 50)) + 1) V1
  else
    j_X16_nodesFor_180 x1 x2 x3 x4 (w32 (V1 156 0)) V1
def j_X16_nodesFor_111 (x1 x2 x3 x4 x5 y1 y3 y5 : Int) (V : VV) : Option ((Int × VV) ⊕ ((Int × VV) ⊕ (VV))) :=
  (l2 196 21 y5 V).bind fun v1 =>
  (f_X16_nearer 190 y1 190 (y3 * v1) 195 0 V).bind fun v2 =>
  if w32 v2 = 0 then
    xit (j_X16_nodesFor_146 x1 x2 x3 x4 x5 V)
  else
    (l2 196 21 (x5 - 1) V).bind fun v3 =>
    (s2 196 21 x5 v3 V).bind fun V1 =>
    cnt (x5 + (-1), V1)
def b_X16_nodesFor_76 (x1 x2 x3 x4 x5 : Int) (V : VV) : Option ((Int × VV) ⊕ ((Int × VV) ⊕ (VV))) :=
  if 0 < w32 x5 then
    if 0 < w32 x5 then
      j_X16_nodesFor_111 x1 x2 x3 x4 x5 (5 * x4) 5 (x5 - 1) V
    else
      j_X16_nodesFor_111 x1 x2 x3 x4 x5 (5 * x4) 5 0 V
  else
    xit (j_X16_nodesFor_146 x1 x2 x3 x4 x5 V)
def l_X16_nodesFor_76 (x1 x2 x3 x4 x5 : Int) (V : VV) : Option ((Int × VV) ⊕ (VV)) := lpN (fun s : Int × VV => b_X16_nodesFor_76 x1 x2 x3 x4 s.1 s.2) FU (x5, V)
def j_X16_nodesFor_70 (x1 x2 x3 x4 : Int) (V : VV) : Option ((Int × VV) ⊕ (VV)) :=
  l_X16_nodesFor_76 x1 x2 x3 x4 (w32 (V 156 50)) V
def j_X16_nodesFor_61 (x1 x2 x3 x4 y1 y2 y3 : Int) (V : VV) : Option ((Int × VV) ⊕ (VV)) :=
  (f_X16_same 190 y1 y2 y3 V).bind fun v1 =>
  if w32 v1 = 0 then
    j_X16_nodesFor_70 x1 x2 x3 x4 V
  else
    j_X16_nodesFor_183 x1 x2 x3 x4 V
def b_X16_nodesFor_12 (x1 x2 x3 x4 : Int) (V : VV) : Option ((Int × VV) ⊕ (VV)) :=
  (l2 189 32 x1 V).bind fun v1 =>
  if w32 x4 < w32 ((1100 * x1) + v1) then
    (l2 193 35200 x4 V).bind fun v2 =>
    if w32 v2 = 0 then
      if w32 x3 < 0 then
        j_X16_nodesFor_70 x1 x2 x3 x4 V
      else
        if w32 x3 < 0 then
          j_X16_nodesFor_61 x1 x2 x3 x4 (5 * x4) x2 0 V
        else
          j_X16_nodesFor_61 x1 x2 x3 x4 (5 * x4) x2 x3 V
    else
      j_X16_nodesFor_183 x1 x2 x3 x4 V
  else
    xit (some V)
def l_X16_nodesFor_12 (x1 x2 x3 x4 : Int) (V : VV) : Option (VV) := lpN (fun s : Int × VV => b_X16_nodesFor_12 x1 x2 x3 s.1 s.2) FU (x4, V)
def f_X16_nodesFor (x1 x2 x3 : Int) (V : VV) : Option (VV) :=
  (p2 50 0 V).bind fun V1 =>
  l_X16_nodesFor_12 x1 x2 x3 (1100 * x1) V1
theorem s_X16_nodesFor_183 {g : GG} {d : Nat} (hD : 3 ≤ d) {x1 x2 x3 x4 : Int} {M : MM} (hM : LM M) {V : VV} {o : AV × MM} {P : ((Int × VV) ⊕ (VV)) → Prop} (c0 : ∀ s : Int × VV, P (.inl s) → Sem g d YX16_nodesFor 12 [(1, 156), (0, x1), (1, x2), (0, x3), (0, s.1), (9, 0)] [] (wr M s.2) o) (r0 : ∀ r : VV, P (.inr r) → o = ((9, 0), (wr M r))) {z : (Int × VV) ⊕ (VV)} (h : j_X16_nodesFor_183 x1 x2 x3 x4 V = some z) (hz : P z) : Sem g d YX16_nodesFor 183 [(1, 156), (0, x1), (1, x2), (0, x3), (0, x4), (9, 0)] [] (wr M V) o := by
  delta j_X16_nodesFor_183 at h
  refine S_iinc dX16_nodesFor_183 rfl rfl rfl ?_
  change Sem g d YX16_nodesFor 186 [(1, 156), (0, x1), (1, x2), (0, x3), (0, x4 + 1), (9, 0)] [] (wr M V) o
  refine S_goto (tgt := 12) dX16_nodesFor_186 rfl ?_
  exact c0 (x4 + 1, V) (some_P (P := fun r => P r) h hz)
theorem s_X16_nodesFor_180 {g : GG} {d : Nat} (hD : 3 ≤ d) {x1 x2 x3 x4 y1 : Int} {M : MM} (hM : LM M) {V : VV} {o : AV × MM} {P : ((Int × VV) ⊕ (VV)) → Prop} (c0 : ∀ s : Int × VV, P (.inl s) → Sem g d YX16_nodesFor 12 [(1, 156), (0, x1), (1, x2), (0, x3), (0, s.1), (9, 0)] [] (wr M s.2) o) (r0 : ∀ r : VV, P (.inr r) → o = ((9, 0), (wr M r))) {z : (Int × VV) ⊕ (VV)} (h : j_X16_nodesFor_180 x1 x2 x3 x4 y1 V = some z) (hz : P z) : Sem g d YX16_nodesFor 180 [(1, 156), (0, x1), (1, x2), (0, x3), (0, x4), (9, 0)] [(0, y1), (1, 156)] (wr M V) o := by
  delta j_X16_nodesFor_180 at h
  refine P2_pfi hM FLX16_537 FPX16_537 rfl dX16_nodesFor_180 h (fun V1 h => ?_)
  exact s_X16_nodesFor_183 hD hM c0 r0 h hz
theorem s_X16_nodesFor_146 {g : GG} {d : Nat} (hD : 3 ≤ d) {x1 x2 x3 x4 x5 : Int} {M : MM} (hM : LM M) {V : VV} {o : AV × MM} {P : ((Int × VV) ⊕ (VV)) → Prop} (c0 : ∀ s : Int × VV, P (.inl s) → Sem g d YX16_nodesFor 12 [(1, 156), (0, x1), (1, x2), (0, x3), (0, s.1), (9, 0)] [] (wr M s.2) o) (r0 : ∀ r : VV, P (.inr r) → o = ((9, 0), (wr M r))) {z : (Int × VV) ⊕ (VV)} (h : j_X16_nodesFor_146 x1 x2 x3 x4 x5 V = some z) (hz : P z) : Sem g d YX16_nodesFor 146 [(1, 156), (0, x1), (1, x2), (0, x3), (0, x4), (0, x5)] [] (wr M V) o := by
  delta j_X16_nodesFor_146 at h
  refine S_aload_n (i := 0) dX16_nodesFor_146 rfl rfl ?_
  refine P2_gfr hM (a := 196) FLX16_134 rfl ⟨rfl, rfl⟩ dX16_nodesFor_147 ?_
  refine S_iload dX16_nodesFor_150 rfl ?_
  refine S_iload dX16_nodesFor_152 rfl ?_
  refine P2_sai hM (a := 196) (n := 21) rfl dX16_nodesFor_154 h (fun V1 h => ?_)
  refine S_aload_n (i := 0) dX16_nodesFor_155 rfl rfl ?_
  refine S_aload_n (i := 0) dX16_nodesFor_156 rfl rfl ?_
  refine P2_gfi hM FLX16_537 rfl dX16_nodesFor_157 ?_
  refine S_aload_n (i := 0) dX16_nodesFor_160 rfl rfl ?_
  refine P2_gfi hM FLX16_376 rfl dX16_nodesFor_161 ?_
  refine P_icmp_ge (tgt := 176) dX16_nodesFor_164 rfl h (fun h => ?_) (fun h => ?_)
  · refine S_aload_n (i := 0) dX16_nodesFor_176 rfl rfl ?_
    refine P2_gfi hM FLX16_376 rfl dX16_nodesFor_177 ?_
    refine S_weak (ls' := [(1, 156), (0, x1), (1, x2), (0, x3), (0, x4), (9, 0)]) ⟨Or.inr rfl, ⟨Or.inr rfl, ⟨Or.inr rfl, ⟨Or.inr rfl, ⟨Or.inr rfl, ⟨Or.inl rfl, trivial⟩⟩⟩⟩⟩⟩ ?_
    exact s_X16_nodesFor_180 hD hM c0 r0 h hz
  · refine S_aload_n (i := 0) dX16_nodesFor_167 rfl rfl ?_
    refine P2_gfi hM FLX16_537 rfl dX16_nodesFor_168 ?_
    refine S_iconst dX16_nodesFor_171 rfl ?_
    refine S_iadd dX16_nodesFor_172 ?_
    refine S_goto (tgt := 180) dX16_nodesFor_173 rfl ?_
    refine S_weak (ls' := [(1, 156), (0, x1), (1, x2), (0, x3), (0, x4), (9, 0)]) ⟨Or.inr rfl, ⟨Or.inr rfl, ⟨Or.inr rfl, ⟨Or.inr rfl, ⟨Or.inr rfl, ⟨Or.inl rfl, trivial⟩⟩⟩⟩⟩⟩ ?_
    exact s_X16_nodesFor_180 hD hM c0 r0 h hz
theorem s_X16_nodesFor_111 {g : GG} {d : Nat} (hD : 3 ≤ d) {x1 x2 x3 x4 x5 y1 y3 y5 : Int} {M : MM} (hM : LM M) {V : VV} {o : AV × MM} {P : ((Int × VV) ⊕ ((Int × VV) ⊕ (VV))) → Prop} (c1 : ∀ s : Int × VV, P (.inl s) → Sem g d YX16_nodesFor 76 [(1, 156), (0, x1), (1, x2), (0, x3), (0, x4), (0, s.1)] [] (wr M s.2) o) (c0 : ∀ s : Int × VV, P (.inr (.inl s)) → Sem g d YX16_nodesFor 12 [(1, 156), (0, x1), (1, x2), (0, x3), (0, s.1), (9, 0)] [] (wr M s.2) o) (r0 : ∀ r : VV, P (.inr (.inr r)) → o = ((9, 0), (wr M r))) {z : (Int × VV) ⊕ ((Int × VV) ⊕ (VV))} (h : j_X16_nodesFor_111 x1 x2 x3 x4 x5 y1 y3 y5 V = some z) (hz : P z) : Sem g d YX16_nodesFor 111 [(1, 156), (0, x1), (1, x2), (0, x3), (0, x4), (0, x5)] [(0, y5), (1, 196), (0, y3), (1, 190), (0, y1), (1, 190)] (wr M V) o := by
  delta j_X16_nodesFor_111 at h
  refine P2_lai hM (a := 196) (n := 21) rfl dX16_nodesFor_111 h (fun v1 h => ?_)
  refine S_imul dX16_nodesFor_112 ?_
  refine S_aload_n (i := 0) dX16_nodesFor_113 rfl rfl ?_
  refine P2_gfr hM (a := 195) FLX16_131 rfl ⟨rfl, rfl⟩ dX16_nodesFor_114 ?_
  refine S_iconst dX16_nodesFor_117 rfl ?_
  refine P_invSp 0 [(1, 190), (0, y1), (1, 190), (0, y3 * v1), (1, 195), (0, 0)] [] CSX16_nearer MLX16_540 dX16_nodesFor_118 rfl rfl rfl rfl rfl (by omega) h (fun r h => F_X16_nearer (by omega) hM h) (fun v2 h => ?_)
  refine P_if_eq (tgt := 146) dX16_nodesFor_121 rfl h (fun h => ?_) (fun h => ?_)
  · obtain ⟨z0, h, hz⟩ := xit_some' (P := fun r => P r) h hz
    exact s_X16_nodesFor_146 hD hM (P := fun r => P (.inr r)) c0 r0 h hz
  · refine S_aload_n (i := 0) dX16_nodesFor_124 rfl rfl ?_
    refine P2_gfr hM (a := 196) FLX16_134 rfl ⟨rfl, rfl⟩ dX16_nodesFor_125 ?_
    refine S_iload dX16_nodesFor_128 rfl ?_
    refine S_aload_n (i := 0) dX16_nodesFor_130 rfl rfl ?_
    refine P2_gfr hM (a := 196) FLX16_134 rfl ⟨rfl, rfl⟩ dX16_nodesFor_131 ?_
    refine S_iload dX16_nodesFor_134 rfl ?_
    refine S_iconst dX16_nodesFor_136 rfl ?_
    refine S_isub dX16_nodesFor_137 ?_
    refine P2_lai hM (a := 196) (n := 21) rfl dX16_nodesFor_138 h (fun v3 h => ?_)
    refine P2_sai hM (a := 196) (n := 21) rfl dX16_nodesFor_139 h (fun V1 h => ?_)
    refine S_iinc dX16_nodesFor_140 rfl rfl rfl ?_
    change Sem g d YX16_nodesFor 143 [(1, 156), (0, x1), (1, x2), (0, x3), (0, x4), (0, x5 + (-1))] [] (wr M V1) o
    refine S_goto (tgt := 76) dX16_nodesFor_143 rfl ?_
    exact c1 (x5 + (-1), V1) (some_P (P := fun r => P r) h hz)
theorem s_X16_nodesFor_76 {g : GG} {d : Nat} (hD : 3 ≤ d) {x1 x2 x3 x4 x5 : Int} {M : MM} (hM : LM M) {V : VV} {o : AV × MM} {P : ((Int × VV) ⊕ ((Int × VV) ⊕ (VV))) → Prop} (c1 : ∀ s : Int × VV, P (.inl s) → Sem g d YX16_nodesFor 76 [(1, 156), (0, x1), (1, x2), (0, x3), (0, x4), (0, s.1)] [] (wr M s.2) o) (c0 : ∀ s : Int × VV, P (.inr (.inl s)) → Sem g d YX16_nodesFor 12 [(1, 156), (0, x1), (1, x2), (0, x3), (0, s.1), (9, 0)] [] (wr M s.2) o) (r0 : ∀ r : VV, P (.inr (.inr r)) → o = ((9, 0), (wr M r))) {z : (Int × VV) ⊕ ((Int × VV) ⊕ (VV))} (h : b_X16_nodesFor_76 x1 x2 x3 x4 x5 V = some z) (hz : P z) : Sem g d YX16_nodesFor 76 [(1, 156), (0, x1), (1, x2), (0, x3), (0, x4), (0, x5)] [] (wr M V) o := by
  delta b_X16_nodesFor_76 at h
  refine S_iload dX16_nodesFor_76 rfl ?_
  refine P_if_le (tgt := 146) dX16_nodesFor_78 rfl h (fun h => ?_) (fun h => ?_)
  · obtain ⟨z0, h, hz⟩ := xit_some' (P := fun r => P r) h hz
    exact s_X16_nodesFor_146 hD hM (P := fun r => P (.inr r)) c0 r0 h hz
  · refine S_aload_n (i := 0) dX16_nodesFor_81 rfl rfl ?_
    refine P2_gfr hM (a := 190) FLX16_114 rfl ⟨rfl, rfl⟩ dX16_nodesFor_82 ?_
    refine S_iconst dX16_nodesFor_85 rfl ?_
    refine S_iload dX16_nodesFor_86 rfl ?_
    refine S_imul dX16_nodesFor_88 ?_
    refine S_aload_n (i := 0) dX16_nodesFor_89 rfl rfl ?_
    refine P2_gfr hM (a := 190) FLX16_114 rfl ⟨rfl, rfl⟩ dX16_nodesFor_90 ?_
    refine S_iconst dX16_nodesFor_93 rfl ?_
    refine S_aload_n (i := 0) dX16_nodesFor_94 rfl rfl ?_
    refine P2_gfr hM (a := 196) FLX16_134 rfl ⟨rfl, rfl⟩ dX16_nodesFor_95 ?_
    refine S_iload dX16_nodesFor_98 rfl ?_
    refine P_if_le (tgt := 110) dX16_nodesFor_100 rfl h (fun h => ?_) (fun h => ?_)
    · refine S_iconst dX16_nodesFor_110 rfl ?_
      exact s_X16_nodesFor_111 hD hM c1 c0 r0 h hz
    · refine S_iload dX16_nodesFor_103 rfl ?_
      refine S_iconst dX16_nodesFor_105 rfl ?_
      refine S_isub dX16_nodesFor_106 ?_
      refine S_goto (tgt := 111) dX16_nodesFor_107 rfl ?_
      exact s_X16_nodesFor_111 hD hM c1 c0 r0 h hz
theorem sl_X16_nodesFor_76 {g : GG} {d : Nat} (hD : 3 ≤ d) {x1 x2 x3 x4 x5 : Int} {M : MM} (hM : LM M) {V : VV} {o : AV × MM} {P : ((Int × VV) ⊕ (VV)) → Prop} (c0 : ∀ s : Int × VV, P (.inl s) → Sem g d YX16_nodesFor 12 [(1, 156), (0, x1), (1, x2), (0, x3), (0, s.1), (9, 0)] [] (wr M s.2) o) (r0 : ∀ r : VV, P (.inr r) → o = ((9, 0), (wr M r))) {z : (Int × VV) ⊕ (VV)} (h : l_X16_nodesFor_76 x1 x2 x3 x4 x5 V = some z) (hz : P z) : Sem g d YX16_nodesFor 76 [(1, 156), (0, x1), (1, x2), (0, x3), (0, x4), (0, x5)] [] (wr M V) o := by
  refine lp_sound (S := fun s : Int × VV => Sem g d YX16_nodesFor 76 [(1, 156), (0, x1), (1, x2), (0, x3), (0, x4), (0, s.1)] [] (wr M s.2) o) (P := P) ?_ FU (x5, V) z h hz
  intro s x hx hP
  exact s_X16_nodesFor_76 hD hM (P := Sum.elim (fun s : Int × VV => Sem g d YX16_nodesFor 76 [(1, 156), (0, x1), (1, x2), (0, x3), (0, x4), (0, s.1)] [] (wr M s.2) o) P) (fun s h => h) (fun s h => c0 s h) (fun s h => r0 s h) hx hP
theorem s_X16_nodesFor_70 {g : GG} {d : Nat} (hD : 3 ≤ d) {x1 x2 x3 x4 : Int} {M : MM} (hM : LM M) {V : VV} {o : AV × MM} {P : ((Int × VV) ⊕ (VV)) → Prop} (c0 : ∀ s : Int × VV, P (.inl s) → Sem g d YX16_nodesFor 12 [(1, 156), (0, x1), (1, x2), (0, x3), (0, s.1), (9, 0)] [] (wr M s.2) o) (r0 : ∀ r : VV, P (.inr r) → o = ((9, 0), (wr M r))) {z : (Int × VV) ⊕ (VV)} (h : j_X16_nodesFor_70 x1 x2 x3 x4 V = some z) (hz : P z) : Sem g d YX16_nodesFor 70 [(1, 156), (0, x1), (1, x2), (0, x3), (0, x4), (9, 0)] [] (wr M V) o := by
  delta j_X16_nodesFor_70 at h
  refine S_aload_n (i := 0) dX16_nodesFor_70 rfl rfl ?_
  refine P2_gfi hM FLX16_537 rfl dX16_nodesFor_71 ?_
  refine S_istore dX16_nodesFor_74 (Nat.le_of_ble_eq_true rfl) rfl rfl ?_
  change Sem g d YX16_nodesFor 76 [(1, 156), (0, x1), (1, x2), (0, x3), (0, x4), (0, w32 (V 156 50))] [] (wr M V) o
  exact sl_X16_nodesFor_76 hD hM c0 r0 h hz
theorem s_X16_nodesFor_61 {g : GG} {d : Nat} (hD : 3 ≤ d) {x1 x2 x3 x4 y1 y2 y3 : Int} {M : MM} (hM : LM M) {V : VV} {o : AV × MM} {P : ((Int × VV) ⊕ (VV)) → Prop} (c0 : ∀ s : Int × VV, P (.inl s) → Sem g d YX16_nodesFor 12 [(1, 156), (0, x1), (1, x2), (0, x3), (0, s.1), (9, 0)] [] (wr M s.2) o) (r0 : ∀ r : VV, P (.inr r) → o = ((9, 0), (wr M r))) {z : (Int × VV) ⊕ (VV)} (h : j_X16_nodesFor_61 x1 x2 x3 x4 y1 y2 y3 V = some z) (hz : P z) : Sem g d YX16_nodesFor 61 [(1, 156), (0, x1), (1, x2), (0, x3), (0, x4), (9, 0)] [(0, y3), (1, y2), (0, y1), (1, 190)] (wr M V) o := by
  delta j_X16_nodesFor_61 at h
  refine P_invSp 0 [(1, 190), (0, y1), (1, y2), (0, y3)] [] CSX16_same MLX16_434 dX16_nodesFor_61 rfl rfl rfl rfl rfl (by omega) h (fun r h => F_X16_same (by omega) hM h) (fun v1 h => ?_)
  refine P_if_eq (tgt := 70) dX16_nodesFor_64 rfl h (fun h => ?_) (fun h => ?_)
  · exact s_X16_nodesFor_70 hD hM c0 r0 h hz
  · refine S_goto (tgt := 183) dX16_nodesFor_67 rfl ?_
    exact s_X16_nodesFor_183 hD hM c0 r0 h hz
theorem s_X16_nodesFor_12 {g : GG} {d : Nat} (hD : 3 ≤ d) {x1 x2 x3 x4 : Int} {M : MM} (hM : LM M) {V : VV} {o : AV × MM} {P : ((Int × VV) ⊕ (VV)) → Prop} (c0 : ∀ s : Int × VV, P (.inl s) → Sem g d YX16_nodesFor 12 [(1, 156), (0, x1), (1, x2), (0, x3), (0, s.1), (9, 0)] [] (wr M s.2) o) (r0 : ∀ r : VV, P (.inr r) → o = ((9, 0), (wr M r))) {z : (Int × VV) ⊕ (VV)} (h : b_X16_nodesFor_12 x1 x2 x3 x4 V = some z) (hz : P z) : Sem g d YX16_nodesFor 12 [(1, 156), (0, x1), (1, x2), (0, x3), (0, x4), (9, 0)] [] (wr M V) o := by
  delta b_X16_nodesFor_12 at h
  refine S_iload dX16_nodesFor_12 rfl ?_
  refine S_sipush (z := 1100) dX16_nodesFor_14 rfl ?_
  refine S_iload_n (i := 1) dX16_nodesFor_17 rfl rfl ?_
  refine S_imul dX16_nodesFor_18 ?_
  refine S_aload_n (i := 0) dX16_nodesFor_19 rfl rfl ?_
  refine P2_gfr hM (a := 189) FLX16_110 rfl ⟨rfl, rfl⟩ dX16_nodesFor_20 ?_
  refine S_iload_n (i := 1) dX16_nodesFor_23 rfl rfl ?_
  refine P2_lai hM (a := 189) (n := 32) rfl dX16_nodesFor_24 h (fun v1 h => ?_)
  refine S_iadd dX16_nodesFor_25 ?_
  refine P_icmp_ge (tgt := 189) dX16_nodesFor_26 rfl h (fun h => ?_) (fun h => ?_)
  · obtain ⟨z0, h, hz⟩ := xit_some' (P := fun r => P r) h hz
    obtain rfl := r0 _ (some_P (P := fun r => P (.inr r)) h hz)
    exact S_return dX16_nodesFor_189 rfl
  · refine S_aload_n (i := 0) dX16_nodesFor_29 rfl rfl ?_
    refine P2_gfr hM (a := 193) FLX16_124 rfl ⟨rfl, rfl⟩ dX16_nodesFor_30 ?_
    refine S_iload dX16_nodesFor_33 rfl ?_
    refine P2_laz hM (a := 193) (n := 35200) rfl dX16_nodesFor_35 h (fun v2 h => ?_)
    refine P_if_ne (tgt := 183) dX16_nodesFor_36 rfl h (fun h => ?_) (fun h => ?_)
    · exact s_X16_nodesFor_183 hD hM c0 r0 h hz
    · refine S_iload_n (i := 3) dX16_nodesFor_39 rfl rfl ?_
      refine P_if_lt (tgt := 70) dX16_nodesFor_40 rfl h (fun h => ?_) (fun h => ?_)
      · exact s_X16_nodesFor_70 hD hM c0 r0 h hz
      · refine S_aload_n (i := 0) dX16_nodesFor_43 rfl rfl ?_
        refine P2_gfr hM (a := 190) FLX16_114 rfl ⟨rfl, rfl⟩ dX16_nodesFor_44 ?_
        refine S_iconst dX16_nodesFor_47 rfl ?_
        refine S_iload dX16_nodesFor_48 rfl ?_
        refine S_imul dX16_nodesFor_50 ?_
        refine S_aload_n (i := 2) dX16_nodesFor_51 rfl rfl ?_
        refine S_iload_n (i := 3) dX16_nodesFor_52 rfl rfl ?_
        refine P_if_ge (tgt := 60) dX16_nodesFor_53 rfl h (fun h => ?_) (fun h => ?_)
        · refine S_iload_n (i := 3) dX16_nodesFor_60 rfl rfl ?_
          exact s_X16_nodesFor_61 hD hM c0 r0 h hz
        · refine S_iconst dX16_nodesFor_56 rfl ?_
          refine S_goto (tgt := 61) dX16_nodesFor_57 rfl ?_
          exact s_X16_nodesFor_61 hD hM c0 r0 h hz
theorem sl_X16_nodesFor_12 {g : GG} {d : Nat} (hD : 3 ≤ d) {x1 x2 x3 x4 : Int} {M : MM} (hM : LM M) {V : VV} {o : AV × MM} {P : (VV) → Prop} (r0 : ∀ r : VV, P r → o = ((9, 0), (wr M r))) {z : VV} (h : l_X16_nodesFor_12 x1 x2 x3 x4 V = some z) (hz : P z) : Sem g d YX16_nodesFor 12 [(1, 156), (0, x1), (1, x2), (0, x3), (0, x4), (9, 0)] [] (wr M V) o := by
  refine lp_sound (S := fun s : Int × VV => Sem g d YX16_nodesFor 12 [(1, 156), (0, x1), (1, x2), (0, x3), (0, s.1), (9, 0)] [] (wr M s.2) o) (P := P) ?_ FU (x4, V) z h hz
  intro s x hx hP
  exact s_X16_nodesFor_12 hD hM (P := Sum.elim (fun s : Int × VV => Sem g d YX16_nodesFor 12 [(1, 156), (0, x1), (1, x2), (0, x3), (0, s.1), (9, 0)] [] (wr M s.2) o) P) (fun s h => h) (fun s h => r0 s h) hx hP
theorem s_X16_nodesFor_0 {g : GG} {d : Nat} (hD : 3 ≤ d) {x1 x2 x3 : Int} {M : MM} (hM : LM M) {V : VV} {o : AV × MM} {P : (VV) → Prop} (r0 : ∀ r : VV, P r → o = ((9, 0), (wr M r))) {z : VV} (h : f_X16_nodesFor x1 x2 x3 V = some z) (hz : P z) : Sem g d YX16_nodesFor 0 [(1, 156), (0, x1), (1, x2), (0, x3), (9, 0), (9, 0)] [] (wr M V) o := by
  delta f_X16_nodesFor at h
  refine S_aload_n (i := 0) dX16_nodesFor_0 rfl rfl ?_
  refine S_iconst dX16_nodesFor_1 rfl ?_
  refine P2_pfi hM FLX16_537 FPX16_537 rfl dX16_nodesFor_2 h (fun V1 h => ?_)
  refine S_sipush (z := 1100) dX16_nodesFor_5 rfl ?_
  refine S_iload_n (i := 1) dX16_nodesFor_8 rfl rfl ?_
  refine S_imul dX16_nodesFor_9 ?_
  refine S_istore dX16_nodesFor_10 (Nat.le_of_ble_eq_true rfl) rfl rfl ?_
  change Sem g d YX16_nodesFor 12 [(1, 156), (0, x1), (1, x2), (0, x3), (0, 1100 * x1), (9, 0)] [] (wr M V1) o
  exact sl_X16_nodesFor_12 hD hM r0 h hz
theorem F_X16_nodesFor {g : GG} {d : Nat} (hD : 3 ≤ d) {x1 x2 x3 : Int} {M : MM} (hM : LM M) {V : VV} {r : VV} (h : f_X16_nodesFor x1 x2 x3 V = some r) : Sem g d YX16_nodesFor 0 (ini YX16_nodesFor [(1, 156), (0, x1), (1, x2), (0, x3)]) [] (wr M V) ((9, 0), (wr M r)) := by
  change Sem g d YX16_nodesFor 0 [(1, 156), (0, x1), (1, x2), (0, x3), (9, 0), (9, 0)] [] (wr M V) ((9, 0), (wr M r))
  exact s_X16_nodesFor_0 hD hM (P := fun x => x = r) (fun q e => by rw [e]) h rfl
/-! PeerSearchModel.beginLookup(I[IIZ)V -/
theorem dX16_beginLookup_0 : decode cX16_beginLookup 0 = .ok (.aload_n 0, 1) := by decide +kernel
theorem dX16_beginLookup_1 : decode cX16_beginLookup 1 = .ok (.getfield 231, 3) := by decide +kernel
theorem dX16_beginLookup_4 : decode cX16_beginLookup 4 = .ok (.iload_n 1, 1) := by decide +kernel
theorem dX16_beginLookup_5 : decode cX16_beginLookup 5 = .ok (.iaload, 1) := by decide +kernel
theorem dX16_beginLookup_6 : decode cX16_beginLookup 6 = .ok (.istore 5, 2) := by decide +kernel
theorem dX16_beginLookup_8 : decode cX16_beginLookup 8 = .ok (.aload_n 0, 1) := by decide +kernel
theorem dX16_beginLookup_9 : decode cX16_beginLookup 9 = .ok (.getfield 240, 3) := by decide +kernel
theorem dX16_beginLookup_12 : decode cX16_beginLookup 12 = .ok (.iload_n 1, 1) := by decide +kernel
theorem dX16_beginLookup_13 : decode cX16_beginLookup 13 = .ok (.dup2, 1) := by decide +kernel
theorem dX16_beginLookup_14 : decode cX16_beginLookup 14 = .ok (.iaload, 1) := by decide +kernel
theorem dX16_beginLookup_15 : decode cX16_beginLookup 15 = .ok (.iconst 1, 1) := by decide +kernel
theorem dX16_beginLookup_16 : decode cX16_beginLookup 16 = .ok (.iadd, 1) := by decide +kernel
theorem dX16_beginLookup_17 : decode cX16_beginLookup 17 = .ok (.iastore, 1) := by decide +kernel
theorem dX16_beginLookup_18 : decode cX16_beginLookup 18 = .ok (.aload_n 0, 1) := by decide +kernel
theorem dX16_beginLookup_19 : decode cX16_beginLookup 19 = .ok (.getfield 237, 3) := by decide +kernel
theorem dX16_beginLookup_22 : decode cX16_beginLookup 22 = .ok (.iload_n 1, 1) := by decide +kernel
theorem dX16_beginLookup_23 : decode cX16_beginLookup 23 = .ok (.iconst 1, 1) := by decide +kernel
theorem dX16_beginLookup_24 : decode cX16_beginLookup 24 = .ok (.iastore, 1) := by decide +kernel
theorem dX16_beginLookup_25 : decode cX16_beginLookup 25 = .ok (.aload_n 0, 1) := by decide +kernel
theorem dX16_beginLookup_26 : decode cX16_beginLookup 26 = .ok (.getfield 243, 3) := by decide +kernel
theorem dX16_beginLookup_29 : decode cX16_beginLookup 29 = .ok (.iconst 5, 1) := by decide +kernel
theorem dX16_beginLookup_30 : decode cX16_beginLookup 30 = .ok (.iload_n 1, 1) := by decide +kernel
theorem dX16_beginLookup_31 : decode cX16_beginLookup 31 = .ok (.imul, 1) := by decide +kernel
theorem dX16_beginLookup_32 : decode cX16_beginLookup 32 = .ok (.aload_n 2, 1) := by decide +kernel
theorem dX16_beginLookup_33 : decode cX16_beginLookup 33 = .ok (.iload_n 3, 1) := by decide +kernel
theorem dX16_beginLookup_34 : decode cX16_beginLookup 34 = .ok (.invokestatic 438, 3) := by decide +kernel
theorem dX16_beginLookup_37 : decode cX16_beginLookup 37 = .ok (.aload_n 0, 1) := by decide +kernel
theorem dX16_beginLookup_38 : decode cX16_beginLookup 38 = .ok (.getfield 246, 3) := by decide +kernel
theorem dX16_beginLookup_41 : decode cX16_beginLookup 41 = .ok (.iload_n 1, 1) := by decide +kernel
theorem dX16_beginLookup_42 : decode cX16_beginLookup 42 = .ok (.iload 4, 2) := by decide +kernel
theorem dX16_beginLookup_44 : decode cX16_beginLookup 44 = .ok (.bastore, 1) := by decide +kernel
theorem dX16_beginLookup_45 : decode cX16_beginLookup 45 = .ok (.aload_n 0, 1) := by decide +kernel
theorem dX16_beginLookup_46 : decode cX16_beginLookup 46 = .ok (.getfield 249, 3) := by decide +kernel
theorem dX16_beginLookup_49 : decode cX16_beginLookup 49 = .ok (.iload_n 1, 1) := by decide +kernel
theorem dX16_beginLookup_50 : decode cX16_beginLookup 50 = .ok (.iconst 0, 1) := by decide +kernel
theorem dX16_beginLookup_51 : decode cX16_beginLookup 51 = .ok (.iastore, 1) := by decide +kernel
theorem dX16_beginLookup_52 : decode cX16_beginLookup 52 = .ok (.aload_n 0, 1) := by decide +kernel
theorem dX16_beginLookup_53 : decode cX16_beginLookup 53 = .ok (.getfield 264, 3) := by decide +kernel
theorem dX16_beginLookup_56 : decode cX16_beginLookup 56 = .ok (.iload_n 1, 1) := by decide +kernel
theorem dX16_beginLookup_57 : decode cX16_beginLookup 57 = .ok (.iconst 0, 1) := by decide +kernel
theorem dX16_beginLookup_58 : decode cX16_beginLookup 58 = .ok (.iastore, 1) := by decide +kernel
theorem dX16_beginLookup_59 : decode cX16_beginLookup 59 = .ok (.aload_n 0, 1) := by decide +kernel
theorem dX16_beginLookup_60 : decode cX16_beginLookup 60 = .ok (.iload_n 1, 1) := by decide +kernel
theorem dX16_beginLookup_61 : decode cX16_beginLookup 61 = .ok (.aload_n 0, 1) := by decide +kernel
theorem dX16_beginLookup_62 : decode cX16_beginLookup 62 = .ok (.getfield 36, 3) := by decide +kernel
theorem dX16_beginLookup_65 : decode cX16_beginLookup 65 = .ok (.iconst 5, 1) := by decide +kernel
theorem dX16_beginLookup_66 : decode cX16_beginLookup 66 = .ok (.iload 5, 2) := by decide +kernel
theorem dX16_beginLookup_68 : decode cX16_beginLookup 68 = .ok (.imul, 1) := by decide +kernel
theorem dX16_beginLookup_69 : decode cX16_beginLookup 69 = .ok (.iload 5, 2) := by decide +kernel
theorem dX16_beginLookup_71 : decode cX16_beginLookup 71 = .ok (.iconst 2, 1) := by decide +kernel
theorem dX16_beginLookup_72 : decode cX16_beginLookup 72 = .ok (.invokevirtual 621, 3) := by decide +kernel
theorem dX16_beginLookup_75 : decode cX16_beginLookup 75 = .ok (.aload_n 0, 1) := by decide +kernel
theorem dX16_beginLookup_76 : decode cX16_beginLookup 76 = .ok (.getfield 131, 3) := by decide +kernel
theorem dX16_beginLookup_79 : decode cX16_beginLookup 79 = .ok (.iconst 0, 1) := by decide +kernel
theorem dX16_beginLookup_80 : decode cX16_beginLookup 80 = .ok (.aload_n 0, 1) := by decide +kernel
theorem dX16_beginLookup_81 : decode cX16_beginLookup 81 = .ok (.getfield 243, 3) := by decide +kernel
theorem dX16_beginLookup_84 : decode cX16_beginLookup 84 = .ok (.iconst 5, 1) := by decide +kernel
theorem dX16_beginLookup_85 : decode cX16_beginLookup 85 = .ok (.iload_n 1, 1) := by decide +kernel
theorem dX16_beginLookup_86 : decode cX16_beginLookup 86 = .ok (.imul, 1) := by decide +kernel
theorem dX16_beginLookup_87 : decode cX16_beginLookup 87 = .ok (.invokestatic 438, 3) := by decide +kernel
theorem dX16_beginLookup_90 : decode cX16_beginLookup 90 = .ok (.aload_n 0, 1) := by decide +kernel
theorem dX16_beginLookup_91 : decode cX16_beginLookup 91 = .ok (.iload 5, 2) := by decide +kernel
theorem dX16_beginLookup_93 : decode cX16_beginLookup 93 = .ok (.aload_n 0, 1) := by decide +kernel
theorem dX16_beginLookup_94 : decode cX16_beginLookup 94 = .ok (.getfield 131, 3) := by decide +kernel
theorem dX16_beginLookup_97 : decode cX16_beginLookup 97 = .ok (.iconst (-1), 1) := by decide +kernel
theorem dX16_beginLookup_98 : decode cX16_beginLookup 98 = .ok (.invokevirtual 625, 3) := by decide +kernel
theorem dX16_beginLookup_101 : decode cX16_beginLookup 101 = .ok (.iconst 0, 1) := by decide +kernel
theorem dX16_beginLookup_102 : decode cX16_beginLookup 102 = .ok (.istore 6, 2) := by decide +kernel
theorem dX16_beginLookup_104 : decode cX16_beginLookup 104 = .ok (.iload 6, 2) := by decide +kernel
theorem dX16_beginLookup_106 : decode cX16_beginLookup 106 = .ok (.aload_n 0, 1) := by decide +kernel
theorem dX16_beginLookup_107 : decode cX16_beginLookup 107 = .ok (.getfield 537, 3) := by decide +kernel
theorem dX16_beginLookup_110 : decode cX16_beginLookup 110 = .ok (.if_icmp .ge 40, 3) := by decide +kernel
theorem dX16_beginLookup_113 : decode cX16_beginLookup 113 = .ok (.aload_n 0, 1) := by decide +kernel
theorem dX16_beginLookup_114 : decode cX16_beginLookup 114 = .ok (.iload_n 1, 1) := by decide +kernel
theorem dX16_beginLookup_115 : decode cX16_beginLookup 115 = .ok (.aload_n 0, 1) := by decide +kernel
theorem dX16_beginLookup_116 : decode cX16_beginLookup 116 = .ok (.getfield 114, 3) := by decide +kernel
theorem dX16_beginLookup_119 : decode cX16_beginLookup 119 = .ok (.iconst 5, 1) := by decide +kernel
theorem dX16_beginLookup_120 : decode cX16_beginLookup 120 = .ok (.aload_n 0, 1) := by decide +kernel
theorem dX16_beginLookup_121 : decode cX16_beginLookup 121 = .ok (.getfield 134, 3) := by decide +kernel
theorem dX16_beginLookup_124 : decode cX16_beginLookup 124 = .ok (.iload 6, 2) := by decide +kernel
theorem dX16_beginLookup_126 : decode cX16_beginLookup 126 = .ok (.iaload, 1) := by decide +kernel
theorem dX16_beginLookup_127 : decode cX16_beginLookup 127 = .ok (.imul, 1) := by decide +kernel
theorem dX16_beginLookup_128 : decode cX16_beginLookup 128 = .ok (.aload_n 0, 1) := by decide +kernel
theorem dX16_beginLookup_129 : decode cX16_beginLookup 129 = .ok (.getfield 118, 3) := by decide +kernel
theorem dX16_beginLookup_132 : decode cX16_beginLookup 132 = .ok (.aload_n 0, 1) := by decide +kernel
theorem dX16_beginLookup_133 : decode cX16_beginLookup 133 = .ok (.getfield 134, 3) := by decide +kernel
theorem dX16_beginLookup_136 : decode cX16_beginLookup 136 = .ok (.iload 6, 2) := by decide +kernel
theorem dX16_beginLookup_138 : decode cX16_beginLookup 138 = .ok (.iaload, 1) := by decide +kernel
theorem dX16_beginLookup_139 : decode cX16_beginLookup 139 = .ok (.iaload, 1) := by decide +kernel
theorem dX16_beginLookup_140 : decode cX16_beginLookup 140 = .ok (.iconst 0, 1) := by decide +kernel
theorem dX16_beginLookup_141 : decode cX16_beginLookup 141 = .ok (.invokevirtual 621, 3) := by decide +kernel
theorem dX16_beginLookup_144 : decode cX16_beginLookup 144 = .ok (.iinc 6 1, 3) := by decide +kernel
theorem dX16_beginLookup_147 : decode cX16_beginLookup 147 = .ok (.goto (-43), 3) := by decide +kernel
theorem dX16_beginLookup_150 : decode cX16_beginLookup 150 = .ok (.return_, 1) := by decide +kernel
def b_X16_beginLookup_104 (x1 x6 : Int) (V : VV) : Option ((Int × VV) ⊕ (VV)) :=
  if w32 x6 < w32 (w32 (V 156 50)) then
    (l2 196 21 x6 V).bind fun v1 =>
    (l2 196 21 x6 V).bind fun v2 =>
    (l2 191 35200 v2 V).bind fun v3 =>
    (f_X16_addEntry x1 190 (5 * v1) v3 0 V).bind fun V1 =>
    cnt (x6 + 1, V1)
  else
    xit (some V)
def l_X16_beginLookup_104 (x1 x6 : Int) (V : VV) : Option (VV) := lpN (fun s : Int × VV => b_X16_beginLookup_104 x1 s.1 s.2) FU (x6, V)
def j_X16_beginLookup_90 (x1 x5 : Int) (V : VV) : Option (VV) :=
  (f_X16_nodesFor x5 195 (-1) V).bind fun V1 =>
  l_X16_beginLookup_104 x1 0 V1
def f_X16_beginLookup (x1 x2 x3 x4 : Int) (V : VV) : Option (VV) :=
  (l2 228 44 x1 V).bind fun v1 =>
  (l2 231 44 x1 V).bind fun v2 =>
  (s2 231 44 x1 (v2 + 1) V).bind fun V1 =>
  (s2 230 44 x1 1 V1).bind fun V2 =>
  (f_X16_put 232 (5 * x1) x2 x3 V2).bind fun V3 =>
  (s2z 233 44 x1 x4 V3).bind fun V4 =>
  (s2 234 44 x1 0 V4).bind fun V5 =>
  (s2 239 44 x1 0 V5).bind fun V6 =>
  (f_X16_addEntry x1 165 (5 * v1) v1 2 V6).bind fun V7 =>
  (f_X16_put 195 0 232 (5 * x1) V7).bind fun V8 =>
  j_X16_beginLookup_90 x1 v1 V8
theorem s_X16_beginLookup_104 {g : GG} {d : Nat} (hD : 4 ≤ d) {x1 x6 : Int} {M : MM} (hM : LM M) {V : VV} {o : AV × MM} {P : ((Int × VV) ⊕ (VV)) → Prop} (c0 : ∀ s : Int × VV, P (.inl s) → Sem g d YX16_beginLookup 104 [(1, 156), (0, x1), (9, 0), (9, 0), (9, 0), (9, 0), (0, s.1)] [] (wr M s.2) o) (r0 : ∀ r : VV, P (.inr r) → o = ((9, 0), (wr M r))) {z : (Int × VV) ⊕ (VV)} (h : b_X16_beginLookup_104 x1 x6 V = some z) (hz : P z) : Sem g d YX16_beginLookup 104 [(1, 156), (0, x1), (9, 0), (9, 0), (9, 0), (9, 0), (0, x6)] [] (wr M V) o := by
  delta b_X16_beginLookup_104 at h
  refine S_iload dX16_beginLookup_104 rfl ?_
  refine S_aload_n (i := 0) dX16_beginLookup_106 rfl rfl ?_
  refine P2_gfi hM FLX16_537 rfl dX16_beginLookup_107 ?_
  refine P_icmp_ge (tgt := 150) dX16_beginLookup_110 rfl h (fun h => ?_) (fun h => ?_)
  · obtain ⟨z0, h, hz⟩ := xit_some' (P := fun r => P r) h hz
    obtain rfl := r0 _ (some_P (P := fun r => P (.inr r)) h hz)
    exact S_return dX16_beginLookup_150 rfl
  · refine S_aload_n (i := 0) dX16_beginLookup_113 rfl rfl ?_
    refine S_iload_n (i := 1) dX16_beginLookup_114 rfl rfl ?_
    refine S_aload_n (i := 0) dX16_beginLookup_115 rfl rfl ?_
    refine P2_gfr hM (a := 190) FLX16_114 rfl ⟨rfl, rfl⟩ dX16_beginLookup_116 ?_
    refine S_iconst dX16_beginLookup_119 rfl ?_
    refine S_aload_n (i := 0) dX16_beginLookup_120 rfl rfl ?_
    refine P2_gfr hM (a := 196) FLX16_134 rfl ⟨rfl, rfl⟩ dX16_beginLookup_121 ?_
    refine S_iload dX16_beginLookup_124 rfl ?_
    refine P2_lai hM (a := 196) (n := 21) rfl dX16_beginLookup_126 h (fun v1 h => ?_)
    refine S_imul dX16_beginLookup_127 ?_
    refine S_aload_n (i := 0) dX16_beginLookup_128 rfl rfl ?_
    refine P2_gfr hM (a := 191) FLX16_118 rfl ⟨rfl, rfl⟩ dX16_beginLookup_129 ?_
    refine S_aload_n (i := 0) dX16_beginLookup_132 rfl rfl ?_
    refine P2_gfr hM (a := 196) FLX16_134 rfl ⟨rfl, rfl⟩ dX16_beginLookup_133 ?_
    refine S_iload dX16_beginLookup_136 rfl ?_
    refine P2_lai hM (a := 196) (n := 21) rfl dX16_beginLookup_138 h (fun v2 h => ?_)
    refine P2_lai hM (a := 191) (n := 35200) rfl dX16_beginLookup_139 h (fun v3 h => ?_)
    refine S_iconst dX16_beginLookup_140 rfl ?_
    refine P2_invVm hM [(0, x1), (1, 190), (0, 5 * v1), (0, v3), (0, 0)] [] CVX16_addEntry MLX16_621 dX16_beginLookup_141 rfl rfl rfl rfl (by omega) h (fun r h => F_X16_addEntry (by omega) hM h) (fun V1 h => ?_)
    refine S_iinc dX16_beginLookup_144 rfl rfl rfl ?_
    change Sem g d YX16_beginLookup 147 [(1, 156), (0, x1), (9, 0), (9, 0), (9, 0), (9, 0), (0, x6 + 1)] [] (wr M V1) o
    refine S_goto (tgt := 104) dX16_beginLookup_147 rfl ?_
    exact c0 (x6 + 1, V1) (some_P (P := fun r => P r) h hz)
theorem sl_X16_beginLookup_104 {g : GG} {d : Nat} (hD : 4 ≤ d) {x1 x6 : Int} {M : MM} (hM : LM M) {V : VV} {o : AV × MM} {P : (VV) → Prop} (r0 : ∀ r : VV, P r → o = ((9, 0), (wr M r))) {z : VV} (h : l_X16_beginLookup_104 x1 x6 V = some z) (hz : P z) : Sem g d YX16_beginLookup 104 [(1, 156), (0, x1), (9, 0), (9, 0), (9, 0), (9, 0), (0, x6)] [] (wr M V) o := by
  refine lp_sound (S := fun s : Int × VV => Sem g d YX16_beginLookup 104 [(1, 156), (0, x1), (9, 0), (9, 0), (9, 0), (9, 0), (0, s.1)] [] (wr M s.2) o) (P := P) ?_ FU (x6, V) z h hz
  intro s x hx hP
  exact s_X16_beginLookup_104 hD hM (P := Sum.elim (fun s : Int × VV => Sem g d YX16_beginLookup 104 [(1, 156), (0, x1), (9, 0), (9, 0), (9, 0), (9, 0), (0, s.1)] [] (wr M s.2) o) P) (fun s h => h) (fun s h => r0 s h) hx hP
theorem s_X16_beginLookup_90 {g : GG} {d : Nat} (hD : 4 ≤ d) {x1 x5 : Int} {M : MM} (hM : LM M) {V : VV} {o : AV × MM} {P : (VV) → Prop} (r0 : ∀ r : VV, P r → o = ((9, 0), (wr M r))) {z : VV} (h : j_X16_beginLookup_90 x1 x5 V = some z) (hz : P z) : Sem g d YX16_beginLookup 90 [(1, 156), (0, x1), (9, 0), (9, 0), (9, 0), (0, x5), (9, 0)] [] (wr M V) o := by
  delta j_X16_beginLookup_90 at h
  refine S_aload_n (i := 0) dX16_beginLookup_90 rfl rfl ?_
  refine S_iload dX16_beginLookup_91 rfl ?_
  refine S_aload_n (i := 0) dX16_beginLookup_93 rfl rfl ?_
  refine P2_gfr hM (a := 195) FLX16_131 rfl ⟨rfl, rfl⟩ dX16_beginLookup_94 ?_
  refine S_iconst dX16_beginLookup_97 rfl ?_
  refine P2_invVm hM [(0, x5), (1, 195), (0, (-1))] [] CVX16_nodesFor MLX16_625 dX16_beginLookup_98 rfl rfl rfl rfl (by omega) h (fun r h => F_X16_nodesFor (by omega) hM h) (fun V1 h => ?_)
  refine S_iconst dX16_beginLookup_101 rfl ?_
  refine S_istore dX16_beginLookup_102 (Nat.le_of_ble_eq_true rfl) rfl rfl ?_
  change Sem g d YX16_beginLookup 104 [(1, 156), (0, x1), (9, 0), (9, 0), (9, 0), (0, x5), (0, 0)] [] (wr M V1) o
  refine S_weak (ls' := [(1, 156), (0, x1), (9, 0), (9, 0), (9, 0), (9, 0), (0, 0)]) ⟨Or.inr rfl, ⟨Or.inr rfl, ⟨Or.inl rfl, ⟨Or.inl rfl, ⟨Or.inl rfl, ⟨Or.inl rfl, ⟨Or.inr rfl, trivial⟩⟩⟩⟩⟩⟩⟩ ?_
  exact sl_X16_beginLookup_104 hD hM r0 h hz
theorem s_X16_beginLookup_0 {g : GG} {d : Nat} (hD : 4 ≤ d) {x1 x2 x3 x4 : Int} {M : MM} (hM : LM M) {V : VV} {o : AV × MM} {P : (VV) → Prop} (r0 : ∀ r : VV, P r → o = ((9, 0), (wr M r))) {z : VV} (h : f_X16_beginLookup x1 x2 x3 x4 V = some z) (hz : P z) : Sem g d YX16_beginLookup 0 [(1, 156), (0, x1), (1, x2), (0, x3), (0, x4), (9, 0), (9, 0)] [] (wr M V) o := by
  delta f_X16_beginLookup at h
  refine S_aload_n (i := 0) dX16_beginLookup_0 rfl rfl ?_
  refine P2_gfr hM (a := 228) FLX16_231 rfl ⟨rfl, rfl⟩ dX16_beginLookup_1 ?_
  refine S_iload_n (i := 1) dX16_beginLookup_4 rfl rfl ?_
  refine P2_lai hM (a := 228) (n := 44) rfl dX16_beginLookup_5 h (fun v1 h => ?_)
  refine S_istore dX16_beginLookup_6 (Nat.le_of_ble_eq_true rfl) rfl rfl ?_
  change Sem g d YX16_beginLookup 8 [(1, 156), (0, x1), (1, x2), (0, x3), (0, x4), (0, v1), (9, 0)] [] (wr M V) o
  refine S_aload_n (i := 0) dX16_beginLookup_8 rfl rfl ?_
  refine P2_gfr hM (a := 231) FLX16_240 rfl ⟨rfl, rfl⟩ dX16_beginLookup_9 ?_
  refine S_iload_n (i := 1) dX16_beginLookup_12 rfl rfl ?_
  refine S_dup2 dX16_beginLookup_13 (Nat.le_of_ble_eq_true rfl) (Nat.le_of_ble_eq_true rfl) ?_
  refine P2_lai hM (a := 231) (n := 44) rfl dX16_beginLookup_14 h (fun v2 h => ?_)
  refine S_iconst dX16_beginLookup_15 rfl ?_
  refine S_iadd dX16_beginLookup_16 ?_
  refine P2_sai hM (a := 231) (n := 44) rfl dX16_beginLookup_17 h (fun V1 h => ?_)
  refine S_aload_n (i := 0) dX16_beginLookup_18 rfl rfl ?_
  refine P2_gfr hM (a := 230) FLX16_237 rfl ⟨rfl, rfl⟩ dX16_beginLookup_19 ?_
  refine S_iload_n (i := 1) dX16_beginLookup_22 rfl rfl ?_
  refine S_iconst dX16_beginLookup_23 rfl ?_
  refine P2_sai hM (a := 230) (n := 44) rfl dX16_beginLookup_24 h (fun V2 h => ?_)
  refine S_aload_n (i := 0) dX16_beginLookup_25 rfl rfl ?_
  refine P2_gfr hM (a := 232) FLX16_243 rfl ⟨rfl, rfl⟩ dX16_beginLookup_26 ?_
  refine S_iconst dX16_beginLookup_29 rfl ?_
  refine S_iload_n (i := 1) dX16_beginLookup_30 rfl rfl ?_
  refine S_imul dX16_beginLookup_31 ?_
  refine S_aload_n (i := 2) dX16_beginLookup_32 rfl rfl ?_
  refine S_iload_n (i := 3) dX16_beginLookup_33 rfl rfl ?_
  refine P2_invSm hM [(1, 232), (0, 5 * x1), (1, x2), (0, x3)] [] CSX16_put MLX16_438 dX16_beginLookup_34 rfl rfl rfl rfl (by omega) h (fun r h => F_X16_put (by omega) hM h) (fun V3 h => ?_)
  refine S_aload_n (i := 0) dX16_beginLookup_37 rfl rfl ?_
  refine P2_gfr hM (a := 233) FLX16_246 rfl ⟨rfl, rfl⟩ dX16_beginLookup_38 ?_
  refine S_iload_n (i := 1) dX16_beginLookup_41 rfl rfl ?_
  refine S_iload dX16_beginLookup_42 rfl ?_
  refine P2_saz hM (a := 233) (n := 44) rfl dX16_beginLookup_44 h (fun V4 h => ?_)
  refine S_aload_n (i := 0) dX16_beginLookup_45 rfl rfl ?_
  refine P2_gfr hM (a := 234) FLX16_249 rfl ⟨rfl, rfl⟩ dX16_beginLookup_46 ?_
  refine S_iload_n (i := 1) dX16_beginLookup_49 rfl rfl ?_
  refine S_iconst dX16_beginLookup_50 rfl ?_
  refine P2_sai hM (a := 234) (n := 44) rfl dX16_beginLookup_51 h (fun V5 h => ?_)
  refine S_aload_n (i := 0) dX16_beginLookup_52 rfl rfl ?_
  refine P2_gfr hM (a := 239) FLX16_264 rfl ⟨rfl, rfl⟩ dX16_beginLookup_53 ?_
  refine S_iload_n (i := 1) dX16_beginLookup_56 rfl rfl ?_
  refine S_iconst dX16_beginLookup_57 rfl ?_
  refine P2_sai hM (a := 239) (n := 44) rfl dX16_beginLookup_58 h (fun V6 h => ?_)
  refine S_aload_n (i := 0) dX16_beginLookup_59 rfl rfl ?_
  refine S_iload_n (i := 1) dX16_beginLookup_60 rfl rfl ?_
  refine S_aload_n (i := 0) dX16_beginLookup_61 rfl rfl ?_
  refine P2_gfr hM (a := 165) FLX16_36 rfl ⟨rfl, rfl⟩ dX16_beginLookup_62 ?_
  refine S_iconst dX16_beginLookup_65 rfl ?_
  refine S_iload dX16_beginLookup_66 rfl ?_
  refine S_imul dX16_beginLookup_68 ?_
  refine S_iload dX16_beginLookup_69 rfl ?_
  refine S_iconst dX16_beginLookup_71 rfl ?_
  refine P2_invVm hM [(0, x1), (1, 165), (0, 5 * v1), (0, v1), (0, 2)] [] CVX16_addEntry MLX16_621 dX16_beginLookup_72 rfl rfl rfl rfl (by omega) h (fun r h => F_X16_addEntry (by omega) hM h) (fun V7 h => ?_)
  refine S_aload_n (i := 0) dX16_beginLookup_75 rfl rfl ?_
  refine P2_gfr hM (a := 195) FLX16_131 rfl ⟨rfl, rfl⟩ dX16_beginLookup_76 ?_
  refine S_iconst dX16_beginLookup_79 rfl ?_
  refine S_aload_n (i := 0) dX16_beginLookup_80 rfl rfl ?_
  refine P2_gfr hM (a := 232) FLX16_243 rfl ⟨rfl, rfl⟩ dX16_beginLookup_81 ?_
  refine S_iconst dX16_beginLookup_84 rfl ?_
  refine S_iload_n (i := 1) dX16_beginLookup_85 rfl rfl ?_
  refine S_imul dX16_beginLookup_86 ?_
  refine P2_invSm hM [(1, 195), (0, 0), (1, 232), (0, 5 * x1)] [] CSX16_put MLX16_438 dX16_beginLookup_87 rfl rfl rfl rfl (by omega) h (fun r h => F_X16_put (by omega) hM h) (fun V8 h => ?_)
  refine S_weak (ls' := [(1, 156), (0, x1), (9, 0), (9, 0), (9, 0), (0, v1), (9, 0)]) ⟨Or.inr rfl, ⟨Or.inr rfl, ⟨Or.inl rfl, ⟨Or.inl rfl, ⟨Or.inl rfl, ⟨Or.inr rfl, ⟨Or.inl rfl, trivial⟩⟩⟩⟩⟩⟩⟩ ?_
  exact s_X16_beginLookup_90 hD hM r0 h hz
theorem F_X16_beginLookup {g : GG} {d : Nat} (hD : 4 ≤ d) {x1 x2 x3 x4 : Int} {M : MM} (hM : LM M) {V : VV} {r : VV} (h : f_X16_beginLookup x1 x2 x3 x4 V = some r) : Sem g d YX16_beginLookup 0 (ini YX16_beginLookup [(1, 156), (0, x1), (1, x2), (0, x3), (0, x4)]) [] (wr M V) ((9, 0), (wr M r)) := by
  change Sem g d YX16_beginLookup 0 [(1, 156), (0, x1), (1, x2), (0, x3), (0, x4), (9, 0), (9, 0)] [] (wr M V) ((9, 0), (wr M r))
  exact s_X16_beginLookup_0 hD hM (P := fun x => x = r) (fun q e => by rw [e]) h rfl
/-! PeerSearchModel.freePlace()I -/
theorem dX16_freePlace_0 : decode cX16_freePlace 0 = .ok (.aload_n 0, 1) := by decide +kernel
theorem dX16_freePlace_1 : decode cX16_freePlace 1 = .ok (.getfield 615, 3) := by decide +kernel
theorem dX16_freePlace_4 : decode cX16_freePlace 4 = .ok (.sipush 256, 3) := by decide +kernel
theorem dX16_freePlace_7 : decode cX16_freePlace 7 = .ok (.if_icmp .ne 5, 3) := by decide +kernel
theorem dX16_freePlace_10 : decode cX16_freePlace 10 = .ok (.iconst (-1), 1) := by decide +kernel
theorem dX16_freePlace_11 : decode cX16_freePlace 11 = .ok (.ireturn, 1) := by decide +kernel
theorem dX16_freePlace_12 : decode cX16_freePlace 12 = .ok (.iconst 0, 1) := by decide +kernel
theorem dX16_freePlace_13 : decode cX16_freePlace 13 = .ok (.istore_n 1, 1) := by decide +kernel
theorem dX16_freePlace_14 : decode cX16_freePlace 14 = .ok (.iload_n 1, 1) := by decide +kernel
theorem dX16_freePlace_15 : decode cX16_freePlace 15 = .ok (.bipush 12, 2) := by decide +kernel
theorem dX16_freePlace_17 : decode cX16_freePlace 17 = .ok (.if_icmp .ge 18, 3) := by decide +kernel
theorem dX16_freePlace_20 : decode cX16_freePlace 20 = .ok (.aload_n 0, 1) := by decide +kernel
theorem dX16_freePlace_21 : decode cX16_freePlace 21 = .ok (.getfield 225, 3) := by decide +kernel
theorem dX16_freePlace_24 : decode cX16_freePlace 24 = .ok (.iload_n 1, 1) := by decide +kernel
theorem dX16_freePlace_25 : decode cX16_freePlace 25 = .ok (.baload, 1) := by decide +kernel
theorem dX16_freePlace_26 : decode cX16_freePlace 26 = .ok (.ifCond .eq 9, 3) := by decide +kernel
theorem dX16_freePlace_29 : decode cX16_freePlace 29 = .ok (.iinc 1 1, 3) := by decide +kernel
theorem dX16_freePlace_32 : decode cX16_freePlace 32 = .ok (.goto (-18), 3) := by decide +kernel
theorem dX16_freePlace_35 : decode cX16_freePlace 35 = .ok (.iload_n 1, 1) := by decide +kernel
theorem dX16_freePlace_36 : decode cX16_freePlace 36 = .ok (.bipush 12, 2) := by decide +kernel
theorem dX16_freePlace_38 : decode cX16_freePlace 38 = .ok (.if_icmp .ne 7, 3) := by decide +kernel
theorem dX16_freePlace_41 : decode cX16_freePlace 41 = .ok (.iconst (-1), 1) := by decide +kernel
theorem dX16_freePlace_42 : decode cX16_freePlace 42 = .ok (.goto 4, 3) := by decide +kernel
theorem dX16_freePlace_45 : decode cX16_freePlace 45 = .ok (.iload_n 1, 1) := by decide +kernel
theorem dX16_freePlace_46 : decode cX16_freePlace 46 = .ok (.ireturn, 1) := by decide +kernel
def j_X16_freePlace_46 (y0 : Int) (V : VV) : Option (Int) :=
  some y0
def j_X16_freePlace_35 (x1 : Int) (V : VV) : Option (Int) :=
  if w32 x1 = w32 12 then
    j_X16_freePlace_46 (-1) V
  else
    j_X16_freePlace_46 x1 V
def b_X16_freePlace_14 (x1 : Int) (V : VV) : Option ((Int) ⊕ (Int)) :=
  if w32 x1 < w32 12 then
    (l2 226 44 x1 V).bind fun v1 =>
    if w32 v1 = 0 then
      xit (j_X16_freePlace_35 x1 V)
    else
      cnt (x1 + 1)
  else
    xit (j_X16_freePlace_35 x1 V)
def l_X16_freePlace_14 (x1 : Int) (V : VV) : Option (Int) := lpN (fun s : Int => b_X16_freePlace_14 s V) FU x1
def f_X16_freePlace (V : VV) : Option (Int) :=
  if w32 (w32 (V 156 91)) = w32 256 then
    some (-1)
  else
    l_X16_freePlace_14 0 V
theorem s_X16_freePlace_46 {g : GG} {d : Nat} (hD : 0 ≤ d) {y0 : Int} {M : MM} (hM : LM M) {V : VV} {o : AV × MM} {P : (Int) → Prop} (r0 : ∀ r : Int, P r → o = ((0, r), (wr M V))) {z : Int} (h : j_X16_freePlace_46 y0 V = some z) (hz : P z) : Sem g d YX16_freePlace 46 [(9, 0), (9, 0)] [(0, y0)] (wr M V) o := by
  delta j_X16_freePlace_46 at h
  obtain rfl := r0 _ (some_P (P := fun r => P r) h hz)
  exact P_ret dX16_freePlace_46 rfl (Or.inl rfl)
theorem s_X16_freePlace_35 {g : GG} {d : Nat} (hD : 0 ≤ d) {x1 : Int} {M : MM} (hM : LM M) {V : VV} {o : AV × MM} {P : (Int) → Prop} (r0 : ∀ r : Int, P r → o = ((0, r), (wr M V))) {z : Int} (h : j_X16_freePlace_35 x1 V = some z) (hz : P z) : Sem g d YX16_freePlace 35 [(9, 0), (0, x1)] [] (wr M V) o := by
  delta j_X16_freePlace_35 at h
  refine S_iload_n (i := 1) dX16_freePlace_35 rfl rfl ?_
  refine S_bipush (z := 12) dX16_freePlace_36 rfl ?_
  refine P_icmp_ne (tgt := 45) dX16_freePlace_38 rfl h (fun h => ?_) (fun h => ?_)
  · refine S_iload_n (i := 1) dX16_freePlace_45 rfl rfl ?_
    refine S_weak (ls' := [(9, 0), (9, 0)]) ⟨Or.inl rfl, ⟨Or.inl rfl, trivial⟩⟩ ?_
    exact s_X16_freePlace_46 hD hM r0 h hz
  · refine S_iconst dX16_freePlace_41 rfl ?_
    refine S_goto (tgt := 46) dX16_freePlace_42 rfl ?_
    refine S_weak (ls' := [(9, 0), (9, 0)]) ⟨Or.inl rfl, ⟨Or.inl rfl, trivial⟩⟩ ?_
    exact s_X16_freePlace_46 hD hM r0 h hz
theorem s_X16_freePlace_14 {g : GG} {d : Nat} (hD : 0 ≤ d) {x1 : Int} {M : MM} (hM : LM M) {V : VV} {o : AV × MM} {P : ((Int) ⊕ (Int)) → Prop} (c0 : ∀ s : Int, P (.inl s) → Sem g d YX16_freePlace 14 [(1, 156), (0, s)] [] (wr M V) o) (r0 : ∀ r : Int, P (.inr r) → o = ((0, r), (wr M V))) {z : (Int) ⊕ (Int)} (h : b_X16_freePlace_14 x1 V = some z) (hz : P z) : Sem g d YX16_freePlace 14 [(1, 156), (0, x1)] [] (wr M V) o := by
  delta b_X16_freePlace_14 at h
  refine S_iload_n (i := 1) dX16_freePlace_14 rfl rfl ?_
  refine S_bipush (z := 12) dX16_freePlace_15 rfl ?_
  refine P_icmp_ge (tgt := 35) dX16_freePlace_17 rfl h (fun h => ?_) (fun h => ?_)
  · refine S_weak (ls' := [(9, 0), (0, x1)]) ⟨Or.inl rfl, ⟨Or.inr rfl, trivial⟩⟩ ?_
    obtain ⟨z0, h, hz⟩ := xit_some' (P := fun r => P r) h hz
    exact s_X16_freePlace_35 hD hM (P := fun r => P (.inr r)) r0 h hz
  · refine S_aload_n (i := 0) dX16_freePlace_20 rfl rfl ?_
    refine P2_gfr hM (a := 226) FLX16_225 rfl ⟨rfl, rfl⟩ dX16_freePlace_21 ?_
    refine S_iload_n (i := 1) dX16_freePlace_24 rfl rfl ?_
    refine P2_laz hM (a := 226) (n := 44) rfl dX16_freePlace_25 h (fun v1 h => ?_)
    refine P_if_eq (tgt := 35) dX16_freePlace_26 rfl h (fun h => ?_) (fun h => ?_)
    · refine S_weak (ls' := [(9, 0), (0, x1)]) ⟨Or.inl rfl, ⟨Or.inr rfl, trivial⟩⟩ ?_
      obtain ⟨z0, h, hz⟩ := xit_some' (P := fun r => P r) h hz
      exact s_X16_freePlace_35 hD hM (P := fun r => P (.inr r)) r0 h hz
    · refine S_iinc dX16_freePlace_29 rfl rfl rfl ?_
      change Sem g d YX16_freePlace 32 [(1, 156), (0, x1 + 1)] [] (wr M V) o
      refine S_goto (tgt := 14) dX16_freePlace_32 rfl ?_
      exact c0 (x1 + 1) (some_P (P := fun r => P r) h hz)
theorem sl_X16_freePlace_14 {g : GG} {d : Nat} (hD : 0 ≤ d) {x1 : Int} {M : MM} (hM : LM M) {V : VV} {o : AV × MM} {P : (Int) → Prop} (r0 : ∀ r : Int, P r → o = ((0, r), (wr M V))) {z : Int} (h : l_X16_freePlace_14 x1 V = some z) (hz : P z) : Sem g d YX16_freePlace 14 [(1, 156), (0, x1)] [] (wr M V) o := by
  refine lp_sound (S := fun s : Int => Sem g d YX16_freePlace 14 [(1, 156), (0, s)] [] (wr M V) o) (P := P) ?_ FU x1 z h hz
  intro s x hx hP
  exact s_X16_freePlace_14 hD hM (P := Sum.elim (fun s : Int => Sem g d YX16_freePlace 14 [(1, 156), (0, s)] [] (wr M V) o) P) (fun s h => h) (fun s h => r0 s h) hx hP
theorem s_X16_freePlace_0 {g : GG} {d : Nat} (hD : 0 ≤ d) {M : MM} (hM : LM M) {V : VV} {o : AV × MM} {P : (Int) → Prop} (r0 : ∀ r : Int, P r → o = ((0, r), (wr M V))) {z : Int} (h : f_X16_freePlace V = some z) (hz : P z) : Sem g d YX16_freePlace 0 [(1, 156), (9, 0)] [] (wr M V) o := by
  delta f_X16_freePlace at h
  refine S_aload_n (i := 0) dX16_freePlace_0 rfl rfl ?_
  refine P2_gfi hM FLX16_615 rfl dX16_freePlace_1 ?_
  refine S_sipush (z := 256) dX16_freePlace_4 rfl ?_
  refine P_icmp_ne (tgt := 12) dX16_freePlace_7 rfl h (fun h => ?_) (fun h => ?_)
  · refine S_iconst dX16_freePlace_12 rfl ?_
    refine S_istore_n (i := 1) dX16_freePlace_13 rfl (Nat.le_of_ble_eq_true rfl) rfl rfl ?_
    change Sem g d YX16_freePlace 14 [(1, 156), (0, 0)] [] (wr M V) o
    exact sl_X16_freePlace_14 hD hM r0 h hz
  · refine S_iconst dX16_freePlace_10 rfl ?_
    obtain rfl := r0 _ (some_P (P := fun r => P r) h hz)
    exact P_ret dX16_freePlace_11 rfl (Or.inl rfl)
theorem F_X16_freePlace {g : GG} {d : Nat} (hD : 0 ≤ d) {M : MM} (hM : LM M) {V : VV} {r : Int} (h : f_X16_freePlace V = some r) : Sem g d YX16_freePlace 0 (ini YX16_freePlace [(1, 156)]) [] (wr M V) ((0, r), (wr M V)) := by
  change Sem g d YX16_freePlace 0 [(1, 156), (9, 0)] [] (wr M V) ((0, r), (wr M V))
  exact s_X16_freePlace_0 hD hM (P := fun x => x = r) (fun q e => by rw [e]) h rfl
/-! PeerSearchModel.open(III)V -/
theorem dX16_open_0 : decode cX16_open 0 = .ok (.aload_n 0, 1) := by decide +kernel
theorem dX16_open_1 : decode cX16_open 1 = .ok (.getfield 225, 3) := by decide +kernel
theorem dX16_open_4 : decode cX16_open 4 = .ok (.iload_n 1, 1) := by decide +kernel
theorem dX16_open_5 : decode cX16_open 5 = .ok (.iconst 1, 1) := by decide +kernel
theorem dX16_open_6 : decode cX16_open 6 = .ok (.bastore, 1) := by decide +kernel
theorem dX16_open_7 : decode cX16_open 7 = .ok (.aload_n 0, 1) := by decide +kernel
theorem dX16_open_8 : decode cX16_open 8 = .ok (.getfield 228, 3) := by decide +kernel
theorem dX16_open_11 : decode cX16_open 11 = .ok (.iload_n 1, 1) := by decide +kernel
theorem dX16_open_12 : decode cX16_open 12 = .ok (.iload_n 2, 1) := by decide +kernel
theorem dX16_open_13 : decode cX16_open 13 = .ok (.iastore, 1) := by decide +kernel
theorem dX16_open_14 : decode cX16_open 14 = .ok (.aload_n 0, 1) := by decide +kernel
theorem dX16_open_15 : decode cX16_open 15 = .ok (.getfield 231, 3) := by decide +kernel
theorem dX16_open_18 : decode cX16_open 18 = .ok (.iload_n 1, 1) := by decide +kernel
theorem dX16_open_19 : decode cX16_open 19 = .ok (.iload_n 3, 1) := by decide +kernel
theorem dX16_open_20 : decode cX16_open 20 = .ok (.iastore, 1) := by decide +kernel
theorem dX16_open_21 : decode cX16_open 21 = .ok (.aload_n 0, 1) := by decide +kernel
theorem dX16_open_22 : decode cX16_open 22 = .ok (.getfield 234, 3) := by decide +kernel
theorem dX16_open_25 : decode cX16_open 25 = .ok (.iload_n 1, 1) := by decide +kernel
theorem dX16_open_26 : decode cX16_open 26 = .ok (.iconst (-1), 1) := by decide +kernel
theorem dX16_open_27 : decode cX16_open 27 = .ok (.iastore, 1) := by decide +kernel
theorem dX16_open_28 : decode cX16_open 28 = .ok (.aload_n 0, 1) := by decide +kernel
theorem dX16_open_29 : decode cX16_open 29 = .ok (.getfield 240, 3) := by decide +kernel
theorem dX16_open_32 : decode cX16_open 32 = .ok (.iload_n 1, 1) := by decide +kernel
theorem dX16_open_33 : decode cX16_open 33 = .ok (.dup2, 1) := by decide +kernel
theorem dX16_open_34 : decode cX16_open 34 = .ok (.iaload, 1) := by decide +kernel
theorem dX16_open_35 : decode cX16_open 35 = .ok (.iconst 1, 1) := by decide +kernel
theorem dX16_open_36 : decode cX16_open 36 = .ok (.iadd, 1) := by decide +kernel
theorem dX16_open_37 : decode cX16_open 37 = .ok (.iastore, 1) := by decide +kernel
theorem dX16_open_38 : decode cX16_open 38 = .ok (.iload_n 1, 1) := by decide +kernel
theorem dX16_open_39 : decode cX16_open 39 = .ok (.bipush 12, 2) := by decide +kernel
theorem dX16_open_41 : decode cX16_open 41 = .ok (.if_icmp .ge 73, 3) := by decide +kernel
theorem dX16_open_44 : decode cX16_open 44 = .ok (.aload_n 0, 1) := by decide +kernel
theorem dX16_open_45 : decode cX16_open 45 = .ok (.getfield 234, 3) := by decide +kernel
theorem dX16_open_48 : decode cX16_open 48 = .ok (.iload_n 1, 1) := by decide +kernel
theorem dX16_open_49 : decode cX16_open 49 = .ok (.aload_n 0, 1) := by decide +kernel
theorem dX16_open_50 : decode cX16_open 50 = .ok (.getfield 615, 3) := by decide +kernel
theorem dX16_open_53 : decode cX16_open 53 = .ok (.iastore, 1) := by decide +kernel
theorem dX16_open_54 : decode cX16_open 54 = .ok (.aload_n 0, 1) := by decide +kernel
theorem dX16_open_55 : decode cX16_open 55 = .ok (.getfield 342, 3) := by decide +kernel
theorem dX16_open_58 : decode cX16_open 58 = .ok (.aload_n 0, 1) := by decide +kernel
theorem dX16_open_59 : decode cX16_open 59 = .ok (.getfield 615, 3) := by decide +kernel
theorem dX16_open_62 : decode cX16_open 62 = .ok (.iload_n 2, 1) := by decide +kernel
theorem dX16_open_63 : decode cX16_open 63 = .ok (.iastore, 1) := by decide +kernel
theorem dX16_open_64 : decode cX16_open 64 = .ok (.aload_n 0, 1) := by decide +kernel
theorem dX16_open_65 : decode cX16_open 65 = .ok (.getfield 345, 3) := by decide +kernel
theorem dX16_open_68 : decode cX16_open 68 = .ok (.aload_n 0, 1) := by decide +kernel
theorem dX16_open_69 : decode cX16_open 69 = .ok (.getfield 615, 3) := by decide +kernel
theorem dX16_open_72 : decode cX16_open 72 = .ok (.iload_n 3, 1) := by decide +kernel
theorem dX16_open_73 : decode cX16_open 73 = .ok (.iastore, 1) := by decide +kernel
theorem dX16_open_74 : decode cX16_open 74 = .ok (.aload_n 0, 1) := by decide +kernel
theorem dX16_open_75 : decode cX16_open 75 = .ok (.getfield 348, 3) := by decide +kernel
theorem dX16_open_78 : decode cX16_open 78 = .ok (.aload_n 0, 1) := by decide +kernel
theorem dX16_open_79 : decode cX16_open 79 = .ok (.getfield 615, 3) := by decide +kernel
theorem dX16_open_82 : decode cX16_open 82 = .ok (.iconst 0, 1) := by decide +kernel
theorem dX16_open_83 : decode cX16_open 83 = .ok (.iastore, 1) := by decide +kernel
theorem dX16_open_84 : decode cX16_open 84 = .ok (.aload_n 0, 1) := by decide +kernel
theorem dX16_open_85 : decode cX16_open 85 = .ok (.getfield 351, 3) := by decide +kernel
theorem dX16_open_88 : decode cX16_open 88 = .ok (.aload_n 0, 1) := by decide +kernel
theorem dX16_open_89 : decode cX16_open 89 = .ok (.getfield 615, 3) := by decide +kernel
theorem dX16_open_92 : decode cX16_open 92 = .ok (.iconst 0, 1) := by decide +kernel
theorem dX16_open_93 : decode cX16_open 93 = .ok (.iastore, 1) := by decide +kernel
theorem dX16_open_94 : decode cX16_open 94 = .ok (.aload_n 0, 1) := by decide +kernel
theorem dX16_open_95 : decode cX16_open 95 = .ok (.getfield 354, 3) := by decide +kernel
theorem dX16_open_98 : decode cX16_open 98 = .ok (.aload_n 0, 1) := by decide +kernel
theorem dX16_open_99 : decode cX16_open 99 = .ok (.getfield 615, 3) := by decide +kernel
theorem dX16_open_102 : decode cX16_open 102 = .ok (.iconst 0, 1) := by decide +kernel
theorem dX16_open_103 : decode cX16_open 103 = .ok (.iastore, 1) := by decide +kernel
theorem dX16_open_104 : decode cX16_open 104 = .ok (.aload_n 0, 1) := by decide +kernel
theorem dX16_open_105 : decode cX16_open 105 = .ok (.dup, 1) := by decide +kernel
theorem dX16_open_106 : decode cX16_open 106 = .ok (.getfield 615, 3) := by decide +kernel
theorem dX16_open_109 : decode cX16_open 109 = .ok (.iconst 1, 1) := by decide +kernel
theorem dX16_open_110 : decode cX16_open 110 = .ok (.iadd, 1) := by decide +kernel
theorem dX16_open_111 : decode cX16_open 111 = .ok (.putfield 615, 3) := by decide +kernel
theorem dX16_open_114 : decode cX16_open 114 = .ok (.return_, 1) := by decide +kernel
def j_X16_open_114 (V : VV) : Option (VV) :=
  some V
def j_X16_open_94 (V : VV) : Option (VV) :=
  (s2 269 256 (w32 (V 156 91)) 0 V).bind fun V1 =>
  (p2 91 ((w32 (V1 156 91)) + 1) V1).bind fun V2 =>
  j_X16_open_114 V2
def f_X16_open (x1 x2 x3 : Int) (V : VV) : Option (VV) :=
  (s2z 226 44 x1 1 V).bind fun V1 =>
  (s2 227 44 x1 x2 V1).bind fun V2 =>
  (s2 228 44 x1 x3 V2).bind fun V3 =>
  (s2 229 44 x1 (-1) V3).bind fun V4 =>
  (l2 231 44 x1 V4).bind fun v1 =>
  (s2 231 44 x1 (v1 + 1) V4).bind fun V5 =>
  if w32 x1 < w32 12 then
    (s2 229 44 x1 (w32 (V5 156 91)) V5).bind fun V6 =>
    (s2 265 256 (w32 (V6 156 91)) x2 V6).bind fun V7 =>
    (s2 266 256 (w32 (V7 156 91)) x3 V7).bind fun V8 =>
    (s2 267 256 (w32 (V8 156 91)) 0 V8).bind fun V9 =>
    (s2 268 256 (w32 (V9 156 91)) 0 V9).bind fun V10 =>
    j_X16_open_94 V10
  else
    j_X16_open_114 V5
theorem s_X16_open_114 {g : GG} {d : Nat} (hD : 0 ≤ d) {M : MM} (hM : LM M) {V : VV} {o : AV × MM} {P : (VV) → Prop} (r0 : ∀ r : VV, P r → o = ((9, 0), (wr M r))) {z : VV} (h : j_X16_open_114 V = some z) (hz : P z) : Sem g d YX16_open 114 [(9, 0), (9, 0), (9, 0), (9, 0)] [] (wr M V) o := by
  delta j_X16_open_114 at h
  obtain rfl := r0 _ (some_P (P := fun r => P r) h hz)
  exact S_return dX16_open_114 rfl
theorem s_X16_open_94 {g : GG} {d : Nat} (hD : 0 ≤ d) {M : MM} (hM : LM M) {V : VV} {o : AV × MM} {P : (VV) → Prop} (r0 : ∀ r : VV, P r → o = ((9, 0), (wr M r))) {z : VV} (h : j_X16_open_94 V = some z) (hz : P z) : Sem g d YX16_open 94 [(1, 156), (9, 0), (9, 0), (9, 0)] [] (wr M V) o := by
  delta j_X16_open_94 at h
  refine S_aload_n (i := 0) dX16_open_94 rfl rfl ?_
  refine P2_gfr hM (a := 269) FLX16_354 rfl ⟨rfl, rfl⟩ dX16_open_95 ?_
  refine S_aload_n (i := 0) dX16_open_98 rfl rfl ?_
  refine P2_gfi hM FLX16_615 rfl dX16_open_99 ?_
  refine S_iconst dX16_open_102 rfl ?_
  refine P2_sai hM (a := 269) (n := 256) rfl dX16_open_103 h (fun V1 h => ?_)
  refine S_aload_n (i := 0) dX16_open_104 rfl rfl ?_
  refine S_dup dX16_open_105 (Nat.le_of_ble_eq_true rfl) ?_
  refine P2_gfi hM FLX16_615 rfl dX16_open_106 ?_
  refine S_iconst dX16_open_109 rfl ?_
  refine S_iadd dX16_open_110 ?_
  refine P2_pfi hM FLX16_615 FPX16_615 rfl dX16_open_111 h (fun V2 h => ?_)
  refine S_weak (ls' := [(9, 0), (9, 0), (9, 0), (9, 0)]) ⟨Or.inl rfl, ⟨Or.inl rfl, ⟨Or.inl rfl, ⟨Or.inl rfl, trivial⟩⟩⟩⟩ ?_
  exact s_X16_open_114 hD hM r0 h hz
theorem s_X16_open_0 {g : GG} {d : Nat} (hD : 0 ≤ d) {x1 x2 x3 : Int} {M : MM} (hM : LM M) {V : VV} {o : AV × MM} {P : (VV) → Prop} (r0 : ∀ r : VV, P r → o = ((9, 0), (wr M r))) {z : VV} (h : f_X16_open x1 x2 x3 V = some z) (hz : P z) : Sem g d YX16_open 0 [(1, 156), (0, x1), (0, x2), (0, x3)] [] (wr M V) o := by
  delta f_X16_open at h
  refine S_aload_n (i := 0) dX16_open_0 rfl rfl ?_
  refine P2_gfr hM (a := 226) FLX16_225 rfl ⟨rfl, rfl⟩ dX16_open_1 ?_
  refine S_iload_n (i := 1) dX16_open_4 rfl rfl ?_
  refine S_iconst dX16_open_5 rfl ?_
  refine P2_saz hM (a := 226) (n := 44) rfl dX16_open_6 h (fun V1 h => ?_)
  refine S_aload_n (i := 0) dX16_open_7 rfl rfl ?_
  refine P2_gfr hM (a := 227) FLX16_228 rfl ⟨rfl, rfl⟩ dX16_open_8 ?_
  refine S_iload_n (i := 1) dX16_open_11 rfl rfl ?_
  refine S_iload_n (i := 2) dX16_open_12 rfl rfl ?_
  refine P2_sai hM (a := 227) (n := 44) rfl dX16_open_13 h (fun V2 h => ?_)
  refine S_aload_n (i := 0) dX16_open_14 rfl rfl ?_
  refine P2_gfr hM (a := 228) FLX16_231 rfl ⟨rfl, rfl⟩ dX16_open_15 ?_
  refine S_iload_n (i := 1) dX16_open_18 rfl rfl ?_
  refine S_iload_n (i := 3) dX16_open_19 rfl rfl ?_
  refine P2_sai hM (a := 228) (n := 44) rfl dX16_open_20 h (fun V3 h => ?_)
  refine S_aload_n (i := 0) dX16_open_21 rfl rfl ?_
  refine P2_gfr hM (a := 229) FLX16_234 rfl ⟨rfl, rfl⟩ dX16_open_22 ?_
  refine S_iload_n (i := 1) dX16_open_25 rfl rfl ?_
  refine S_iconst dX16_open_26 rfl ?_
  refine P2_sai hM (a := 229) (n := 44) rfl dX16_open_27 h (fun V4 h => ?_)
  refine S_aload_n (i := 0) dX16_open_28 rfl rfl ?_
  refine P2_gfr hM (a := 231) FLX16_240 rfl ⟨rfl, rfl⟩ dX16_open_29 ?_
  refine S_iload_n (i := 1) dX16_open_32 rfl rfl ?_
  refine S_dup2 dX16_open_33 (Nat.le_of_ble_eq_true rfl) (Nat.le_of_ble_eq_true rfl) ?_
  refine P2_lai hM (a := 231) (n := 44) rfl dX16_open_34 h (fun v1 h => ?_)
  refine S_iconst dX16_open_35 rfl ?_
  refine S_iadd dX16_open_36 ?_
  refine P2_sai hM (a := 231) (n := 44) rfl dX16_open_37 h (fun V5 h => ?_)
  refine S_iload_n (i := 1) dX16_open_38 rfl rfl ?_
  refine S_bipush (z := 12) dX16_open_39 rfl ?_
  refine P_icmp_ge (tgt := 114) dX16_open_41 rfl h (fun h => ?_) (fun h => ?_)
  · refine S_weak (ls' := [(9, 0), (9, 0), (9, 0), (9, 0)]) ⟨Or.inl rfl, ⟨Or.inl rfl, ⟨Or.inl rfl, ⟨Or.inl rfl, trivial⟩⟩⟩⟩ ?_
    exact s_X16_open_114 hD hM r0 h hz
  · refine S_aload_n (i := 0) dX16_open_44 rfl rfl ?_
    refine P2_gfr hM (a := 229) FLX16_234 rfl ⟨rfl, rfl⟩ dX16_open_45 ?_
    refine S_iload_n (i := 1) dX16_open_48 rfl rfl ?_
    refine S_aload_n (i := 0) dX16_open_49 rfl rfl ?_
    refine P2_gfi hM FLX16_615 rfl dX16_open_50 ?_
    refine P2_sai hM (a := 229) (n := 44) rfl dX16_open_53 h (fun V6 h => ?_)
    refine S_aload_n (i := 0) dX16_open_54 rfl rfl ?_
    refine P2_gfr hM (a := 265) FLX16_342 rfl ⟨rfl, rfl⟩ dX16_open_55 ?_
    refine S_aload_n (i := 0) dX16_open_58 rfl rfl ?_
    refine P2_gfi hM FLX16_615 rfl dX16_open_59 ?_
    refine S_iload_n (i := 2) dX16_open_62 rfl rfl ?_
    refine P2_sai hM (a := 265) (n := 256) rfl dX16_open_63 h (fun V7 h => ?_)
    refine S_aload_n (i := 0) dX16_open_64 rfl rfl ?_
    refine P2_gfr hM (a := 266) FLX16_345 rfl ⟨rfl, rfl⟩ dX16_open_65 ?_
    refine S_aload_n (i := 0) dX16_open_68 rfl rfl ?_
    refine P2_gfi hM FLX16_615 rfl dX16_open_69 ?_
    refine S_iload_n (i := 3) dX16_open_72 rfl rfl ?_
    refine P2_sai hM (a := 266) (n := 256) rfl dX16_open_73 h (fun V8 h => ?_)
    refine S_aload_n (i := 0) dX16_open_74 rfl rfl ?_
    refine P2_gfr hM (a := 267) FLX16_348 rfl ⟨rfl, rfl⟩ dX16_open_75 ?_
    refine S_aload_n (i := 0) dX16_open_78 rfl rfl ?_
    refine P2_gfi hM FLX16_615 rfl dX16_open_79 ?_
    refine S_iconst dX16_open_82 rfl ?_
    refine P2_sai hM (a := 267) (n := 256) rfl dX16_open_83 h (fun V9 h => ?_)
    refine S_aload_n (i := 0) dX16_open_84 rfl rfl ?_
    refine P2_gfr hM (a := 268) FLX16_351 rfl ⟨rfl, rfl⟩ dX16_open_85 ?_
    refine S_aload_n (i := 0) dX16_open_88 rfl rfl ?_
    refine P2_gfi hM FLX16_615 rfl dX16_open_89 ?_
    refine S_iconst dX16_open_92 rfl ?_
    refine P2_sai hM (a := 268) (n := 256) rfl dX16_open_93 h (fun V10 h => ?_)
    refine S_weak (ls' := [(1, 156), (9, 0), (9, 0), (9, 0)]) ⟨Or.inr rfl, ⟨Or.inl rfl, ⟨Or.inl rfl, ⟨Or.inl rfl, trivial⟩⟩⟩⟩ ?_
    exact s_X16_open_94 hD hM r0 h hz
theorem F_X16_open {g : GG} {d : Nat} (hD : 0 ≤ d) {x1 x2 x3 : Int} {M : MM} (hM : LM M) {V : VV} {r : VV} (h : f_X16_open x1 x2 x3 V = some r) : Sem g d YX16_open 0 (ini YX16_open [(1, 156), (0, x1), (0, x2), (0, x3)]) [] (wr M V) ((9, 0), (wr M r)) := by
  change Sem g d YX16_open 0 [(1, 156), (0, x1), (0, x2), (0, x3)] [] (wr M V) ((9, 0), (wr M r))
  exact s_X16_open_0 hD hM (P := fun x => x = r) (fun q e => by rw [e]) h rfl
/-! PeerSearchModel.refreshOn(I)V -/
theorem dX16_refreshOn_0 : decode cX16_refreshOn 0 = .ok (.aload_n 0, 1) := by decide +kernel
theorem dX16_refreshOn_1 : decode cX16_refreshOn 1 = .ok (.getfield 273, 3) := by decide +kernel
theorem dX16_refreshOn_4 : decode cX16_refreshOn 4 = .ok (.iload_n 1, 1) := by decide +kernel
theorem dX16_refreshOn_5 : decode cX16_refreshOn 5 = .ok (.iaload, 1) := by decide +kernel
theorem dX16_refreshOn_6 : decode cX16_refreshOn 6 = .ok (.istore_n 2, 1) := by decide +kernel
theorem dX16_refreshOn_7 : decode cX16_refreshOn 7 = .ok (.iload_n 2, 1) := by decide +kernel
theorem dX16_refreshOn_8 : decode cX16_refreshOn 8 = .ok (.aload_n 0, 1) := by decide +kernel
theorem dX16_refreshOn_9 : decode cX16_refreshOn 9 = .ok (.getfield 270, 3) := by decide +kernel
theorem dX16_refreshOn_12 : decode cX16_refreshOn 12 = .ok (.iload_n 1, 1) := by decide +kernel
theorem dX16_refreshOn_13 : decode cX16_refreshOn 13 = .ok (.iaload, 1) := by decide +kernel
theorem dX16_refreshOn_14 : decode cX16_refreshOn 14 = .ok (.if_icmp .le 10, 3) := by decide +kernel
theorem dX16_refreshOn_17 : decode cX16_refreshOn 17 = .ok (.aload_n 0, 1) := by decide +kernel
theorem dX16_refreshOn_18 : decode cX16_refreshOn 18 = .ok (.iload_n 1, 1) := by decide +kernel
theorem dX16_refreshOn_19 : decode cX16_refreshOn 19 = .ok (.iconst 1, 1) := by decide +kernel
theorem dX16_refreshOn_20 : decode cX16_refreshOn 20 = .ok (.invokevirtual 659, 3) := by decide +kernel
theorem dX16_refreshOn_23 : decode cX16_refreshOn 23 = .ok (.return_, 1) := by decide +kernel
theorem dX16_refreshOn_24 : decode cX16_refreshOn 24 = .ok (.aload_n 0, 1) := by decide +kernel
theorem dX16_refreshOn_25 : decode cX16_refreshOn 25 = .ok (.getfield 131, 3) := by decide +kernel
theorem dX16_refreshOn_28 : decode cX16_refreshOn 28 = .ok (.iconst 0, 1) := by decide +kernel
theorem dX16_refreshOn_29 : decode cX16_refreshOn 29 = .ok (.aload_n 0, 1) := by decide +kernel
theorem dX16_refreshOn_30 : decode cX16_refreshOn 30 = .ok (.getfield 36, 3) := by decide +kernel
theorem dX16_refreshOn_33 : decode cX16_refreshOn 33 = .ok (.iconst 5, 1) := by decide +kernel
theorem dX16_refreshOn_34 : decode cX16_refreshOn 34 = .ok (.aload_n 0, 1) := by decide +kernel
theorem dX16_refreshOn_35 : decode cX16_refreshOn 35 = .ok (.getfield 231, 3) := by decide +kernel
theorem dX16_refreshOn_38 : decode cX16_refreshOn 38 = .ok (.iload_n 1, 1) := by decide +kernel
theorem dX16_refreshOn_39 : decode cX16_refreshOn 39 = .ok (.iaload, 1) := by decide +kernel
theorem dX16_refreshOn_40 : decode cX16_refreshOn 40 = .ok (.imul, 1) := by decide +kernel
theorem dX16_refreshOn_41 : decode cX16_refreshOn 41 = .ok (.invokestatic 438, 3) := by decide +kernel
theorem dX16_refreshOn_44 : decode cX16_refreshOn 44 = .ok (.aload_n 0, 1) := by decide +kernel
theorem dX16_refreshOn_45 : decode cX16_refreshOn 45 = .ok (.getfield 131, 3) := by decide +kernel
theorem dX16_refreshOn_48 : decode cX16_refreshOn 48 = .ok (.iload_n 2, 1) := by decide +kernel
theorem dX16_refreshOn_49 : decode cX16_refreshOn 49 = .ok (.bipush 32, 2) := by decide +kernel
theorem dX16_refreshOn_51 : decode cX16_refreshOn 51 = .ok (.idiv, 1) := by decide +kernel
theorem dX16_refreshOn_52 : decode cX16_refreshOn 52 = .ok (.aload_n 0, 1) := by decide +kernel
theorem dX16_refreshOn_53 : decode cX16_refreshOn 53 = .ok (.getfield 131, 3) := by decide +kernel
theorem dX16_refreshOn_56 : decode cX16_refreshOn 56 = .ok (.iload_n 2, 1) := by decide +kernel
theorem dX16_refreshOn_57 : decode cX16_refreshOn 57 = .ok (.bipush 32, 2) := by decide +kernel
theorem dX16_refreshOn_59 : decode cX16_refreshOn 59 = .ok (.idiv, 1) := by decide +kernel
theorem dX16_refreshOn_60 : decode cX16_refreshOn 60 = .ok (.iaload, 1) := by decide +kernel
theorem dX16_refreshOn_61 : decode cX16_refreshOn 61 = .ok (.iconst 1, 1) := by decide +kernel
theorem dX16_refreshOn_62 : decode cX16_refreshOn 62 = .ok (.bipush 31, 2) := by decide +kernel
theorem dX16_refreshOn_64 : decode cX16_refreshOn 64 = .ok (.iload_n 2, 1) := by decide +kernel
theorem dX16_refreshOn_65 : decode cX16_refreshOn 65 = .ok (.bipush 32, 2) := by decide +kernel
theorem dX16_refreshOn_67 : decode cX16_refreshOn 67 = .ok (.irem, 1) := by decide +kernel
theorem dX16_refreshOn_68 : decode cX16_refreshOn 68 = .ok (.isub, 1) := by decide +kernel
theorem dX16_refreshOn_69 : decode cX16_refreshOn 69 = .ok (.ishl, 1) := by decide +kernel
theorem dX16_refreshOn_70 : decode cX16_refreshOn 70 = .ok (.ixor, 1) := by decide +kernel
theorem dX16_refreshOn_71 : decode cX16_refreshOn 71 = .ok (.iastore, 1) := by decide +kernel
theorem dX16_refreshOn_72 : decode cX16_refreshOn 72 = .ok (.aload_n 0, 1) := by decide +kernel
theorem dX16_refreshOn_73 : decode cX16_refreshOn 73 = .ok (.iload_n 1, 1) := by decide +kernel
theorem dX16_refreshOn_74 : decode cX16_refreshOn 74 = .ok (.aload_n 0, 1) := by decide +kernel
theorem dX16_refreshOn_75 : decode cX16_refreshOn 75 = .ok (.getfield 131, 3) := by decide +kernel
theorem dX16_refreshOn_78 : decode cX16_refreshOn 78 = .ok (.iconst 0, 1) := by decide +kernel
theorem dX16_refreshOn_79 : decode cX16_refreshOn 79 = .ok (.iconst 0, 1) := by decide +kernel
theorem dX16_refreshOn_80 : decode cX16_refreshOn 80 = .ok (.invokevirtual 668, 3) := by decide +kernel
theorem dX16_refreshOn_83 : decode cX16_refreshOn 83 = .ok (.return_, 1) := by decide +kernel
def f_X16_refreshOn (x1 : Int) (V : VV) : Option (VV) :=
  (l2 242 44 x1 V).bind fun v1 =>
  (l2 241 44 x1 V).bind fun v2 =>
  if w32 v2 < w32 v1 then
    (f_X16_close x1 1 V).bind fun V4 =>
    some V4
  else
    (l2 228 44 x1 V).bind fun v3 =>
    (f_X16_put 195 0 165 (5 * v3) V).bind fun V1 =>
    (dvi v1 32).bind fun v4 =>
    (dvi v1 32).bind fun v5 =>
    (l2 195 5 v5 V1).bind fun v6 =>
    (rmi v1 32).bind fun v7 =>
    (s2 195 5 v4 (bxor v6 (bshl 1 (31 - v7))) V1).bind fun V2 =>
    (f_X16_beginLookup x1 195 0 0 V2).bind fun V3 =>
    some V3
theorem s_X16_refreshOn_0 {g : GG} {d : Nat} (hD : 5 ≤ d) {x1 : Int} {M : MM} (hM : LM M) {V : VV} {o : AV × MM} {P : (VV) → Prop} (r0 : ∀ r : VV, P r → o = ((9, 0), (wr M r))) {z : VV} (h : f_X16_refreshOn x1 V = some z) (hz : P z) : Sem g d YX16_refreshOn 0 [(1, 156), (0, x1), (9, 0)] [] (wr M V) o := by
  delta f_X16_refreshOn at h
  refine S_aload_n (i := 0) dX16_refreshOn_0 rfl rfl ?_
  refine P2_gfr hM (a := 242) FLX16_273 rfl ⟨rfl, rfl⟩ dX16_refreshOn_1 ?_
  refine S_iload_n (i := 1) dX16_refreshOn_4 rfl rfl ?_
  refine P2_lai hM (a := 242) (n := 44) rfl dX16_refreshOn_5 h (fun v1 h => ?_)
  refine S_istore_n (i := 2) dX16_refreshOn_6 rfl (Nat.le_of_ble_eq_true rfl) rfl rfl ?_
  change Sem g d YX16_refreshOn 7 [(1, 156), (0, x1), (0, v1)] [] (wr M V) o
  refine S_iload_n (i := 2) dX16_refreshOn_7 rfl rfl ?_
  refine S_aload_n (i := 0) dX16_refreshOn_8 rfl rfl ?_
  refine P2_gfr hM (a := 241) FLX16_270 rfl ⟨rfl, rfl⟩ dX16_refreshOn_9 ?_
  refine S_iload_n (i := 1) dX16_refreshOn_12 rfl rfl ?_
  refine P2_lai hM (a := 241) (n := 44) rfl dX16_refreshOn_13 h (fun v2 h => ?_)
  refine P_icmp_le (tgt := 24) dX16_refreshOn_14 rfl h (fun h => ?_) (fun h => ?_)
  · refine S_aload_n (i := 0) dX16_refreshOn_24 rfl rfl ?_
    refine P2_gfr hM (a := 195) FLX16_131 rfl ⟨rfl, rfl⟩ dX16_refreshOn_25 ?_
    refine S_iconst dX16_refreshOn_28 rfl ?_
    refine S_aload_n (i := 0) dX16_refreshOn_29 rfl rfl ?_
    refine P2_gfr hM (a := 165) FLX16_36 rfl ⟨rfl, rfl⟩ dX16_refreshOn_30 ?_
    refine S_iconst dX16_refreshOn_33 rfl ?_
    refine S_aload_n (i := 0) dX16_refreshOn_34 rfl rfl ?_
    refine P2_gfr hM (a := 228) FLX16_231 rfl ⟨rfl, rfl⟩ dX16_refreshOn_35 ?_
    refine S_iload_n (i := 1) dX16_refreshOn_38 rfl rfl ?_
    refine P2_lai hM (a := 228) (n := 44) rfl dX16_refreshOn_39 h (fun v3 h => ?_)
    refine S_imul dX16_refreshOn_40 ?_
    refine P2_invSm hM [(1, 195), (0, 0), (1, 165), (0, 5 * v3)] [] CSX16_put MLX16_438 dX16_refreshOn_41 rfl rfl rfl rfl (by omega) h (fun r h => F_X16_put (by omega) hM h) (fun V1 h => ?_)
    refine S_aload_n (i := 0) dX16_refreshOn_44 rfl rfl ?_
    refine P2_gfr hM (a := 195) FLX16_131 rfl ⟨rfl, rfl⟩ dX16_refreshOn_45 ?_
    refine S_iload_n (i := 2) dX16_refreshOn_48 rfl rfl ?_
    refine S_bipush (z := 32) dX16_refreshOn_49 rfl ?_
    refine P_dvi dX16_refreshOn_51 h (fun v4 h => ?_)
    refine S_aload_n (i := 0) dX16_refreshOn_52 rfl rfl ?_
    refine P2_gfr hM (a := 195) FLX16_131 rfl ⟨rfl, rfl⟩ dX16_refreshOn_53 ?_
    refine S_iload_n (i := 2) dX16_refreshOn_56 rfl rfl ?_
    refine S_bipush (z := 32) dX16_refreshOn_57 rfl ?_
    refine P_dvi dX16_refreshOn_59 h (fun v5 h => ?_)
    refine P2_lai hM (a := 195) (n := 5) rfl dX16_refreshOn_60 h (fun v6 h => ?_)
    refine S_iconst dX16_refreshOn_61 rfl ?_
    refine S_bipush (z := 31) dX16_refreshOn_62 rfl ?_
    refine S_iload_n (i := 2) dX16_refreshOn_64 rfl rfl ?_
    refine S_bipush (z := 32) dX16_refreshOn_65 rfl ?_
    refine P_rmi dX16_refreshOn_67 h (fun v7 h => ?_)
    refine S_isub dX16_refreshOn_68 ?_
    refine S_ishl dX16_refreshOn_69 ?_
    refine S_ixor dX16_refreshOn_70 ?_
    refine P2_sai hM (a := 195) (n := 5) rfl dX16_refreshOn_71 h (fun V2 h => ?_)
    refine S_aload_n (i := 0) dX16_refreshOn_72 rfl rfl ?_
    refine S_iload_n (i := 1) dX16_refreshOn_73 rfl rfl ?_
    refine S_aload_n (i := 0) dX16_refreshOn_74 rfl rfl ?_
    refine P2_gfr hM (a := 195) FLX16_131 rfl ⟨rfl, rfl⟩ dX16_refreshOn_75 ?_
    refine S_iconst dX16_refreshOn_78 rfl ?_
    refine S_iconst dX16_refreshOn_79 rfl ?_
    refine P2_invVm hM [(0, x1), (1, 195), (0, 0), (0, 0)] [] CVX16_beginLookup MLX16_668 dX16_refreshOn_80 rfl rfl rfl rfl (by omega) h (fun r h => F_X16_beginLookup (by omega) hM h) (fun V3 h => ?_)
    obtain rfl := r0 _ (some_P (P := fun r => P r) h hz)
    exact S_return dX16_refreshOn_83 rfl
  · refine S_aload_n (i := 0) dX16_refreshOn_17 rfl rfl ?_
    refine S_iload_n (i := 1) dX16_refreshOn_18 rfl rfl ?_
    refine S_iconst dX16_refreshOn_19 rfl ?_
    refine P2_invVm hM [(0, x1), (0, 1)] [] CVX16_close MLX16_659 dX16_refreshOn_20 rfl rfl rfl rfl (by omega) h (fun r h => F_X16_close (by omega) hM h) (fun V4 h => ?_)
    obtain rfl := r0 _ (some_P (P := fun r => P r) h hz)
    exact S_return dX16_refreshOn_23 rfl
theorem F_X16_refreshOn {g : GG} {d : Nat} (hD : 5 ≤ d) {x1 : Int} {M : MM} (hM : LM M) {V : VV} {r : VV} (h : f_X16_refreshOn x1 V = some r) : Sem g d YX16_refreshOn 0 (ini YX16_refreshOn [(1, 156), (0, x1)]) [] (wr M V) ((9, 0), (wr M r)) := by
  change Sem g d YX16_refreshOn 0 [(1, 156), (0, x1), (9, 0)] [] (wr M V) ((9, 0), (wr M r))
  exact s_X16_refreshOn_0 hD hM (P := fun x => x = r) (fun q e => by rw [e]) h rfl
/-! PeerSearchModel.beginRefresh(I)V -/
theorem dX16_beginRefresh_0 : decode cX16_beginRefresh 0 = .ok (.aload_n 0, 1) := by decide +kernel
theorem dX16_beginRefresh_1 : decode cX16_beginRefresh 1 = .ok (.getfield 231, 3) := by decide +kernel
theorem dX16_beginRefresh_4 : decode cX16_beginRefresh 4 = .ok (.iload_n 1, 1) := by decide +kernel
theorem dX16_beginRefresh_5 : decode cX16_beginRefresh 5 = .ok (.iaload, 1) := by decide +kernel
theorem dX16_beginRefresh_6 : decode cX16_beginRefresh 6 = .ok (.istore_n 2, 1) := by decide +kernel
theorem dX16_beginRefresh_7 : decode cX16_beginRefresh 7 = .ok (.iconst (-1), 1) := by decide +kernel
theorem dX16_beginRefresh_8 : decode cX16_beginRefresh 8 = .ok (.istore_n 3, 1) := by decide +kernel
theorem dX16_beginRefresh_9 : decode cX16_beginRefresh 9 = .ok (.sipush 1100, 3) := by decide +kernel
theorem dX16_beginRefresh_12 : decode cX16_beginRefresh 12 = .ok (.iload_n 2, 1) := by decide +kernel
theorem dX16_beginRefresh_13 : decode cX16_beginRefresh 13 = .ok (.imul, 1) := by decide +kernel
theorem dX16_beginRefresh_14 : decode cX16_beginRefresh 14 = .ok (.istore 4, 2) := by decide +kernel
theorem dX16_beginRefresh_16 : decode cX16_beginRefresh 16 = .ok (.iload 4, 2) := by decide +kernel
theorem dX16_beginRefresh_18 : decode cX16_beginRefresh 18 = .ok (.sipush 1100, 3) := by decide +kernel
theorem dX16_beginRefresh_21 : decode cX16_beginRefresh 21 = .ok (.iload_n 2, 1) := by decide +kernel
theorem dX16_beginRefresh_22 : decode cX16_beginRefresh 22 = .ok (.imul, 1) := by decide +kernel
theorem dX16_beginRefresh_23 : decode cX16_beginRefresh 23 = .ok (.aload_n 0, 1) := by decide +kernel
theorem dX16_beginRefresh_24 : decode cX16_beginRefresh 24 = .ok (.getfield 110, 3) := by decide +kernel
theorem dX16_beginRefresh_27 : decode cX16_beginRefresh 27 = .ok (.iload_n 2, 1) := by decide +kernel
theorem dX16_beginRefresh_28 : decode cX16_beginRefresh 28 = .ok (.iaload, 1) := by decide +kernel
theorem dX16_beginRefresh_29 : decode cX16_beginRefresh 29 = .ok (.iadd, 1) := by decide +kernel
theorem dX16_beginRefresh_30 : decode cX16_beginRefresh 30 = .ok (.if_icmp .ge 42, 3) := by decide +kernel
theorem dX16_beginRefresh_33 : decode cX16_beginRefresh 33 = .ok (.aload_n 0, 1) := by decide +kernel
theorem dX16_beginRefresh_34 : decode cX16_beginRefresh 34 = .ok (.getfield 124, 3) := by decide +kernel
theorem dX16_beginRefresh_37 : decode cX16_beginRefresh 37 = .ok (.iload 4, 2) := by decide +kernel
theorem dX16_beginRefresh_39 : decode cX16_beginRefresh 39 = .ok (.baload, 1) := by decide +kernel
theorem dX16_beginRefresh_40 : decode cX16_beginRefresh 40 = .ok (.ifCond .ne 24, 3) := by decide +kernel
theorem dX16_beginRefresh_43 : decode cX16_beginRefresh 43 = .ok (.aload_n 0, 1) := by decide +kernel
theorem dX16_beginRefresh_44 : decode cX16_beginRefresh 44 = .ok (.getfield 121, 3) := by decide +kernel
theorem dX16_beginRefresh_47 : decode cX16_beginRefresh 47 = .ok (.iload 4, 2) := by decide +kernel
theorem dX16_beginRefresh_49 : decode cX16_beginRefresh 49 = .ok (.iaload, 1) := by decide +kernel
theorem dX16_beginRefresh_50 : decode cX16_beginRefresh 50 = .ok (.iload_n 3, 1) := by decide +kernel
theorem dX16_beginRefresh_51 : decode cX16_beginRefresh 51 = .ok (.if_icmp .le 13, 3) := by decide +kernel
theorem dX16_beginRefresh_54 : decode cX16_beginRefresh 54 = .ok (.aload_n 0, 1) := by decide +kernel
theorem dX16_beginRefresh_55 : decode cX16_beginRefresh 55 = .ok (.getfield 121, 3) := by decide +kernel
theorem dX16_beginRefresh_58 : decode cX16_beginRefresh 58 = .ok (.iload 4, 2) := by decide +kernel
theorem dX16_beginRefresh_60 : decode cX16_beginRefresh 60 = .ok (.iaload, 1) := by decide +kernel
theorem dX16_beginRefresh_61 : decode cX16_beginRefresh 61 = .ok (.goto 4, 3) := by decide +kernel
theorem dX16_beginRefresh_64 : decode cX16_beginRefresh 64 = .ok (.iload_n 3, 1) := by decide +kernel
theorem dX16_beginRefresh_65 : decode cX16_beginRefresh 65 = .ok (.istore_n 3, 1) := by decide +kernel
theorem dX16_beginRefresh_66 : decode cX16_beginRefresh 66 = .ok (.iinc 4 1, 3) := by decide +kernel
theorem dX16_beginRefresh_69 : decode cX16_beginRefresh 69 = .ok (.goto (-53), 3) := by decide +kernel
theorem dX16_beginRefresh_72 : decode cX16_beginRefresh 72 = .ok (.aload_n 0, 1) := by decide +kernel
theorem dX16_beginRefresh_73 : decode cX16_beginRefresh 73 = .ok (.getfield 270, 3) := by decide +kernel
theorem dX16_beginRefresh_76 : decode cX16_beginRefresh 76 = .ok (.iload_n 1, 1) := by decide +kernel
theorem dX16_beginRefresh_77 : decode cX16_beginRefresh 77 = .ok (.iload_n 3, 1) := by decide +kernel
theorem dX16_beginRefresh_78 : decode cX16_beginRefresh 78 = .ok (.iastore, 1) := by decide +kernel
theorem dX16_beginRefresh_79 : decode cX16_beginRefresh 79 = .ok (.aload_n 0, 1) := by decide +kernel
theorem dX16_beginRefresh_80 : decode cX16_beginRefresh 80 = .ok (.getfield 273, 3) := by decide +kernel
theorem dX16_beginRefresh_83 : decode cX16_beginRefresh 83 = .ok (.iload_n 1, 1) := by decide +kernel
theorem dX16_beginRefresh_84 : decode cX16_beginRefresh 84 = .ok (.iconst 0, 1) := by decide +kernel
theorem dX16_beginRefresh_85 : decode cX16_beginRefresh 85 = .ok (.iastore, 1) := by decide +kernel
theorem dX16_beginRefresh_86 : decode cX16_beginRefresh 86 = .ok (.aload_n 0, 1) := by decide +kernel
theorem dX16_beginRefresh_87 : decode cX16_beginRefresh 87 = .ok (.iload_n 1, 1) := by decide +kernel
theorem dX16_beginRefresh_88 : decode cX16_beginRefresh 88 = .ok (.invokevirtual 656, 3) := by decide +kernel
theorem dX16_beginRefresh_91 : decode cX16_beginRefresh 91 = .ok (.return_, 1) := by decide +kernel
def j_X16_beginRefresh_72 (x1 x3 : Int) (V : VV) : Option (VV) :=
  (s2 241 44 x1 x3 V).bind fun V1 =>
  (s2 242 44 x1 0 V1).bind fun V2 =>
  (f_X16_refreshOn x1 V2).bind fun V3 =>
  some V3
def j_X16_beginRefresh_65 (x1 x2 x4 y0 : Int) (V : VV) : Option ((Int × Int) ⊕ (VV)) :=
  cnt (y0, x4 + 1)
def j_X16_beginRefresh_64 (x1 x2 x3 x4 : Int) (V : VV) : Option ((Int × Int) ⊕ (VV)) :=
  j_X16_beginRefresh_65 x1 x2 x4 x3 V
def b_X16_beginRefresh_16 (x1 x2 x3 x4 : Int) (V : VV) : Option ((Int × Int) ⊕ (VV)) :=
  (l2 189 32 x2 V).bind fun v1 =>
  if w32 x4 < w32 ((1100 * x2) + v1) then
    (l2 193 35200 x4 V).bind fun v2 =>
    if w32 v2 = 0 then
      (l2 192 35200 x4 V).bind fun v3 =>
      if w32 x3 < w32 v3 then
        (l2 192 35200 x4 V).bind fun v4 =>
        j_X16_beginRefresh_65 x1 x2 x4 v4 V
      else
        j_X16_beginRefresh_64 x1 x2 x3 x4 V
    else
      j_X16_beginRefresh_64 x1 x2 x3 x4 V
  else
    xit (j_X16_beginRefresh_72 x1 x3 V)
def l_X16_beginRefresh_16 (x1 x2 x3 x4 : Int) (V : VV) : Option (VV) := lpN (fun s : Int × Int => b_X16_beginRefresh_16 x1 x2 s.1 s.2 V) FU (x3, x4)
def f_X16_beginRefresh (x1 : Int) (V : VV) : Option (VV) :=
  (l2 228 44 x1 V).bind fun v1 =>
  l_X16_beginRefresh_16 x1 v1 (-1) (1100 * v1) V
theorem s_X16_beginRefresh_72 {g : GG} {d : Nat} (hD : 6 ≤ d) {x1 x3 : Int} {M : MM} (hM : LM M) {V : VV} {o : AV × MM} {P : (VV) → Prop} (r0 : ∀ r : VV, P r → o = ((9, 0), (wr M r))) {z : VV} (h : j_X16_beginRefresh_72 x1 x3 V = some z) (hz : P z) : Sem g d YX16_beginRefresh 72 [(1, 156), (0, x1), (9, 0), (0, x3), (9, 0)] [] (wr M V) o := by
  delta j_X16_beginRefresh_72 at h
  refine S_aload_n (i := 0) dX16_beginRefresh_72 rfl rfl ?_
  refine P2_gfr hM (a := 241) FLX16_270 rfl ⟨rfl, rfl⟩ dX16_beginRefresh_73 ?_
  refine S_iload_n (i := 1) dX16_beginRefresh_76 rfl rfl ?_
  refine S_iload_n (i := 3) dX16_beginRefresh_77 rfl rfl ?_
  refine P2_sai hM (a := 241) (n := 44) rfl dX16_beginRefresh_78 h (fun V1 h => ?_)
  refine S_aload_n (i := 0) dX16_beginRefresh_79 rfl rfl ?_
  refine P2_gfr hM (a := 242) FLX16_273 rfl ⟨rfl, rfl⟩ dX16_beginRefresh_80 ?_
  refine S_iload_n (i := 1) dX16_beginRefresh_83 rfl rfl ?_
  refine S_iconst dX16_beginRefresh_84 rfl ?_
  refine P2_sai hM (a := 242) (n := 44) rfl dX16_beginRefresh_85 h (fun V2 h => ?_)
  refine S_aload_n (i := 0) dX16_beginRefresh_86 rfl rfl ?_
  refine S_iload_n (i := 1) dX16_beginRefresh_87 rfl rfl ?_
  refine P2_invVm hM [(0, x1)] [] CVX16_refreshOn MLX16_656 dX16_beginRefresh_88 rfl rfl rfl rfl (by omega) h (fun r h => F_X16_refreshOn (by omega) hM h) (fun V3 h => ?_)
  obtain rfl := r0 _ (some_P (P := fun r => P r) h hz)
  exact S_return dX16_beginRefresh_91 rfl
theorem s_X16_beginRefresh_65 {g : GG} {d : Nat} (hD : 6 ≤ d) {x1 x2 x4 y0 : Int} {M : MM} (hM : LM M) {V : VV} {o : AV × MM} {P : ((Int × Int) ⊕ (VV)) → Prop} (c0 : ∀ s : Int × Int, P (.inl s) → Sem g d YX16_beginRefresh 16 [(1, 156), (0, x1), (0, x2), (0, s.1), (0, s.2)] [] (wr M V) o) (r0 : ∀ r : VV, P (.inr r) → o = ((9, 0), (wr M r))) {z : (Int × Int) ⊕ (VV)} (h : j_X16_beginRefresh_65 x1 x2 x4 y0 V = some z) (hz : P z) : Sem g d YX16_beginRefresh 65 [(1, 156), (0, x1), (0, x2), (9, 0), (0, x4)] [(0, y0)] (wr M V) o := by
  delta j_X16_beginRefresh_65 at h
  refine S_istore_n (i := 3) dX16_beginRefresh_65 rfl (Nat.le_of_ble_eq_true rfl) rfl rfl ?_
  change Sem g d YX16_beginRefresh 66 [(1, 156), (0, x1), (0, x2), (0, y0), (0, x4)] [] (wr M V) o
  refine S_iinc dX16_beginRefresh_66 rfl rfl rfl ?_
  change Sem g d YX16_beginRefresh 69 [(1, 156), (0, x1), (0, x2), (0, y0), (0, x4 + 1)] [] (wr M V) o
  refine S_goto (tgt := 16) dX16_beginRefresh_69 rfl ?_
  exact c0 (y0, x4 + 1) (some_P (P := fun r => P r) h hz)
theorem s_X16_beginRefresh_64 {g : GG} {d : Nat} (hD : 6 ≤ d) {x1 x2 x3 x4 : Int} {M : MM} (hM : LM M) {V : VV} {o : AV × MM} {P : ((Int × Int) ⊕ (VV)) → Prop} (c0 : ∀ s : Int × Int, P (.inl s) → Sem g d YX16_beginRefresh 16 [(1, 156), (0, x1), (0, x2), (0, s.1), (0, s.2)] [] (wr M V) o) (r0 : ∀ r : VV, P (.inr r) → o = ((9, 0), (wr M r))) {z : (Int × Int) ⊕ (VV)} (h : j_X16_beginRefresh_64 x1 x2 x3 x4 V = some z) (hz : P z) : Sem g d YX16_beginRefresh 64 [(1, 156), (0, x1), (0, x2), (0, x3), (0, x4)] [] (wr M V) o := by
  delta j_X16_beginRefresh_64 at h
  refine S_iload_n (i := 3) dX16_beginRefresh_64 rfl rfl ?_
  refine S_weak (ls' := [(1, 156), (0, x1), (0, x2), (9, 0), (0, x4)]) ⟨Or.inr rfl, ⟨Or.inr rfl, ⟨Or.inr rfl, ⟨Or.inl rfl, ⟨Or.inr rfl, trivial⟩⟩⟩⟩⟩ ?_
  exact s_X16_beginRefresh_65 hD hM c0 r0 h hz
theorem s_X16_beginRefresh_16 {g : GG} {d : Nat} (hD : 6 ≤ d) {x1 x2 x3 x4 : Int} {M : MM} (hM : LM M) {V : VV} {o : AV × MM} {P : ((Int × Int) ⊕ (VV)) → Prop} (c0 : ∀ s : Int × Int, P (.inl s) → Sem g d YX16_beginRefresh 16 [(1, 156), (0, x1), (0, x2), (0, s.1), (0, s.2)] [] (wr M V) o) (r0 : ∀ r : VV, P (.inr r) → o = ((9, 0), (wr M r))) {z : (Int × Int) ⊕ (VV)} (h : b_X16_beginRefresh_16 x1 x2 x3 x4 V = some z) (hz : P z) : Sem g d YX16_beginRefresh 16 [(1, 156), (0, x1), (0, x2), (0, x3), (0, x4)] [] (wr M V) o := by
  delta b_X16_beginRefresh_16 at h
  refine S_iload dX16_beginRefresh_16 rfl ?_
  refine S_sipush (z := 1100) dX16_beginRefresh_18 rfl ?_
  refine S_iload_n (i := 2) dX16_beginRefresh_21 rfl rfl ?_
  refine S_imul dX16_beginRefresh_22 ?_
  refine S_aload_n (i := 0) dX16_beginRefresh_23 rfl rfl ?_
  refine P2_gfr hM (a := 189) FLX16_110 rfl ⟨rfl, rfl⟩ dX16_beginRefresh_24 ?_
  refine S_iload_n (i := 2) dX16_beginRefresh_27 rfl rfl ?_
  refine P2_lai hM (a := 189) (n := 32) rfl dX16_beginRefresh_28 h (fun v1 h => ?_)
  refine S_iadd dX16_beginRefresh_29 ?_
  refine P_icmp_ge (tgt := 72) dX16_beginRefresh_30 rfl h (fun h => ?_) (fun h => ?_)
  · refine S_weak (ls' := [(1, 156), (0, x1), (9, 0), (0, x3), (9, 0)]) ⟨Or.inr rfl, ⟨Or.inr rfl, ⟨Or.inl rfl, ⟨Or.inr rfl, ⟨Or.inl rfl, trivial⟩⟩⟩⟩⟩ ?_
    obtain ⟨z0, h, hz⟩ := xit_some' (P := fun r => P r) h hz
    exact s_X16_beginRefresh_72 hD hM (P := fun r => P (.inr r)) r0 h hz
  · refine S_aload_n (i := 0) dX16_beginRefresh_33 rfl rfl ?_
    refine P2_gfr hM (a := 193) FLX16_124 rfl ⟨rfl, rfl⟩ dX16_beginRefresh_34 ?_
    refine S_iload dX16_beginRefresh_37 rfl ?_
    refine P2_laz hM (a := 193) (n := 35200) rfl dX16_beginRefresh_39 h (fun v2 h => ?_)
    refine P_if_ne (tgt := 64) dX16_beginRefresh_40 rfl h (fun h => ?_) (fun h => ?_)
    · exact s_X16_beginRefresh_64 hD hM c0 r0 h hz
    · refine S_aload_n (i := 0) dX16_beginRefresh_43 rfl rfl ?_
      refine P2_gfr hM (a := 192) FLX16_121 rfl ⟨rfl, rfl⟩ dX16_beginRefresh_44 ?_
      refine S_iload dX16_beginRefresh_47 rfl ?_
      refine P2_lai hM (a := 192) (n := 35200) rfl dX16_beginRefresh_49 h (fun v3 h => ?_)
      refine S_iload_n (i := 3) dX16_beginRefresh_50 rfl rfl ?_
      refine P_icmp_le (tgt := 64) dX16_beginRefresh_51 rfl h (fun h => ?_) (fun h => ?_)
      · exact s_X16_beginRefresh_64 hD hM c0 r0 h hz
      · refine S_aload_n (i := 0) dX16_beginRefresh_54 rfl rfl ?_
        refine P2_gfr hM (a := 192) FLX16_121 rfl ⟨rfl, rfl⟩ dX16_beginRefresh_55 ?_
        refine S_iload dX16_beginRefresh_58 rfl ?_
        refine P2_lai hM (a := 192) (n := 35200) rfl dX16_beginRefresh_60 h (fun v4 h => ?_)
        refine S_goto (tgt := 65) dX16_beginRefresh_61 rfl ?_
        refine S_weak (ls' := [(1, 156), (0, x1), (0, x2), (9, 0), (0, x4)]) ⟨Or.inr rfl, ⟨Or.inr rfl, ⟨Or.inr rfl, ⟨Or.inl rfl, ⟨Or.inr rfl, trivial⟩⟩⟩⟩⟩ ?_
        exact s_X16_beginRefresh_65 hD hM c0 r0 h hz
theorem sl_X16_beginRefresh_16 {g : GG} {d : Nat} (hD : 6 ≤ d) {x1 x2 x3 x4 : Int} {M : MM} (hM : LM M) {V : VV} {o : AV × MM} {P : (VV) → Prop} (r0 : ∀ r : VV, P r → o = ((9, 0), (wr M r))) {z : VV} (h : l_X16_beginRefresh_16 x1 x2 x3 x4 V = some z) (hz : P z) : Sem g d YX16_beginRefresh 16 [(1, 156), (0, x1), (0, x2), (0, x3), (0, x4)] [] (wr M V) o := by
  refine lp_sound (S := fun s : Int × Int => Sem g d YX16_beginRefresh 16 [(1, 156), (0, x1), (0, x2), (0, s.1), (0, s.2)] [] (wr M V) o) (P := P) ?_ FU (x3, x4) z h hz
  intro s x hx hP
  exact s_X16_beginRefresh_16 hD hM (P := Sum.elim (fun s : Int × Int => Sem g d YX16_beginRefresh 16 [(1, 156), (0, x1), (0, x2), (0, s.1), (0, s.2)] [] (wr M V) o) P) (fun s h => h) (fun s h => r0 s h) hx hP
theorem s_X16_beginRefresh_0 {g : GG} {d : Nat} (hD : 6 ≤ d) {x1 : Int} {M : MM} (hM : LM M) {V : VV} {o : AV × MM} {P : (VV) → Prop} (r0 : ∀ r : VV, P r → o = ((9, 0), (wr M r))) {z : VV} (h : f_X16_beginRefresh x1 V = some z) (hz : P z) : Sem g d YX16_beginRefresh 0 [(1, 156), (0, x1), (9, 0), (9, 0), (9, 0)] [] (wr M V) o := by
  delta f_X16_beginRefresh at h
  refine S_aload_n (i := 0) dX16_beginRefresh_0 rfl rfl ?_
  refine P2_gfr hM (a := 228) FLX16_231 rfl ⟨rfl, rfl⟩ dX16_beginRefresh_1 ?_
  refine S_iload_n (i := 1) dX16_beginRefresh_4 rfl rfl ?_
  refine P2_lai hM (a := 228) (n := 44) rfl dX16_beginRefresh_5 h (fun v1 h => ?_)
  refine S_istore_n (i := 2) dX16_beginRefresh_6 rfl (Nat.le_of_ble_eq_true rfl) rfl rfl ?_
  change Sem g d YX16_beginRefresh 7 [(1, 156), (0, x1), (0, v1), (9, 0), (9, 0)] [] (wr M V) o
  refine S_iconst dX16_beginRefresh_7 rfl ?_
  refine S_istore_n (i := 3) dX16_beginRefresh_8 rfl (Nat.le_of_ble_eq_true rfl) rfl rfl ?_
  change Sem g d YX16_beginRefresh 9 [(1, 156), (0, x1), (0, v1), (0, (-1)), (9, 0)] [] (wr M V) o
  refine S_sipush (z := 1100) dX16_beginRefresh_9 rfl ?_
  refine S_iload_n (i := 2) dX16_beginRefresh_12 rfl rfl ?_
  refine S_imul dX16_beginRefresh_13 ?_
  refine S_istore dX16_beginRefresh_14 (Nat.le_of_ble_eq_true rfl) rfl rfl ?_
  change Sem g d YX16_beginRefresh 16 [(1, 156), (0, x1), (0, v1), (0, (-1)), (0, 1100 * v1)] [] (wr M V) o
  exact sl_X16_beginRefresh_16 hD hM r0 h hz
theorem F_X16_beginRefresh {g : GG} {d : Nat} (hD : 6 ≤ d) {x1 : Int} {M : MM} (hM : LM M) {V : VV} {r : VV} (h : f_X16_beginRefresh x1 V = some r) : Sem g d YX16_beginRefresh 0 (ini YX16_beginRefresh [(1, 156), (0, x1)]) [] (wr M V) ((9, 0), (wr M r)) := by
  change Sem g d YX16_beginRefresh 0 [(1, 156), (0, x1), (9, 0), (9, 0), (9, 0)] [] (wr M V) ((9, 0), (wr M r))
  exact s_X16_beginRefresh_0 hD hM (P := fun x => x = r) (fun q e => by rw [e]) h rfl
