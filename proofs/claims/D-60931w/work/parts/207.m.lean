set_option maxRecDepth 100000
/-! PeerSearch.set(II)Z -/
theorem dX1_set_0 : decode cX1_set 0 = .ok (.aload_n 0, 1) := by decide +kernel
theorem dX1_set_1 : decode cX1_set 1 = .ok (.getfield 78, 3) := by decide +kernel
theorem dX1_set_4 : decode cX1_set 4 = .ok (.iload_n 1, 1) := by decide +kernel
theorem dX1_set_5 : decode cX1_set 5 = .ok (.iload_n 2, 1) := by decide +kernel
theorem dX1_set_6 : decode cX1_set 6 = .ok (.invokevirtual 140, 3) := by decide +kernel
theorem dX1_set_9 : decode cX1_set 9 = .ok (.ireturn, 1) := by decide +kernel
def f_X1_set (x0 x1 x2 : Int) (M : MM) : Option (Int × MM) :=
  (gfr 1 1 x0 M).bind fun v1 =>
  ck 7 v1 M <| (f_X7_set v1 x1 x2 M).bind fun r1 =>
  bz r1.1 (some (r1.1, r1.2))
theorem s_X1_set_0 {g : GG} {d : Nat} (hD : 2 ≤ d) {x0 x1 x2 : Int} {M : MM} {o : AV × MM} {P : (Int × MM) → Prop} (r0 : ∀ r : Int × MM, P r → o = ((0, r.1), r.2)) {z : Int × MM} (h : f_X1_set x0 x1 x2 M = some z) (hz : P z) : Sem g d YX1_set 0 [(1, x0), (0, x1), (0, x2)] [] M o := by
  delta f_X1_set at h
  refine S_aload_n (i := 0) dX1_set_0 rfl rfl ?_
  refine P_gfr FLX1_78 rfl dX1_set_1 h (fun v1 h => ?_)
  refine S_iload_n (i := 1) dX1_set_4 rfl rfl ?_
  refine S_iload_n (i := 2) dX1_set_5 rfl rfl ?_
  refine P_invVe 0 [(0, x1), (0, x2)] [] CVX7_set MLX1_140 dX1_set_6 rfl rfl rfl rfl rfl (by omega) h (fun r h => F_X7_set (by omega) h) (fun r1 h => ?_)
  obtain ⟨hb, h⟩ := bz_some h
  obtain rfl := r0 _ (some_P (P := fun r => P r) h hz)
  exact P_ret dX1_set_9 rfl (Or.inr ⟨rfl, hb⟩)
theorem F_X1_set {g : GG} {d : Nat} (hD : 2 ≤ d) {x0 x1 x2 : Int} {M : MM} {r : Int × MM} (h : f_X1_set x0 x1 x2 M = some r) : Sem g d YX1_set 0 (ini YX1_set [(1, x0), (0, x1), (0, x2)]) [] M ((0, r.1), r.2) := by
  change Sem g d YX1_set 0 [(1, x0), (0, x1), (0, x2)] [] M ((0, r.1), r.2)
  exact s_X1_set_0 hD (P := fun x => x = r) (fun q e => by rw [e]) h rfl
/-! PeerSearch.side(II)Z -/
theorem dX1_side_0 : decode cX1_side 0 = .ok (.aload_n 0, 1) := by decide +kernel
theorem dX1_side_1 : decode cX1_side 1 = .ok (.iload_n 1, 1) := by decide +kernel
theorem dX1_side_2 : decode cX1_side 2 = .ok (.invokevirtual 113, 3) := by decide +kernel
theorem dX1_side_5 : decode cX1_side 5 = .ok (.ifCond .eq 12, 3) := by decide +kernel
theorem dX1_side_8 : decode cX1_side 8 = .ok (.iload_n 2, 1) := by decide +kernel
theorem dX1_side_9 : decode cX1_side 9 = .ok (.ifCond .lt 8, 3) := by decide +kernel
theorem dX1_side_12 : decode cX1_side 12 = .ok (.iload_n 2, 1) := by decide +kernel
theorem dX1_side_13 : decode cX1_side 13 = .ok (.iconst 1, 1) := by decide +kernel
theorem dX1_side_14 : decode cX1_side 14 = .ok (.if_icmp .le 5, 3) := by decide +kernel
theorem dX1_side_17 : decode cX1_side 17 = .ok (.iconst 0, 1) := by decide +kernel
theorem dX1_side_18 : decode cX1_side 18 = .ok (.ireturn, 1) := by decide +kernel
theorem dX1_side_19 : decode cX1_side 19 = .ok (.aload_n 0, 1) := by decide +kernel
theorem dX1_side_20 : decode cX1_side 20 = .ok (.getfield 70, 3) := by decide +kernel
theorem dX1_side_23 : decode cX1_side 23 = .ok (.getfield 114, 3) := by decide +kernel
theorem dX1_side_26 : decode cX1_side 26 = .ok (.iload_n 1, 1) := by decide +kernel
theorem dX1_side_27 : decode cX1_side 27 = .ok (.aaload, 1) := by decide +kernel
theorem dX1_side_28 : decode cX1_side 28 = .ok (.iload_n 2, 1) := by decide +kernel
theorem dX1_side_29 : decode cX1_side 29 = .ok (.putfield 146, 3) := by decide +kernel
theorem dX1_side_32 : decode cX1_side 32 = .ok (.iconst 1, 1) := by decide +kernel
theorem dX1_side_33 : decode cX1_side 33 = .ok (.ireturn, 1) := by decide +kernel
def j_X1_side_17 (M : MM) : Option (Int × MM) :=
  some (0, M)
def f_X1_side (x0 x1 x2 : Int) (M : MM) : Option (Int × MM) :=
  ck 1 x0 M <| (f_X1_has x0 x1 M).bind fun v1 =>
  if w32 v1 = 0 then
    j_X1_side_17 M
  else
    if w32 x2 < 0 then
      j_X1_side_17 M
    else
      if w32 1 < w32 x2 then
        j_X1_side_17 M
      else
        (gfr 1 0 x0 M).bind fun v2 =>
        (gfr 6 5 v2 M).bind fun v3 =>
        (lar 7 v3 x1 M).bind fun v4 =>
        (pfi 17 4 v4 x2 M).bind fun M1 =>
        some (1, M1)
theorem s_X1_side_17 {g : GG} {d : Nat} (hD : 2 ≤ d) {M : MM} {o : AV × MM} {P : (Int × MM) → Prop} (r0 : ∀ r : Int × MM, P r → o = ((0, r.1), r.2)) {z : Int × MM} (h : j_X1_side_17 M = some z) (hz : P z) : Sem g d YX1_side 17 [(9, 0), (9, 0), (9, 0)] [] M o := by
  delta j_X1_side_17 at h
  refine S_iconst dX1_side_17 rfl ?_
  obtain rfl := r0 _ (some_P (P := fun r => P r) h hz)
  exact P_ret dX1_side_18 rfl (Or.inr ⟨rfl, Or.inl rfl⟩)
theorem s_X1_side_0 {g : GG} {d : Nat} (hD : 2 ≤ d) {x0 x1 x2 : Int} {M : MM} {o : AV × MM} {P : (Int × MM) → Prop} (r0 : ∀ r : Int × MM, P r → o = ((0, r.1), r.2)) {z : Int × MM} (h : f_X1_side x0 x1 x2 M = some z) (hz : P z) : Sem g d YX1_side 0 [(1, x0), (0, x1), (0, x2)] [] M o := by
  delta f_X1_side at h
  refine S_aload_n (i := 0) dX1_side_0 rfl rfl ?_
  refine S_iload_n (i := 1) dX1_side_1 rfl rfl ?_
  refine P_invVp 0 [(0, x1)] [] CVX1_has MLX1_113 dX1_side_2 rfl rfl rfl rfl rfl (by omega) h (fun r h => F_X1_has (by omega) h) (fun v1 h => ?_)
  refine P_if_eq (tgt := 17) dX1_side_5 rfl h (fun h => ?_) (fun h => ?_)
  · refine S_weak (ls' := [(9, 0), (9, 0), (9, 0)]) ⟨Or.inl rfl, ⟨Or.inl rfl, ⟨Or.inl rfl, trivial⟩⟩⟩ ?_
    exact s_X1_side_17 hD r0 h hz
  · refine S_iload_n (i := 2) dX1_side_8 rfl rfl ?_
    refine P_if_lt (tgt := 17) dX1_side_9 rfl h (fun h => ?_) (fun h => ?_)
    · refine S_weak (ls' := [(9, 0), (9, 0), (9, 0)]) ⟨Or.inl rfl, ⟨Or.inl rfl, ⟨Or.inl rfl, trivial⟩⟩⟩ ?_
      exact s_X1_side_17 hD r0 h hz
    · refine S_iload_n (i := 2) dX1_side_12 rfl rfl ?_
      refine S_iconst dX1_side_13 rfl ?_
      refine P_icmp_le (tgt := 19) dX1_side_14 rfl h (fun h => ?_) (fun h => ?_)
      · refine S_aload_n (i := 0) dX1_side_19 rfl rfl ?_
        refine P_gfr FLX1_70 rfl dX1_side_20 h (fun v2 h => ?_)
        refine P_gfr FLX1_114 rfl dX1_side_23 h (fun v3 h => ?_)
        refine S_iload_n (i := 1) dX1_side_26 rfl rfl ?_
        refine P_lar (t := 7) ⟨by decide, by decide⟩ dX1_side_27 h (fun v4 h => ?_)
        refine S_iload_n (i := 2) dX1_side_28 rfl rfl ?_
        refine P_pfi FLX1_146 FPX1_146 rfl dX1_side_29 h (fun M1 h => ?_)
        refine S_iconst dX1_side_32 rfl ?_
        obtain rfl := r0 _ (some_P (P := fun r => P r) h hz)
        exact P_ret dX1_side_33 rfl (Or.inr ⟨rfl, Or.inr rfl⟩)
      · refine S_weak (ls' := [(9, 0), (9, 0), (9, 0)]) ⟨Or.inl rfl, ⟨Or.inl rfl, ⟨Or.inl rfl, trivial⟩⟩⟩ ?_
        exact s_X1_side_17 hD r0 h hz
theorem F_X1_side {g : GG} {d : Nat} (hD : 2 ≤ d) {x0 x1 x2 : Int} {M : MM} {r : Int × MM} (h : f_X1_side x0 x1 x2 M = some r) : Sem g d YX1_side 0 (ini YX1_side [(1, x0), (0, x1), (0, x2)]) [] M ((0, r.1), r.2) := by
  change Sem g d YX1_side 0 [(1, x0), (0, x1), (0, x2)] [] M ((0, r.1), r.2)
  exact s_X1_side_0 hD (P := fun x => x = r) (fun q e => by rw [e]) h rfl
/-! PeerSearch.isTrue(LPeerSearch$Contact;)Z -/
theorem dX1_isTrue_0 : decode cX1_isTrue 0 = .ok (.aload_n 0, 1) := by decide +kernel
theorem dX1_isTrue_1 : decode cX1_isTrue 1 = .ok (.aload_n 1, 1) := by decide +kernel
theorem dX1_isTrue_2 : decode cX1_isTrue 2 = .ok (.getfield 216, 3) := by decide +kernel
theorem dX1_isTrue_5 : decode cX1_isTrue 5 = .ok (.invokevirtual 149, 3) := by decide +kernel
theorem dX1_isTrue_8 : decode cX1_isTrue 8 = .ok (.ifCond .eq 32, 3) := by decide +kernel
theorem dX1_isTrue_11 : decode cX1_isTrue 11 = .ok (.aload_n 1, 1) := by decide +kernel
theorem dX1_isTrue_12 : decode cX1_isTrue 12 = .ok (.getfield 387, 3) := by decide +kernel
theorem dX1_isTrue_15 : decode cX1_isTrue 15 = .ok (.aload_n 0, 1) := by decide +kernel
theorem dX1_isTrue_16 : decode cX1_isTrue 16 = .ok (.getfield 70, 3) := by decide +kernel
theorem dX1_isTrue_19 : decode cX1_isTrue 19 = .ok (.getfield 114, 3) := by decide +kernel
theorem dX1_isTrue_22 : decode cX1_isTrue 22 = .ok (.aload_n 1, 1) := by decide +kernel
theorem dX1_isTrue_23 : decode cX1_isTrue 23 = .ok (.getfield 216, 3) := by decide +kernel
theorem dX1_isTrue_26 : decode cX1_isTrue 26 = .ok (.aaload, 1) := by decide +kernel
theorem dX1_isTrue_27 : decode cX1_isTrue 27 = .ok (.getfield 130, 3) := by decide +kernel
theorem dX1_isTrue_30 : decode cX1_isTrue 30 = .ok (.invokevirtual 133, 3) := by decide +kernel
theorem dX1_isTrue_33 : decode cX1_isTrue 33 = .ok (.ifCond .eq 7, 3) := by decide +kernel
theorem dX1_isTrue_36 : decode cX1_isTrue 36 = .ok (.iconst 1, 1) := by decide +kernel
theorem dX1_isTrue_37 : decode cX1_isTrue 37 = .ok (.goto 4, 3) := by decide +kernel
theorem dX1_isTrue_40 : decode cX1_isTrue 40 = .ok (.iconst 0, 1) := by decide +kernel
theorem dX1_isTrue_41 : decode cX1_isTrue 41 = .ok (.ireturn, 1) := by decide +kernel
def j_X1_isTrue_41 (y0 : Int) (M : MM) : Option (Int) :=
  bz y0 (some y0)
def j_X1_isTrue_40 (M : MM) : Option (Int) :=
  j_X1_isTrue_41 0 M
def f_X1_isTrue (x0 x1 : Int) (M : MM) : Option (Int) :=
  (gfi 23 1 x1 M).bind fun v1 =>
  ck 1 x0 M <| (f_X1_isLive x0 v1 M).bind fun v2 =>
  if w32 v2 = 0 then
    j_X1_isTrue_40 M
  else
    (gfr 23 0 x1 M).bind fun v3 =>
    (gfr 1 0 x0 M).bind fun v4 =>
    (gfr 6 5 v4 M).bind fun v5 =>
    (gfi 23 1 x1 M).bind fun v6 =>
    (lar 7 v5 v6 M).bind fun v7 =>
    (gfr 17 2 v7 M).bind fun v8 =>
    ck 3 v3 M <| (f_X3_is v3 v8 M).bind fun v9 =>
    if w32 v9 = 0 then
      j_X1_isTrue_40 M
    else
      j_X1_isTrue_41 1 M
theorem s_X1_isTrue_41 {g : GG} {d : Nat} (hD : 3 ≤ d) {y0 : Int} {M : MM} {o : AV × MM} {P : (Int) → Prop} (r0 : ∀ r : Int, P r → o = ((0, r), M)) {z : Int} (h : j_X1_isTrue_41 y0 M = some z) (hz : P z) : Sem g d YX1_isTrue 41 [(9, 0), (9, 0)] [(0, y0)] M o := by
  delta j_X1_isTrue_41 at h
  obtain ⟨hb, h⟩ := bz_some h
  obtain rfl := r0 _ (some_P (P := fun r => P r) h hz)
  exact P_ret dX1_isTrue_41 rfl (Or.inr ⟨rfl, hb⟩)
theorem s_X1_isTrue_40 {g : GG} {d : Nat} (hD : 3 ≤ d) {M : MM} {o : AV × MM} {P : (Int) → Prop} (r0 : ∀ r : Int, P r → o = ((0, r), M)) {z : Int} (h : j_X1_isTrue_40 M = some z) (hz : P z) : Sem g d YX1_isTrue 40 [(9, 0), (9, 0)] [] M o := by
  delta j_X1_isTrue_40 at h
  refine S_iconst dX1_isTrue_40 rfl ?_
  exact s_X1_isTrue_41 hD r0 h hz
theorem s_X1_isTrue_0 {g : GG} {d : Nat} (hD : 3 ≤ d) {x0 x1 : Int} {M : MM} {o : AV × MM} {P : (Int) → Prop} (r0 : ∀ r : Int, P r → o = ((0, r), M)) {z : Int} (h : f_X1_isTrue x0 x1 M = some z) (hz : P z) : Sem g d YX1_isTrue 0 [(1, x0), (1, x1)] [] M o := by
  delta f_X1_isTrue at h
  refine S_aload_n (i := 0) dX1_isTrue_0 rfl rfl ?_
  refine S_aload_n (i := 1) dX1_isTrue_1 rfl rfl ?_
  refine P_gfi FLX1_216 rfl dX1_isTrue_2 h (fun v1 h => ?_)
  refine P_invVp 0 [(0, v1)] [] CVX1_isLive MLX1_149 dX1_isTrue_5 rfl rfl rfl rfl rfl (by omega) h (fun r h => F_X1_isLive (by omega) h) (fun v2 h => ?_)
  refine P_if_eq (tgt := 40) dX1_isTrue_8 rfl h (fun h => ?_) (fun h => ?_)
  · refine S_weak (ls' := [(9, 0), (9, 0)]) ⟨Or.inl rfl, ⟨Or.inl rfl, trivial⟩⟩ ?_
    exact s_X1_isTrue_40 hD r0 h hz
  · refine S_aload_n (i := 1) dX1_isTrue_11 rfl rfl ?_
    refine P_gfr FLX1_387 rfl dX1_isTrue_12 h (fun v3 h => ?_)
    refine S_aload_n (i := 0) dX1_isTrue_15 rfl rfl ?_
    refine P_gfr FLX1_70 rfl dX1_isTrue_16 h (fun v4 h => ?_)
    refine P_gfr FLX1_114 rfl dX1_isTrue_19 h (fun v5 h => ?_)
    refine S_aload_n (i := 1) dX1_isTrue_22 rfl rfl ?_
    refine P_gfi FLX1_216 rfl dX1_isTrue_23 h (fun v6 h => ?_)
    refine P_lar (t := 7) ⟨by decide, by decide⟩ dX1_isTrue_26 h (fun v7 h => ?_)
    refine P_gfr FLX1_130 rfl dX1_isTrue_27 h (fun v8 h => ?_)
    refine P_invVp 0 [(1, v8)] [] CVX3_is MLX1_133 dX1_isTrue_30 rfl rfl rfl rfl rfl (by omega) h (fun r h => F_X3_is (by omega) h) (fun v9 h => ?_)
    refine P_if_eq (tgt := 40) dX1_isTrue_33 rfl h (fun h => ?_) (fun h => ?_)
    · refine S_weak (ls' := [(9, 0), (9, 0)]) ⟨Or.inl rfl, ⟨Or.inl rfl, trivial⟩⟩ ?_
      exact s_X1_isTrue_40 hD r0 h hz
    · refine S_iconst dX1_isTrue_36 rfl ?_
      refine S_goto (tgt := 41) dX1_isTrue_37 rfl ?_
      refine S_weak (ls' := [(9, 0), (9, 0)]) ⟨Or.inl rfl, ⟨Or.inl rfl, trivial⟩⟩ ?_
      exact s_X1_isTrue_41 hD r0 h hz
theorem F_X1_isTrue {g : GG} {d : Nat} (hD : 3 ≤ d) {x0 x1 : Int} {M : MM} {r : Int} (h : f_X1_isTrue x0 x1 M = some r) : Sem g d YX1_isTrue 0 (ini YX1_isTrue [(1, x0), (1, x1)]) [] M ((0, r), M) := by
  change Sem g d YX1_isTrue 0 [(1, x0), (1, x1)] [] M ((0, r), M)
  exact s_X1_isTrue_0 hD (P := fun x => x = r) (fun q e => by rw [e]) h rfl
/-! PeerSearch.areTrue(LPeerSearch$Peer;Z)Z -/
theorem dX1_areTrue_0 : decode cX1_areTrue 0 = .ok (.iconst 0, 1) := by decide +kernel
theorem dX1_areTrue_1 : decode cX1_areTrue 1 = .ok (.istore_n 3, 1) := by decide +kernel
theorem dX1_areTrue_2 : decode cX1_areTrue 2 = .ok (.iload_n 3, 1) := by decide +kernel
theorem dX1_areTrue_3 : decode cX1_areTrue 3 = .ok (.aload_n 1, 1) := by decide +kernel
theorem dX1_areTrue_4 : decode cX1_areTrue 4 = .ok (.getfield 206, 3) := by decide +kernel
theorem dX1_areTrue_7 : decode cX1_areTrue 7 = .ok (.iload_n 2, 1) := by decide +kernel
theorem dX1_areTrue_8 : decode cX1_areTrue 8 = .ok (.invokevirtual 362, 3) := by decide +kernel
theorem dX1_areTrue_11 : decode cX1_areTrue 11 = .ok (.if_icmp .ge 27, 3) := by decide +kernel
theorem dX1_areTrue_14 : decode cX1_areTrue 14 = .ok (.aload_n 0, 1) := by decide +kernel
theorem dX1_areTrue_15 : decode cX1_areTrue 15 = .ok (.aload_n 1, 1) := by decide +kernel
theorem dX1_areTrue_16 : decode cX1_areTrue 16 = .ok (.getfield 206, 3) := by decide +kernel
theorem dX1_areTrue_19 : decode cX1_areTrue 19 = .ok (.iload_n 2, 1) := by decide +kernel
theorem dX1_areTrue_20 : decode cX1_areTrue 20 = .ok (.iload_n 3, 1) := by decide +kernel
theorem dX1_areTrue_21 : decode cX1_areTrue 21 = .ok (.invokevirtual 210, 3) := by decide +kernel
theorem dX1_areTrue_24 : decode cX1_areTrue 24 = .ok (.invokevirtual 426, 3) := by decide +kernel
theorem dX1_areTrue_27 : decode cX1_areTrue 27 = .ok (.ifCond .ne 5, 3) := by decide +kernel
theorem dX1_areTrue_30 : decode cX1_areTrue 30 = .ok (.iconst 0, 1) := by decide +kernel
theorem dX1_areTrue_31 : decode cX1_areTrue 31 = .ok (.ireturn, 1) := by decide +kernel
theorem dX1_areTrue_32 : decode cX1_areTrue 32 = .ok (.iinc 3 1, 3) := by decide +kernel
theorem dX1_areTrue_35 : decode cX1_areTrue 35 = .ok (.goto (-33), 3) := by decide +kernel
theorem dX1_areTrue_38 : decode cX1_areTrue 38 = .ok (.iconst 1, 1) := by decide +kernel
theorem dX1_areTrue_39 : decode cX1_areTrue 39 = .ok (.ireturn, 1) := by decide +kernel
def b_X1_areTrue_2 (x0 x1 x2 x3 : Int) (M : MM) : Option ((Int) ⊕ (Int)) :=
  (gfr 17 5 x1 M).bind fun v1 =>
  ck 20 v1 M <| (f_X20_size v1 x2 M).bind fun v2 =>
  if w32 x3 < w32 v2 then
    (gfr 17 5 x1 M).bind fun v3 =>
    ck 20 v3 M <| (f_X20_contact v3 x2 x3 M).bind fun v4 =>
    ck 1 x0 M <| (f_X1_isTrue x0 v4 M).bind fun v5 =>
    if w32 v5 = 0 then
      xit (some 0)
    else
      cnt (x3 + 1)
  else
    xit (some 1)
def l_X1_areTrue_2 (x0 x1 x2 x3 : Int) (M : MM) : Option (Int) := lpN (fun s : Int => b_X1_areTrue_2 x0 x1 x2 s M) FU x3
def f_X1_areTrue (x0 x1 x2 : Int) (M : MM) : Option (Int) :=
  l_X1_areTrue_2 x0 x1 x2 0 M
theorem s_X1_areTrue_2 {g : GG} {d : Nat} (hD : 4 ≤ d) {x0 x1 x2 x3 : Int} {M : MM} {o : AV × MM} {P : ((Int) ⊕ (Int)) → Prop} (c0 : ∀ s : Int, P (.inl s) → Sem g d YX1_areTrue 2 [(1, x0), (1, x1), (0, x2), (0, s)] [] M o) (r0 : ∀ r : Int, P (.inr r) → o = ((0, r), M)) {z : (Int) ⊕ (Int)} (h : b_X1_areTrue_2 x0 x1 x2 x3 M = some z) (hz : P z) : Sem g d YX1_areTrue 2 [(1, x0), (1, x1), (0, x2), (0, x3)] [] M o := by
  delta b_X1_areTrue_2 at h
  refine S_iload_n (i := 3) dX1_areTrue_2 rfl rfl ?_
  refine S_aload_n (i := 1) dX1_areTrue_3 rfl rfl ?_
  refine P_gfr FLX1_206 rfl dX1_areTrue_4 h (fun v1 h => ?_)
  refine S_iload_n (i := 2) dX1_areTrue_7 rfl rfl ?_
  refine P_invVp 0 [(0, x2)] [(0, x3)] CVX20_size MLX1_362 dX1_areTrue_8 rfl rfl rfl rfl rfl (by omega) h (fun r h => F_X20_size (by omega) h) (fun v2 h => ?_)
  refine P_icmp_ge (tgt := 38) dX1_areTrue_11 rfl h (fun h => ?_) (fun h => ?_)
  · obtain ⟨z0, h, hz⟩ := xit_some' (P := fun r => P r) h hz
    refine S_iconst dX1_areTrue_38 rfl ?_
    obtain rfl := r0 _ (some_P (P := fun r => P (.inr r)) h hz)
    exact P_ret dX1_areTrue_39 rfl (Or.inr ⟨rfl, Or.inr rfl⟩)
  · refine S_aload_n (i := 0) dX1_areTrue_14 rfl rfl ?_
    refine S_aload_n (i := 1) dX1_areTrue_15 rfl rfl ?_
    refine P_gfr FLX1_206 rfl dX1_areTrue_16 h (fun v3 h => ?_)
    refine S_iload_n (i := 2) dX1_areTrue_19 rfl rfl ?_
    refine S_iload_n (i := 3) dX1_areTrue_20 rfl rfl ?_
    refine P_invVp 1 [(0, x2), (0, x3)] [(1, x0)] CVX20_contact MLX1_210 dX1_areTrue_21 rfl rfl rfl rfl rfl (by omega) h (fun r h => F_X20_contact (by omega) h) (fun v4 h => ?_)
    refine P_invVp 0 [(1, v4)] [] CVX1_isTrue MLX1_426 dX1_areTrue_24 rfl rfl rfl rfl rfl (by omega) h (fun r h => F_X1_isTrue (by omega) h) (fun v5 h => ?_)
    refine P_if_ne (tgt := 32) dX1_areTrue_27 rfl h (fun h => ?_) (fun h => ?_)
    · refine S_iinc dX1_areTrue_32 rfl rfl rfl ?_
      change Sem g d YX1_areTrue 35 [(1, x0), (1, x1), (0, x2), (0, x3 + 1)] [] M o
      refine S_goto (tgt := 2) dX1_areTrue_35 rfl ?_
      exact c0 (x3 + 1) (some_P (P := fun r => P r) h hz)
    · obtain ⟨z0, h, hz⟩ := xit_some' (P := fun r => P r) h hz
      refine S_iconst dX1_areTrue_30 rfl ?_
      obtain rfl := r0 _ (some_P (P := fun r => P (.inr r)) h hz)
      exact P_ret dX1_areTrue_31 rfl (Or.inr ⟨rfl, Or.inl rfl⟩)
theorem sl_X1_areTrue_2 {g : GG} {d : Nat} (hD : 4 ≤ d) {x0 x1 x2 x3 : Int} {M : MM} {o : AV × MM} {P : (Int) → Prop} (r0 : ∀ r : Int, P r → o = ((0, r), M)) {z : Int} (h : l_X1_areTrue_2 x0 x1 x2 x3 M = some z) (hz : P z) : Sem g d YX1_areTrue 2 [(1, x0), (1, x1), (0, x2), (0, x3)] [] M o := by
  refine lp_sound (S := fun s : Int => Sem g d YX1_areTrue 2 [(1, x0), (1, x1), (0, x2), (0, s)] [] M o) (P := P) ?_ FU x3 z h hz
  intro s x hx hP
  exact s_X1_areTrue_2 hD (P := Sum.elim (fun s : Int => Sem g d YX1_areTrue 2 [(1, x0), (1, x1), (0, x2), (0, s)] [] M o) P) (fun s h => h) (fun s h => r0 s h) hx hP
theorem s_X1_areTrue_0 {g : GG} {d : Nat} (hD : 4 ≤ d) {x0 x1 x2 : Int} {M : MM} {o : AV × MM} {P : (Int) → Prop} (r0 : ∀ r : Int, P r → o = ((0, r), M)) {z : Int} (h : f_X1_areTrue x0 x1 x2 M = some z) (hz : P z) : Sem g d YX1_areTrue 0 [(1, x0), (1, x1), (0, x2), (9, 0)] [] M o := by
  delta f_X1_areTrue at h
  refine S_iconst dX1_areTrue_0 rfl ?_
  refine S_istore_n (i := 3) dX1_areTrue_1 rfl (Nat.le_of_ble_eq_true rfl) rfl rfl ?_
  change Sem g d YX1_areTrue 2 [(1, x0), (1, x1), (0, x2), (0, 0)] [] M o
  exact sl_X1_areTrue_2 hD r0 h hz
theorem F_X1_areTrue {g : GG} {d : Nat} (hD : 4 ≤ d) {x0 x1 x2 : Int} {M : MM} {r : Int} (h : f_X1_areTrue x0 x1 x2 M = some r) : Sem g d YX1_areTrue 0 (ini YX1_areTrue [(1, x0), (1, x1), (0, x2)]) [] M ((0, r), M) := by
  change Sem g d YX1_areTrue 0 [(1, x0), (1, x1), (0, x2), (9, 0)] [] M ((0, r), M)
  exact s_X1_areTrue_0 hD (P := fun x => x = r) (fun q e => by rw [e]) h rfl
/-! PeerSearch$Table.hasAt(I)Z -/
theorem dX20_hasAt_0 : decode cX20_hasAt 0 = .ok (.aload_n 0, 1) := by decide +kernel
theorem dX20_hasAt_1 : decode cX20_hasAt 1 = .ok (.iload_n 1, 1) := by decide +kernel
theorem dX20_hasAt_2 : decode cX20_hasAt 2 = .ok (.invokevirtual 90, 3) := by decide +kernel
theorem dX20_hasAt_5 : decode cX20_hasAt 5 = .ok (.getfield 59, 3) := by decide +kernel
theorem dX20_hasAt_8 : decode cX20_hasAt 8 = .ok (.astore_n 2, 1) := by decide +kernel
theorem dX20_hasAt_9 : decode cX20_hasAt 9 = .ok (.iconst 0, 1) := by decide +kernel
theorem dX20_hasAt_10 : decode cX20_hasAt 10 = .ok (.istore_n 3, 1) := by decide +kernel
theorem dX20_hasAt_11 : decode cX20_hasAt 11 = .ok (.iload_n 3, 1) := by decide +kernel
theorem dX20_hasAt_12 : decode cX20_hasAt 12 = .ok (.aload_n 2, 1) := by decide +kernel
theorem dX20_hasAt_13 : decode cX20_hasAt 13 = .ok (.getfield 44, 3) := by decide +kernel
theorem dX20_hasAt_16 : decode cX20_hasAt 16 = .ok (.if_icmp .ge 31, 3) := by decide +kernel
theorem dX20_hasAt_19 : decode cX20_hasAt 19 = .ok (.aload_n 0, 1) := by decide +kernel
theorem dX20_hasAt_20 : decode cX20_hasAt 20 = .ok (.getfield 19, 3) := by decide +kernel
theorem dX20_hasAt_23 : decode cX20_hasAt 23 = .ok (.aload_n 2, 1) := by decide +kernel
theorem dX20_hasAt_24 : decode cX20_hasAt 24 = .ok (.getfield 74, 3) := by decide +kernel
theorem dX20_hasAt_27 : decode cX20_hasAt 27 = .ok (.iload_n 3, 1) := by decide +kernel
theorem dX20_hasAt_28 : decode cX20_hasAt 28 = .ok (.aaload, 1) := by decide +kernel
theorem dX20_hasAt_29 : decode cX20_hasAt 29 = .ok (.getfield 78, 3) := by decide +kernel
theorem dX20_hasAt_32 : decode cX20_hasAt 32 = .ok (.invokevirtual 83, 3) := by decide +kernel
theorem dX20_hasAt_35 : decode cX20_hasAt 35 = .ok (.iload_n 1, 1) := by decide +kernel
theorem dX20_hasAt_36 : decode cX20_hasAt 36 = .ok (.if_icmp .ne 5, 3) := by decide +kernel
theorem dX20_hasAt_39 : decode cX20_hasAt 39 = .ok (.iconst 1, 1) := by decide +kernel
theorem dX20_hasAt_40 : decode cX20_hasAt 40 = .ok (.ireturn, 1) := by decide +kernel
theorem dX20_hasAt_41 : decode cX20_hasAt 41 = .ok (.iinc 3 1, 3) := by decide +kernel
theorem dX20_hasAt_44 : decode cX20_hasAt 44 = .ok (.goto (-33), 3) := by decide +kernel
theorem dX20_hasAt_47 : decode cX20_hasAt 47 = .ok (.iconst 0, 1) := by decide +kernel
theorem dX20_hasAt_48 : decode cX20_hasAt 48 = .ok (.ireturn, 1) := by decide +kernel
def b_X20_hasAt_11 (x0 x1 x2 x3 : Int) (M : MM) : Option ((Int) ⊕ (Int)) :=
  (gfi 22 1 x2 M).bind fun v1 =>
  if w32 x3 < w32 v1 then
    (gfr 20 0 x0 M).bind fun v2 =>
    (gfr 22 0 x2 M).bind fun v3 =>
    (lar 6 v3 x3 M).bind fun v4 =>
    (gfr 23 0 v4 M).bind fun v5 =>
    ck 3 v2 M <| (f_X3_common v2 v5 M).bind fun v6 =>
    if w32 v6 = w32 x1 then
      xit (some 1)
    else
      cnt (x3 + 1)
  else
    xit (some 0)
def l_X20_hasAt_11 (x0 x1 x2 x3 : Int) (M : MM) : Option (Int) := lpN (fun s : Int => b_X20_hasAt_11 x0 x1 x2 s M) FU x3
def f_X20_hasAt (x0 x1 : Int) (M : MM) : Option (Int) :=
  ck 20 x0 M <| (f_X20_bucketFor x0 x1 M).bind fun v1 =>
  (gfr 21 0 v1 M).bind fun v2 =>
  l_X20_hasAt_11 x0 x1 v2 0 M
theorem s_X20_hasAt_11 {g : GG} {d : Nat} (hD : 2 ≤ d) {x0 x1 x2 x3 : Int} {M : MM} {o : AV × MM} {P : ((Int) ⊕ (Int)) → Prop} (c0 : ∀ s : Int, P (.inl s) → Sem g d YX20_hasAt 11 [(1, x0), (0, x1), (1, x2), (0, s)] [] M o) (r0 : ∀ r : Int, P (.inr r) → o = ((0, r), M)) {z : (Int) ⊕ (Int)} (h : b_X20_hasAt_11 x0 x1 x2 x3 M = some z) (hz : P z) : Sem g d YX20_hasAt 11 [(1, x0), (0, x1), (1, x2), (0, x3)] [] M o := by
  delta b_X20_hasAt_11 at h
  refine S_iload_n (i := 3) dX20_hasAt_11 rfl rfl ?_
  refine S_aload_n (i := 2) dX20_hasAt_12 rfl rfl ?_
  refine P_gfi FLX20_44 rfl dX20_hasAt_13 h (fun v1 h => ?_)
  refine P_icmp_ge (tgt := 47) dX20_hasAt_16 rfl h (fun h => ?_) (fun h => ?_)
  · obtain ⟨z0, h, hz⟩ := xit_some' (P := fun r => P r) h hz
    refine S_iconst dX20_hasAt_47 rfl ?_
    obtain rfl := r0 _ (some_P (P := fun r => P (.inr r)) h hz)
    exact P_ret dX20_hasAt_48 rfl (Or.inr ⟨rfl, Or.inl rfl⟩)
  · refine S_aload_n (i := 0) dX20_hasAt_19 rfl rfl ?_
    refine P_gfr FLX20_19 rfl dX20_hasAt_20 h (fun v2 h => ?_)
    refine S_aload_n (i := 2) dX20_hasAt_23 rfl rfl ?_
    refine P_gfr FLX20_74 rfl dX20_hasAt_24 h (fun v3 h => ?_)
    refine S_iload_n (i := 3) dX20_hasAt_27 rfl rfl ?_
    refine P_lar (t := 6) ⟨by decide, by decide⟩ dX20_hasAt_28 h (fun v4 h => ?_)
    refine P_gfr FLX20_78 rfl dX20_hasAt_29 h (fun v5 h => ?_)
    refine P_invVp 0 [(1, v5)] [] CVX3_common MLX20_83 dX20_hasAt_32 rfl rfl rfl rfl rfl (by omega) h (fun r h => F_X3_common (by omega) h) (fun v6 h => ?_)
    refine S_iload_n (i := 1) dX20_hasAt_35 rfl rfl ?_
    refine P_icmp_ne (tgt := 41) dX20_hasAt_36 rfl h (fun h => ?_) (fun h => ?_)
    · refine S_iinc dX20_hasAt_41 rfl rfl rfl ?_
      change Sem g d YX20_hasAt 44 [(1, x0), (0, x1), (1, x2), (0, x3 + 1)] [] M o
      refine S_goto (tgt := 11) dX20_hasAt_44 rfl ?_
      exact c0 (x3 + 1) (some_P (P := fun r => P r) h hz)
    · obtain ⟨z0, h, hz⟩ := xit_some' (P := fun r => P r) h hz
      refine S_iconst dX20_hasAt_39 rfl ?_
      obtain rfl := r0 _ (some_P (P := fun r => P (.inr r)) h hz)
      exact P_ret dX20_hasAt_40 rfl (Or.inr ⟨rfl, Or.inr rfl⟩)
theorem sl_X20_hasAt_11 {g : GG} {d : Nat} (hD : 2 ≤ d) {x0 x1 x2 x3 : Int} {M : MM} {o : AV × MM} {P : (Int) → Prop} (r0 : ∀ r : Int, P r → o = ((0, r), M)) {z : Int} (h : l_X20_hasAt_11 x0 x1 x2 x3 M = some z) (hz : P z) : Sem g d YX20_hasAt 11 [(1, x0), (0, x1), (1, x2), (0, x3)] [] M o := by
  refine lp_sound (S := fun s : Int => Sem g d YX20_hasAt 11 [(1, x0), (0, x1), (1, x2), (0, s)] [] M o) (P := P) ?_ FU x3 z h hz
  intro s x hx hP
  exact s_X20_hasAt_11 hD (P := Sum.elim (fun s : Int => Sem g d YX20_hasAt 11 [(1, x0), (0, x1), (1, x2), (0, s)] [] M o) P) (fun s h => h) (fun s h => r0 s h) hx hP
theorem s_X20_hasAt_0 {g : GG} {d : Nat} (hD : 2 ≤ d) {x0 x1 : Int} {M : MM} {o : AV × MM} {P : (Int) → Prop} (r0 : ∀ r : Int, P r → o = ((0, r), M)) {z : Int} (h : f_X20_hasAt x0 x1 M = some z) (hz : P z) : Sem g d YX20_hasAt 0 [(1, x0), (0, x1), (9, 0), (9, 0)] [] M o := by
  delta f_X20_hasAt at h
  refine S_aload_n (i := 0) dX20_hasAt_0 rfl rfl ?_
  refine S_iload_n (i := 1) dX20_hasAt_1 rfl rfl ?_
  refine P_invVp 1 [(0, x1)] [] CVX20_bucketFor MLX20_90 dX20_hasAt_2 rfl rfl rfl rfl rfl (by omega) h (fun r h => F_X20_bucketFor (by omega) h) (fun v1 h => ?_)
  refine P_gfr FLX20_59 rfl dX20_hasAt_5 h (fun v2 h => ?_)
  refine S_astore_n (i := 2) dX20_hasAt_8 rfl (Nat.le_of_ble_eq_true rfl) rfl rfl ?_
  change Sem g d YX20_hasAt 9 [(1, x0), (0, x1), (1, v2), (9, 0)] [] M o
  refine S_iconst dX20_hasAt_9 rfl ?_
  refine S_istore_n (i := 3) dX20_hasAt_10 rfl (Nat.le_of_ble_eq_true rfl) rfl rfl ?_
  change Sem g d YX20_hasAt 11 [(1, x0), (0, x1), (1, v2), (0, 0)] [] M o
  exact sl_X20_hasAt_11 hD r0 h hz
theorem F_X20_hasAt {g : GG} {d : Nat} (hD : 2 ≤ d) {x0 x1 : Int} {M : MM} {r : Int} (h : f_X20_hasAt x0 x1 M = some r) : Sem g d YX20_hasAt 0 (ini YX20_hasAt [(1, x0), (0, x1)]) [] M ((0, r), M) := by
  change Sem g d YX20_hasAt 0 [(1, x0), (0, x1), (9, 0), (9, 0)] [] M ((0, r), M)
  exact s_X20_hasAt_0 hD (P := fun x => x = r) (fun q e => by rw [e]) h rfl
/-! PeerSearch.isSound(LPeerSearch$Peer;)Z -/
theorem dX1_isSound_0 : decode cX1_isSound 0 = .ok (.aload_n 1, 1) := by decide +kernel
theorem dX1_isSound_1 : decode cX1_isSound 1 = .ok (.getfield 365, 3) := by decide +kernel
theorem dX1_isSound_4 : decode cX1_isSound 4 = .ok (.ifCond .gt 21, 3) := by decide +kernel
theorem dX1_isSound_7 : decode cX1_isSound 7 = .ok (.aload_n 0, 1) := by decide +kernel
theorem dX1_isSound_8 : decode cX1_isSound 8 = .ok (.aload_n 1, 1) := by decide +kernel
theorem dX1_isSound_9 : decode cX1_isSound 9 = .ok (.iconst 0, 1) := by decide +kernel
theorem dX1_isSound_10 : decode cX1_isSound 10 = .ok (.invokevirtual 430, 3) := by decide +kernel
theorem dX1_isSound_13 : decode cX1_isSound 13 = .ok (.ifCond .eq 12, 3) := by decide +kernel
theorem dX1_isSound_16 : decode cX1_isSound 16 = .ok (.aload_n 0, 1) := by decide +kernel
theorem dX1_isSound_17 : decode cX1_isSound 17 = .ok (.aload_n 1, 1) := by decide +kernel
theorem dX1_isSound_18 : decode cX1_isSound 18 = .ok (.iconst 1, 1) := by decide +kernel
theorem dX1_isSound_19 : decode cX1_isSound 19 = .ok (.invokevirtual 430, 3) := by decide +kernel
theorem dX1_isSound_22 : decode cX1_isSound 22 = .ok (.ifCond .ne 5, 3) := by decide +kernel
theorem dX1_isSound_25 : decode cX1_isSound 25 = .ok (.iconst 0, 1) := by decide +kernel
theorem dX1_isSound_26 : decode cX1_isSound 26 = .ok (.ireturn, 1) := by decide +kernel
theorem dX1_isSound_27 : decode cX1_isSound 27 = .ok (.iconst 0, 1) := by decide +kernel
theorem dX1_isSound_28 : decode cX1_isSound 28 = .ok (.istore_n 2, 1) := by decide +kernel
theorem dX1_isSound_29 : decode cX1_isSound 29 = .ok (.iload_n 2, 1) := by decide +kernel
theorem dX1_isSound_30 : decode cX1_isSound 30 = .ok (.aload_n 0, 1) := by decide +kernel
theorem dX1_isSound_31 : decode cX1_isSound 31 = .ok (.getfield 70, 3) := by decide +kernel
theorem dX1_isSound_34 : decode cX1_isSound 34 = .ok (.getfield 127, 3) := by decide +kernel
theorem dX1_isSound_37 : decode cX1_isSound 37 = .ok (.if_icmp .ge 78, 3) := by decide +kernel
theorem dX1_isSound_40 : decode cX1_isSound 40 = .ok (.iload_n 2, 1) := by decide +kernel
theorem dX1_isSound_41 : decode cX1_isSound 41 = .ok (.aload_n 1, 1) := by decide +kernel
theorem dX1_isSound_42 : decode cX1_isSound 42 = .ok (.getfield 434, 3) := by decide +kernel
theorem dX1_isSound_45 : decode cX1_isSound 45 = .ok (.if_icmp .eq 64, 3) := by decide +kernel
theorem dX1_isSound_48 : decode cX1_isSound 48 = .ok (.aload_n 0, 1) := by decide +kernel
theorem dX1_isSound_49 : decode cX1_isSound 49 = .ok (.iload_n 2, 1) := by decide +kernel
theorem dX1_isSound_50 : decode cX1_isSound 50 = .ok (.invokevirtual 149, 3) := by decide +kernel
theorem dX1_isSound_53 : decode cX1_isSound 53 = .ok (.ifCond .ne 6, 3) := by decide +kernel
theorem dX1_isSound_56 : decode cX1_isSound 56 = .ok (.goto 53, 3) := by decide +kernel
theorem dX1_isSound_59 : decode cX1_isSound 59 = .ok (.aload_n 0, 1) := by decide +kernel
theorem dX1_isSound_60 : decode cX1_isSound 60 = .ok (.getfield 70, 3) := by decide +kernel
theorem dX1_isSound_63 : decode cX1_isSound 63 = .ok (.getfield 114, 3) := by decide +kernel
theorem dX1_isSound_66 : decode cX1_isSound 66 = .ok (.iload_n 2, 1) := by decide +kernel
theorem dX1_isSound_67 : decode cX1_isSound 67 = .ok (.aaload, 1) := by decide +kernel
theorem dX1_isSound_68 : decode cX1_isSound 68 = .ok (.getfield 146, 3) := by decide +kernel
theorem dX1_isSound_71 : decode cX1_isSound 71 = .ok (.aload_n 1, 1) := by decide +kernel
theorem dX1_isSound_72 : decode cX1_isSound 72 = .ok (.getfield 146, 3) := by decide +kernel
theorem dX1_isSound_75 : decode cX1_isSound 75 = .ok (.if_icmp .ne 32, 3) := by decide +kernel
theorem dX1_isSound_78 : decode cX1_isSound 78 = .ok (.aload_n 1, 1) := by decide +kernel
theorem dX1_isSound_79 : decode cX1_isSound 79 = .ok (.getfield 206, 3) := by decide +kernel
theorem dX1_isSound_82 : decode cX1_isSound 82 = .ok (.aload_n 1, 1) := by decide +kernel
theorem dX1_isSound_83 : decode cX1_isSound 83 = .ok (.getfield 130, 3) := by decide +kernel
theorem dX1_isSound_86 : decode cX1_isSound 86 = .ok (.aload_n 0, 1) := by decide +kernel
theorem dX1_isSound_87 : decode cX1_isSound 87 = .ok (.getfield 70, 3) := by decide +kernel
theorem dX1_isSound_90 : decode cX1_isSound 90 = .ok (.getfield 114, 3) := by decide +kernel
theorem dX1_isSound_93 : decode cX1_isSound 93 = .ok (.iload_n 2, 1) := by decide +kernel
theorem dX1_isSound_94 : decode cX1_isSound 94 = .ok (.aaload, 1) := by decide +kernel
theorem dX1_isSound_95 : decode cX1_isSound 95 = .ok (.getfield 130, 3) := by decide +kernel
theorem dX1_isSound_98 : decode cX1_isSound 98 = .ok (.invokevirtual 388, 3) := by decide +kernel
theorem dX1_isSound_101 : decode cX1_isSound 101 = .ok (.invokevirtual 437, 3) := by decide +kernel
theorem dX1_isSound_104 : decode cX1_isSound 104 = .ok (.ifCond .ne 5, 3) := by decide +kernel
theorem dX1_isSound_107 : decode cX1_isSound 107 = .ok (.iconst 0, 1) := by decide +kernel
theorem dX1_isSound_108 : decode cX1_isSound 108 = .ok (.ireturn, 1) := by decide +kernel
theorem dX1_isSound_109 : decode cX1_isSound 109 = .ok (.iinc 2 1, 3) := by decide +kernel
theorem dX1_isSound_112 : decode cX1_isSound 112 = .ok (.goto (-83), 3) := by decide +kernel
theorem dX1_isSound_115 : decode cX1_isSound 115 = .ok (.iconst 1, 1) := by decide +kernel
theorem dX1_isSound_116 : decode cX1_isSound 116 = .ok (.ireturn, 1) := by decide +kernel
def j_X1_isSound_109 (x0 x1 x2 : Int) (M : MM) : Option ((Int) ⊕ (Int)) :=
  cnt (x2 + 1)
def j_X1_isSound_107 (M : MM) : Option (Int) :=
  some 0
def b_X1_isSound_29 (x0 x1 x2 : Int) (M : MM) : Option ((Int) ⊕ (Int)) :=
  (gfr 1 0 x0 M).bind fun v1 =>
  (gfi 6 6 v1 M).bind fun v2 =>
  if w32 x2 < w32 v2 then
    (gfi 17 1 x1 M).bind fun v3 =>
    if w32 x2 = w32 v3 then
      j_X1_isSound_109 x0 x1 x2 M
    else
      ck 1 x0 M <| (f_X1_isLive x0 x2 M).bind fun v4 =>
      if w32 v4 = 0 then
        j_X1_isSound_109 x0 x1 x2 M
      else
        (gfr 1 0 x0 M).bind fun v5 =>
        (gfr 6 5 v5 M).bind fun v6 =>
        (lar 7 v6 x2 M).bind fun v7 =>
        (gfi 17 4 v7 M).bind fun v8 =>
        (gfi 17 4 x1 M).bind fun v9 =>
        if w32 v8 = w32 v9 then
          (gfr 17 5 x1 M).bind fun v10 =>
          (gfr 17 2 x1 M).bind fun v11 =>
          (gfr 1 0 x0 M).bind fun v12 =>
          (gfr 6 5 v12 M).bind fun v13 =>
          (lar 7 v13 x2 M).bind fun v14 =>
          (gfr 17 2 v14 M).bind fun v15 =>
          ck 3 v11 M <| (f_X3_common v11 v15 M).bind fun v16 =>
          ck 20 v10 M <| (f_X20_hasAt v10 v16 M).bind fun v17 =>
          if w32 v17 = 0 then
            xit (j_X1_isSound_107 M)
          else
            j_X1_isSound_109 x0 x1 x2 M
        else
          xit (j_X1_isSound_107 M)
  else
    xit (some 1)
def l_X1_isSound_29 (x0 x1 x2 : Int) (M : MM) : Option (Int) := lpN (fun s : Int => b_X1_isSound_29 x0 x1 s M) FU x2
def j_X1_isSound_25 (M : MM) : Option (Int) :=
  some 0
def f_X1_isSound (x0 x1 : Int) (M : MM) : Option (Int) :=
  (gfi 17 9 x1 M).bind fun v1 =>
  if 0 < w32 v1 then
    j_X1_isSound_25 M
  else
    ck 1 x0 M <| (f_X1_areTrue x0 x1 0 M).bind fun v2 =>
    if w32 v2 = 0 then
      j_X1_isSound_25 M
    else
      ck 1 x0 M <| (f_X1_areTrue x0 x1 1 M).bind fun v3 =>
      if w32 v3 = 0 then
        j_X1_isSound_25 M
      else
        l_X1_isSound_29 x0 x1 0 M
theorem s_X1_isSound_109 {g : GG} {d : Nat} (hD : 5 ≤ d) {x0 x1 x2 : Int} {M : MM} {o : AV × MM} {P : ((Int) ⊕ (Int)) → Prop} (c0 : ∀ s : Int, P (.inl s) → Sem g d YX1_isSound 29 [(1, x0), (1, x1), (0, s)] [] M o) (r0 : ∀ r : Int, P (.inr r) → o = ((0, r), M)) {z : (Int) ⊕ (Int)} (h : j_X1_isSound_109 x0 x1 x2 M = some z) (hz : P z) : Sem g d YX1_isSound 109 [(1, x0), (1, x1), (0, x2)] [] M o := by
  delta j_X1_isSound_109 at h
  refine S_iinc dX1_isSound_109 rfl rfl rfl ?_
  change Sem g d YX1_isSound 112 [(1, x0), (1, x1), (0, x2 + 1)] [] M o
  refine S_goto (tgt := 29) dX1_isSound_112 rfl ?_
  exact c0 (x2 + 1) (some_P (P := fun r => P r) h hz)
theorem s_X1_isSound_107 {g : GG} {d : Nat} (hD : 5 ≤ d) {M : MM} {o : AV × MM} {P : (Int) → Prop} (r0 : ∀ r : Int, P r → o = ((0, r), M)) {z : Int} (h : j_X1_isSound_107 M = some z) (hz : P z) : Sem g d YX1_isSound 107 [(9, 0), (9, 0), (9, 0)] [] M o := by
  delta j_X1_isSound_107 at h
  refine S_iconst dX1_isSound_107 rfl ?_
  obtain rfl := r0 _ (some_P (P := fun r => P r) h hz)
  exact P_ret dX1_isSound_108 rfl (Or.inr ⟨rfl, Or.inl rfl⟩)
theorem s_X1_isSound_29 {g : GG} {d : Nat} (hD : 5 ≤ d) {x0 x1 x2 : Int} {M : MM} {o : AV × MM} {P : ((Int) ⊕ (Int)) → Prop} (c0 : ∀ s : Int, P (.inl s) → Sem g d YX1_isSound 29 [(1, x0), (1, x1), (0, s)] [] M o) (r0 : ∀ r : Int, P (.inr r) → o = ((0, r), M)) {z : (Int) ⊕ (Int)} (h : b_X1_isSound_29 x0 x1 x2 M = some z) (hz : P z) : Sem g d YX1_isSound 29 [(1, x0), (1, x1), (0, x2)] [] M o := by
  delta b_X1_isSound_29 at h
  refine S_iload_n (i := 2) dX1_isSound_29 rfl rfl ?_
  refine S_aload_n (i := 0) dX1_isSound_30 rfl rfl ?_
  refine P_gfr FLX1_70 rfl dX1_isSound_31 h (fun v1 h => ?_)
  refine P_gfi FLX1_127 rfl dX1_isSound_34 h (fun v2 h => ?_)
  refine P_icmp_ge (tgt := 115) dX1_isSound_37 rfl h (fun h => ?_) (fun h => ?_)
  · obtain ⟨z0, h, hz⟩ := xit_some' (P := fun r => P r) h hz
    refine S_iconst dX1_isSound_115 rfl ?_
    obtain rfl := r0 _ (some_P (P := fun r => P (.inr r)) h hz)
    exact P_ret dX1_isSound_116 rfl (Or.inr ⟨rfl, Or.inr rfl⟩)
  · refine S_iload_n (i := 2) dX1_isSound_40 rfl rfl ?_
    refine S_aload_n (i := 1) dX1_isSound_41 rfl rfl ?_
    refine P_gfi FLX1_434 rfl dX1_isSound_42 h (fun v3 h => ?_)
    refine P_icmp_eq (tgt := 109) dX1_isSound_45 rfl h (fun h => ?_) (fun h => ?_)
    · exact s_X1_isSound_109 hD c0 r0 h hz
    · refine S_aload_n (i := 0) dX1_isSound_48 rfl rfl ?_
      refine S_iload_n (i := 2) dX1_isSound_49 rfl rfl ?_
      refine P_invVp 0 [(0, x2)] [] CVX1_isLive MLX1_149 dX1_isSound_50 rfl rfl rfl rfl rfl (by omega) h (fun r h => F_X1_isLive (by omega) h) (fun v4 h => ?_)
      refine P_if_ne (tgt := 59) dX1_isSound_53 rfl h (fun h => ?_) (fun h => ?_)
      · refine S_aload_n (i := 0) dX1_isSound_59 rfl rfl ?_
        refine P_gfr FLX1_70 rfl dX1_isSound_60 h (fun v5 h => ?_)
        refine P_gfr FLX1_114 rfl dX1_isSound_63 h (fun v6 h => ?_)
        refine S_iload_n (i := 2) dX1_isSound_66 rfl rfl ?_
        refine P_lar (t := 7) ⟨by decide, by decide⟩ dX1_isSound_67 h (fun v7 h => ?_)
        refine P_gfi FLX1_146 rfl dX1_isSound_68 h (fun v8 h => ?_)
        refine S_aload_n (i := 1) dX1_isSound_71 rfl rfl ?_
        refine P_gfi FLX1_146 rfl dX1_isSound_72 h (fun v9 h => ?_)
        refine P_icmp_ne (tgt := 107) dX1_isSound_75 rfl h (fun h => ?_) (fun h => ?_)
        · refine S_weak (ls' := [(9, 0), (9, 0), (9, 0)]) ⟨Or.inl rfl, ⟨Or.inl rfl, ⟨Or.inl rfl, trivial⟩⟩⟩ ?_
          obtain ⟨z0, h, hz⟩ := xit_some' (P := fun r => P r) h hz
          exact s_X1_isSound_107 hD (P := fun r => P (.inr r)) r0 h hz
        · refine S_aload_n (i := 1) dX1_isSound_78 rfl rfl ?_
          refine P_gfr FLX1_206 rfl dX1_isSound_79 h (fun v10 h => ?_)
          refine S_aload_n (i := 1) dX1_isSound_82 rfl rfl ?_
          refine P_gfr FLX1_130 rfl dX1_isSound_83 h (fun v11 h => ?_)
          refine S_aload_n (i := 0) dX1_isSound_86 rfl rfl ?_
          refine P_gfr FLX1_70 rfl dX1_isSound_87 h (fun v12 h => ?_)
          refine P_gfr FLX1_114 rfl dX1_isSound_90 h (fun v13 h => ?_)
          refine S_iload_n (i := 2) dX1_isSound_93 rfl rfl ?_
          refine P_lar (t := 7) ⟨by decide, by decide⟩ dX1_isSound_94 h (fun v14 h => ?_)
          refine P_gfr FLX1_130 rfl dX1_isSound_95 h (fun v15 h => ?_)
          refine P_invVp 0 [(1, v15)] [(1, v10)] CVX3_common MLX1_388 dX1_isSound_98 rfl rfl rfl rfl rfl (by omega) h (fun r h => F_X3_common (by omega) h) (fun v16 h => ?_)
          refine P_invVp 0 [(0, v16)] [] CVX20_hasAt MLX1_437 dX1_isSound_101 rfl rfl rfl rfl rfl (by omega) h (fun r h => F_X20_hasAt (by omega) h) (fun v17 h => ?_)
          refine P_if_ne (tgt := 109) dX1_isSound_104 rfl h (fun h => ?_) (fun h => ?_)
          · exact s_X1_isSound_109 hD c0 r0 h hz
          · refine S_weak (ls' := [(9, 0), (9, 0), (9, 0)]) ⟨Or.inl rfl, ⟨Or.inl rfl, ⟨Or.inl rfl, trivial⟩⟩⟩ ?_
            obtain ⟨z0, h, hz⟩ := xit_some' (P := fun r => P r) h hz
            exact s_X1_isSound_107 hD (P := fun r => P (.inr r)) r0 h hz
      · refine S_goto (tgt := 109) dX1_isSound_56 rfl ?_
        exact s_X1_isSound_109 hD c0 r0 h hz
theorem sl_X1_isSound_29 {g : GG} {d : Nat} (hD : 5 ≤ d) {x0 x1 x2 : Int} {M : MM} {o : AV × MM} {P : (Int) → Prop} (r0 : ∀ r : Int, P r → o = ((0, r), M)) {z : Int} (h : l_X1_isSound_29 x0 x1 x2 M = some z) (hz : P z) : Sem g d YX1_isSound 29 [(1, x0), (1, x1), (0, x2)] [] M o := by
  refine lp_sound (S := fun s : Int => Sem g d YX1_isSound 29 [(1, x0), (1, x1), (0, s)] [] M o) (P := P) ?_ FU x2 z h hz
  intro s x hx hP
  exact s_X1_isSound_29 hD (P := Sum.elim (fun s : Int => Sem g d YX1_isSound 29 [(1, x0), (1, x1), (0, s)] [] M o) P) (fun s h => h) (fun s h => r0 s h) hx hP
theorem s_X1_isSound_25 {g : GG} {d : Nat} (hD : 5 ≤ d) {M : MM} {o : AV × MM} {P : (Int) → Prop} (r0 : ∀ r : Int, P r → o = ((0, r), M)) {z : Int} (h : j_X1_isSound_25 M = some z) (hz : P z) : Sem g d YX1_isSound 25 [(9, 0), (9, 0), (9, 0)] [] M o := by
  delta j_X1_isSound_25 at h
  refine S_iconst dX1_isSound_25 rfl ?_
  obtain rfl := r0 _ (some_P (P := fun r => P r) h hz)
  exact P_ret dX1_isSound_26 rfl (Or.inr ⟨rfl, Or.inl rfl⟩)
theorem s_X1_isSound_0 {g : GG} {d : Nat} (hD : 5 ≤ d) {x0 x1 : Int} {M : MM} {o : AV × MM} {P : (Int) → Prop} (r0 : ∀ r : Int, P r → o = ((0, r), M)) {z : Int} (h : f_X1_isSound x0 x1 M = some z) (hz : P z) : Sem g d YX1_isSound 0 [(1, x0), (1, x1), (9, 0)] [] M o := by
  delta f_X1_isSound at h
  refine S_aload_n (i := 1) dX1_isSound_0 rfl rfl ?_
  refine P_gfi FLX1_365 rfl dX1_isSound_1 h (fun v1 h => ?_)
  refine P_if_gt (tgt := 25) dX1_isSound_4 rfl h (fun h => ?_) (fun h => ?_)
  · refine S_weak (ls' := [(9, 0), (9, 0), (9, 0)]) ⟨Or.inl rfl, ⟨Or.inl rfl, ⟨Or.inl rfl, trivial⟩⟩⟩ ?_
    exact s_X1_isSound_25 hD r0 h hz
  · refine S_aload_n (i := 0) dX1_isSound_7 rfl rfl ?_
    refine S_aload_n (i := 1) dX1_isSound_8 rfl rfl ?_
    refine S_iconst dX1_isSound_9 rfl ?_
    refine P_invVp 0 [(1, x1), (0, 0)] [] CVX1_areTrue MLX1_430 dX1_isSound_10 rfl rfl rfl rfl rfl (by omega) h (fun r h => F_X1_areTrue (by omega) h) (fun v2 h => ?_)
    refine P_if_eq (tgt := 25) dX1_isSound_13 rfl h (fun h => ?_) (fun h => ?_)
    · refine S_weak (ls' := [(9, 0), (9, 0), (9, 0)]) ⟨Or.inl rfl, ⟨Or.inl rfl, ⟨Or.inl rfl, trivial⟩⟩⟩ ?_
      exact s_X1_isSound_25 hD r0 h hz
    · refine S_aload_n (i := 0) dX1_isSound_16 rfl rfl ?_
      refine S_aload_n (i := 1) dX1_isSound_17 rfl rfl ?_
      refine S_iconst dX1_isSound_18 rfl ?_
      refine P_invVp 0 [(1, x1), (0, 1)] [] CVX1_areTrue MLX1_430 dX1_isSound_19 rfl rfl rfl rfl rfl (by omega) h (fun r h => F_X1_areTrue (by omega) h) (fun v3 h => ?_)
      refine P_if_ne (tgt := 27) dX1_isSound_22 rfl h (fun h => ?_) (fun h => ?_)
      · refine S_iconst dX1_isSound_27 rfl ?_
        refine S_istore_n (i := 2) dX1_isSound_28 rfl (Nat.le_of_ble_eq_true rfl) rfl rfl ?_
        change Sem g d YX1_isSound 29 [(1, x0), (1, x1), (0, 0)] [] M o
        exact sl_X1_isSound_29 hD r0 h hz
      · refine S_weak (ls' := [(9, 0), (9, 0), (9, 0)]) ⟨Or.inl rfl, ⟨Or.inl rfl, ⟨Or.inl rfl, trivial⟩⟩⟩ ?_
        exact s_X1_isSound_25 hD r0 h hz
theorem F_X1_isSound {g : GG} {d : Nat} (hD : 5 ≤ d) {x0 x1 : Int} {M : MM} {r : Int} (h : f_X1_isSound x0 x1 M = some r) : Sem g d YX1_isSound 0 (ini YX1_isSound [(1, x0), (1, x1)]) [] M ((0, r), M) := by
  change Sem g d YX1_isSound 0 [(1, x0), (1, x1), (9, 0)] [] M ((0, r), M)
  exact s_X1_isSound_0 hD (P := fun x => x = r) (fun q e => by rw [e]) h rfl
/-! PeerSearch.stable()Z -/
theorem dX1_stable_0 : decode cX1_stable 0 = .ok (.aload_n 0, 1) := by decide +kernel
theorem dX1_stable_1 : decode cX1_stable 1 = .ok (.invokevirtual 343, 3) := by decide +kernel
theorem dX1_stable_4 : decode cX1_stable 4 = .ok (.ifCond .ne 44, 3) := by decide +kernel
theorem dX1_stable_7 : decode cX1_stable 7 = .ok (.aload_n 0, 1) := by decide +kernel
theorem dX1_stable_8 : decode cX1_stable 8 = .ok (.getfield 78, 3) := by decide +kernel
theorem dX1_stable_11 : decode cX1_stable 11 = .ok (.iconst 0, 1) := by decide +kernel
theorem dX1_stable_12 : decode cX1_stable 12 = .ok (.invokevirtual 303, 3) := by decide +kernel
theorem dX1_stable_15 : decode cX1_stable 15 = .ok (.ifCond .gt 33, 3) := by decide +kernel
theorem dX1_stable_18 : decode cX1_stable 18 = .ok (.iconst 2, 1) := by decide +kernel
theorem dX1_stable_19 : decode cX1_stable 19 = .ok (.aload_n 0, 1) := by decide +kernel
theorem dX1_stable_20 : decode cX1_stable 20 = .ok (.getfield 78, 3) := by decide +kernel
theorem dX1_stable_23 : decode cX1_stable 23 = .ok (.iconst 1, 1) := by decide +kernel
theorem dX1_stable_24 : decode cX1_stable 24 = .ok (.invokevirtual 303, 3) := by decide +kernel
theorem dX1_stable_27 : decode cX1_stable 27 = .ok (.aload_n 0, 1) := by decide +kernel
theorem dX1_stable_28 : decode cX1_stable 28 = .ok (.getfield 78, 3) := by decide +kernel
theorem dX1_stable_31 : decode cX1_stable 31 = .ok (.iconst 2, 1) := by decide +kernel
theorem dX1_stable_32 : decode cX1_stable 32 = .ok (.invokevirtual 303, 3) := by decide +kernel
theorem dX1_stable_35 : decode cX1_stable 35 = .ok (.iadd, 1) := by decide +kernel
theorem dX1_stable_36 : decode cX1_stable 36 = .ok (.imul, 1) := by decide +kernel
theorem dX1_stable_37 : decode cX1_stable 37 = .ok (.aload_n 0, 1) := by decide +kernel
theorem dX1_stable_38 : decode cX1_stable 38 = .ok (.getfield 78, 3) := by decide +kernel
theorem dX1_stable_41 : decode cX1_stable 41 = .ok (.iconst 4, 1) := by decide +kernel
theorem dX1_stable_42 : decode cX1_stable 42 = .ok (.invokevirtual 303, 3) := by decide +kernel
theorem dX1_stable_45 : decode cX1_stable 45 = .ok (.if_icmp .lt 5, 3) := by decide +kernel
theorem dX1_stable_48 : decode cX1_stable 48 = .ok (.iconst 0, 1) := by decide +kernel
theorem dX1_stable_49 : decode cX1_stable 49 = .ok (.ireturn, 1) := by decide +kernel
theorem dX1_stable_50 : decode cX1_stable 50 = .ok (.iconst 0, 1) := by decide +kernel
theorem dX1_stable_51 : decode cX1_stable 51 = .ok (.istore_n 1, 1) := by decide +kernel
theorem dX1_stable_52 : decode cX1_stable 52 = .ok (.iload_n 1, 1) := by decide +kernel
theorem dX1_stable_53 : decode cX1_stable 53 = .ok (.aload_n 0, 1) := by decide +kernel
theorem dX1_stable_54 : decode cX1_stable 54 = .ok (.getfield 70, 3) := by decide +kernel
theorem dX1_stable_57 : decode cX1_stable 57 = .ok (.getfield 127, 3) := by decide +kernel
theorem dX1_stable_60 : decode cX1_stable 60 = .ok (.if_icmp .ge 35, 3) := by decide +kernel
theorem dX1_stable_63 : decode cX1_stable 63 = .ok (.aload_n 0, 1) := by decide +kernel
theorem dX1_stable_64 : decode cX1_stable 64 = .ok (.iload_n 1, 1) := by decide +kernel
theorem dX1_stable_65 : decode cX1_stable 65 = .ok (.invokevirtual 149, 3) := by decide +kernel
theorem dX1_stable_68 : decode cX1_stable 68 = .ok (.ifCond .eq 21, 3) := by decide +kernel
theorem dX1_stable_71 : decode cX1_stable 71 = .ok (.aload_n 0, 1) := by decide +kernel
theorem dX1_stable_72 : decode cX1_stable 72 = .ok (.aload_n 0, 1) := by decide +kernel
theorem dX1_stable_73 : decode cX1_stable 73 = .ok (.getfield 70, 3) := by decide +kernel
theorem dX1_stable_76 : decode cX1_stable 76 = .ok (.getfield 114, 3) := by decide +kernel
theorem dX1_stable_79 : decode cX1_stable 79 = .ok (.iload_n 1, 1) := by decide +kernel
theorem dX1_stable_80 : decode cX1_stable 80 = .ok (.aaload, 1) := by decide +kernel
theorem dX1_stable_81 : decode cX1_stable 81 = .ok (.invokevirtual 440, 3) := by decide +kernel
theorem dX1_stable_84 : decode cX1_stable 84 = .ok (.ifCond .ne 5, 3) := by decide +kernel
theorem dX1_stable_87 : decode cX1_stable 87 = .ok (.iconst 0, 1) := by decide +kernel
theorem dX1_stable_88 : decode cX1_stable 88 = .ok (.ireturn, 1) := by decide +kernel
theorem dX1_stable_89 : decode cX1_stable 89 = .ok (.iinc 1 1, 3) := by decide +kernel
theorem dX1_stable_92 : decode cX1_stable 92 = .ok (.goto (-40), 3) := by decide +kernel
theorem dX1_stable_95 : decode cX1_stable 95 = .ok (.iconst 1, 1) := by decide +kernel
theorem dX1_stable_96 : decode cX1_stable 96 = .ok (.ireturn, 1) := by decide +kernel
def j_X1_stable_89 (x0 x1 : Int) (M : MM) : Option ((Int) ⊕ (Int)) :=
  cnt (x1 + 1)
def b_X1_stable_52 (x0 x1 : Int) (M : MM) : Option ((Int) ⊕ (Int)) :=
  (gfr 1 0 x0 M).bind fun v1 =>
  (gfi 6 6 v1 M).bind fun v2 =>
  if w32 x1 < w32 v2 then
    ck 1 x0 M <| (f_X1_isLive x0 x1 M).bind fun v3 =>
    if w32 v3 = 0 then
      j_X1_stable_89 x0 x1 M
    else
      (gfr 1 0 x0 M).bind fun v4 =>
      (gfr 6 5 v4 M).bind fun v5 =>
      (lar 7 v5 x1 M).bind fun v6 =>
      ck 1 x0 M <| (f_X1_isSound x0 v6 M).bind fun v7 =>
      if w32 v7 = 0 then
        xit (some 0)
      else
        j_X1_stable_89 x0 x1 M
  else
    xit (some 1)
def l_X1_stable_52 (x0 x1 : Int) (M : MM) : Option (Int) := lpN (fun s : Int => b_X1_stable_52 x0 s M) FU x1
def j_X1_stable_48 (M : MM) : Option (Int) :=
  some 0
def f_X1_stable (x0 : Int) (M : MM) : Option (Int) :=
  ck 1 x0 M <| (f_X1_isBusy x0 M).bind fun v1 =>
  if w32 v1 = 0 then
    (gfr 1 1 x0 M).bind fun v2 =>
    ck 7 v2 M <| (f_X7_setting v2 0 M).bind fun v3 =>
    if 0 < w32 v3 then
      j_X1_stable_48 M
    else
      (gfr 1 1 x0 M).bind fun v4 =>
      ck 7 v4 M <| (f_X7_setting v4 1 M).bind fun v5 =>
      (gfr 1 1 x0 M).bind fun v6 =>
      ck 7 v6 M <| (f_X7_setting v6 2 M).bind fun v7 =>
      (gfr 1 1 x0 M).bind fun v8 =>
      ck 7 v8 M <| (f_X7_setting v8 4 M).bind fun v9 =>
      if w32 (2 * (v5 + v7)) < w32 v9 then
        l_X1_stable_52 x0 0 M
      else
        j_X1_stable_48 M
  else
    j_X1_stable_48 M
theorem s_X1_stable_89 {g : GG} {d : Nat} (hD : 6 ≤ d) {x0 x1 : Int} {M : MM} {o : AV × MM} {P : ((Int) ⊕ (Int)) → Prop} (c0 : ∀ s : Int, P (.inl s) → Sem g d YX1_stable 52 [(1, x0), (0, s)] [] M o) (r0 : ∀ r : Int, P (.inr r) → o = ((0, r), M)) {z : (Int) ⊕ (Int)} (h : j_X1_stable_89 x0 x1 M = some z) (hz : P z) : Sem g d YX1_stable 89 [(1, x0), (0, x1)] [] M o := by
  delta j_X1_stable_89 at h
  refine S_iinc dX1_stable_89 rfl rfl rfl ?_
  change Sem g d YX1_stable 92 [(1, x0), (0, x1 + 1)] [] M o
  refine S_goto (tgt := 52) dX1_stable_92 rfl ?_
  exact c0 (x1 + 1) (some_P (P := fun r => P r) h hz)
theorem s_X1_stable_52 {g : GG} {d : Nat} (hD : 6 ≤ d) {x0 x1 : Int} {M : MM} {o : AV × MM} {P : ((Int) ⊕ (Int)) → Prop} (c0 : ∀ s : Int, P (.inl s) → Sem g d YX1_stable 52 [(1, x0), (0, s)] [] M o) (r0 : ∀ r : Int, P (.inr r) → o = ((0, r), M)) {z : (Int) ⊕ (Int)} (h : b_X1_stable_52 x0 x1 M = some z) (hz : P z) : Sem g d YX1_stable 52 [(1, x0), (0, x1)] [] M o := by
  delta b_X1_stable_52 at h
  refine S_iload_n (i := 1) dX1_stable_52 rfl rfl ?_
  refine S_aload_n (i := 0) dX1_stable_53 rfl rfl ?_
  refine P_gfr FLX1_70 rfl dX1_stable_54 h (fun v1 h => ?_)
  refine P_gfi FLX1_127 rfl dX1_stable_57 h (fun v2 h => ?_)
  refine P_icmp_ge (tgt := 95) dX1_stable_60 rfl h (fun h => ?_) (fun h => ?_)
  · obtain ⟨z0, h, hz⟩ := xit_some' (P := fun r => P r) h hz
    refine S_iconst dX1_stable_95 rfl ?_
    obtain rfl := r0 _ (some_P (P := fun r => P (.inr r)) h hz)
    exact P_ret dX1_stable_96 rfl (Or.inr ⟨rfl, Or.inr rfl⟩)
  · refine S_aload_n (i := 0) dX1_stable_63 rfl rfl ?_
    refine S_iload_n (i := 1) dX1_stable_64 rfl rfl ?_
    refine P_invVp 0 [(0, x1)] [] CVX1_isLive MLX1_149 dX1_stable_65 rfl rfl rfl rfl rfl (by omega) h (fun r h => F_X1_isLive (by omega) h) (fun v3 h => ?_)
    refine P_if_eq (tgt := 89) dX1_stable_68 rfl h (fun h => ?_) (fun h => ?_)
    · exact s_X1_stable_89 hD c0 r0 h hz
    · refine S_aload_n (i := 0) dX1_stable_71 rfl rfl ?_
      refine S_aload_n (i := 0) dX1_stable_72 rfl rfl ?_
      refine P_gfr FLX1_70 rfl dX1_stable_73 h (fun v4 h => ?_)
      refine P_gfr FLX1_114 rfl dX1_stable_76 h (fun v5 h => ?_)
      refine S_iload_n (i := 1) dX1_stable_79 rfl rfl ?_
      refine P_lar (t := 7) ⟨by decide, by decide⟩ dX1_stable_80 h (fun v6 h => ?_)
      refine P_invVp 0 [(1, v6)] [] CVX1_isSound MLX1_440 dX1_stable_81 rfl rfl rfl rfl rfl (by omega) h (fun r h => F_X1_isSound (by omega) h) (fun v7 h => ?_)
      refine P_if_ne (tgt := 89) dX1_stable_84 rfl h (fun h => ?_) (fun h => ?_)
      · exact s_X1_stable_89 hD c0 r0 h hz
      · obtain ⟨z0, h, hz⟩ := xit_some' (P := fun r => P r) h hz
        refine S_iconst dX1_stable_87 rfl ?_
        obtain rfl := r0 _ (some_P (P := fun r => P (.inr r)) h hz)
        exact P_ret dX1_stable_88 rfl (Or.inr ⟨rfl, Or.inl rfl⟩)
theorem sl_X1_stable_52 {g : GG} {d : Nat} (hD : 6 ≤ d) {x0 x1 : Int} {M : MM} {o : AV × MM} {P : (Int) → Prop} (r0 : ∀ r : Int, P r → o = ((0, r), M)) {z : Int} (h : l_X1_stable_52 x0 x1 M = some z) (hz : P z) : Sem g d YX1_stable 52 [(1, x0), (0, x1)] [] M o := by
  refine lp_sound (S := fun s : Int => Sem g d YX1_stable 52 [(1, x0), (0, s)] [] M o) (P := P) ?_ FU x1 z h hz
  intro s x hx hP
  exact s_X1_stable_52 hD (P := Sum.elim (fun s : Int => Sem g d YX1_stable 52 [(1, x0), (0, s)] [] M o) P) (fun s h => h) (fun s h => r0 s h) hx hP
theorem s_X1_stable_48 {g : GG} {d : Nat} (hD : 6 ≤ d) {M : MM} {o : AV × MM} {P : (Int) → Prop} (r0 : ∀ r : Int, P r → o = ((0, r), M)) {z : Int} (h : j_X1_stable_48 M = some z) (hz : P z) : Sem g d YX1_stable 48 [(9, 0), (9, 0)] [] M o := by
  delta j_X1_stable_48 at h
  refine S_iconst dX1_stable_48 rfl ?_
  obtain rfl := r0 _ (some_P (P := fun r => P r) h hz)
  exact P_ret dX1_stable_49 rfl (Or.inr ⟨rfl, Or.inl rfl⟩)
theorem s_X1_stable_0 {g : GG} {d : Nat} (hD : 6 ≤ d) {x0 : Int} {M : MM} {o : AV × MM} {P : (Int) → Prop} (r0 : ∀ r : Int, P r → o = ((0, r), M)) {z : Int} (h : f_X1_stable x0 M = some z) (hz : P z) : Sem g d YX1_stable 0 [(1, x0), (9, 0)] [] M o := by
  delta f_X1_stable at h
  refine S_aload_n (i := 0) dX1_stable_0 rfl rfl ?_
  refine P_invVp 0 [] [] CVX1_isBusy MLX1_343 dX1_stable_1 rfl rfl rfl rfl rfl (by omega) h (fun r h => F_X1_isBusy (by omega) h) (fun v1 h => ?_)
  refine P_if_ne (tgt := 48) dX1_stable_4 rfl h (fun h => ?_) (fun h => ?_)
  · refine S_weak (ls' := [(9, 0), (9, 0)]) ⟨Or.inl rfl, ⟨Or.inl rfl, trivial⟩⟩ ?_
    exact s_X1_stable_48 hD r0 h hz
  · refine S_aload_n (i := 0) dX1_stable_7 rfl rfl ?_
    refine P_gfr FLX1_78 rfl dX1_stable_8 h (fun v2 h => ?_)
    refine S_iconst dX1_stable_11 rfl ?_
    refine P_invVp 0 [(0, 0)] [] CVX7_setting MLX1_303 dX1_stable_12 rfl rfl rfl rfl rfl (by omega) h (fun r h => F_X7_setting (by omega) h) (fun v3 h => ?_)
    refine P_if_gt (tgt := 48) dX1_stable_15 rfl h (fun h => ?_) (fun h => ?_)
    · refine S_weak (ls' := [(9, 0), (9, 0)]) ⟨Or.inl rfl, ⟨Or.inl rfl, trivial⟩⟩ ?_
      exact s_X1_stable_48 hD r0 h hz
    · refine S_iconst dX1_stable_18 rfl ?_
      refine S_aload_n (i := 0) dX1_stable_19 rfl rfl ?_
      refine P_gfr FLX1_78 rfl dX1_stable_20 h (fun v4 h => ?_)
      refine S_iconst dX1_stable_23 rfl ?_
      refine P_invVp 0 [(0, 1)] [(0, 2)] CVX7_setting MLX1_303 dX1_stable_24 rfl rfl rfl rfl rfl (by omega) h (fun r h => F_X7_setting (by omega) h) (fun v5 h => ?_)
      refine S_aload_n (i := 0) dX1_stable_27 rfl rfl ?_
      refine P_gfr FLX1_78 rfl dX1_stable_28 h (fun v6 h => ?_)
      refine S_iconst dX1_stable_31 rfl ?_
      refine P_invVp 0 [(0, 2)] [(0, v5), (0, 2)] CVX7_setting MLX1_303 dX1_stable_32 rfl rfl rfl rfl rfl (by omega) h (fun r h => F_X7_setting (by omega) h) (fun v7 h => ?_)
      refine S_iadd dX1_stable_35 ?_
      refine S_imul dX1_stable_36 ?_
      refine S_aload_n (i := 0) dX1_stable_37 rfl rfl ?_
      refine P_gfr FLX1_78 rfl dX1_stable_38 h (fun v8 h => ?_)
      refine S_iconst dX1_stable_41 rfl ?_
      refine P_invVp 0 [(0, 4)] [(0, 2 * (v5 + v7))] CVX7_setting MLX1_303 dX1_stable_42 rfl rfl rfl rfl rfl (by omega) h (fun r h => F_X7_setting (by omega) h) (fun v9 h => ?_)
      refine P_icmp_lt (tgt := 50) dX1_stable_45 rfl h (fun h => ?_) (fun h => ?_)
      · refine S_iconst dX1_stable_50 rfl ?_
        refine S_istore_n (i := 1) dX1_stable_51 rfl (Nat.le_of_ble_eq_true rfl) rfl rfl ?_
        change Sem g d YX1_stable 52 [(1, x0), (0, 0)] [] M o
        exact sl_X1_stable_52 hD r0 h hz
      · refine S_weak (ls' := [(9, 0), (9, 0)]) ⟨Or.inl rfl, ⟨Or.inl rfl, trivial⟩⟩ ?_
        exact s_X1_stable_48 hD r0 h hz
theorem F_X1_stable {g : GG} {d : Nat} (hD : 6 ≤ d) {x0 : Int} {M : MM} {r : Int} (h : f_X1_stable x0 M = some r) : Sem g d YX1_stable 0 (ini YX1_stable [(1, x0)]) [] M ((0, r), M) := by
  change Sem g d YX1_stable 0 [(1, x0), (9, 0)] [] M ((0, r), M)
  exact s_X1_stable_0 hD (P := fun x => x = r) (fun q e => by rw [e]) h rfl
/-! PeerSearch.start(I)Z -/
theorem dX1_start_0 : decode cX1_start 0 = .ok (.aload_n 0, 1) := by decide +kernel
theorem dX1_start_1 : decode cX1_start 1 = .ok (.iload_n 1, 1) := by decide +kernel
theorem dX1_start_2 : decode cX1_start 2 = .ok (.invokevirtual 113, 3) := by decide +kernel
theorem dX1_start_5 : decode cX1_start 5 = .ok (.ifCond .eq 11, 3) := by decide +kernel
theorem dX1_start_8 : decode cX1_start 8 = .ok (.aload_n 0, 1) := by decide +kernel
theorem dX1_start_9 : decode cX1_start 9 = .ok (.iload_n 1, 1) := by decide +kernel
theorem dX1_start_10 : decode cX1_start 10 = .ok (.invokevirtual 149, 3) := by decide +kernel
theorem dX1_start_13 : decode cX1_start 13 = .ok (.ifCond .eq 5, 3) := by decide +kernel
theorem dX1_start_16 : decode cX1_start 16 = .ok (.iconst 0, 1) := by decide +kernel
theorem dX1_start_17 : decode cX1_start 17 = .ok (.ireturn, 1) := by decide +kernel
theorem dX1_start_18 : decode cX1_start 18 = .ok (.aload_n 0, 1) := by decide +kernel
theorem dX1_start_19 : decode cX1_start 19 = .ok (.getfield 70, 3) := by decide +kernel
theorem dX1_start_22 : decode cX1_start 22 = .ok (.getfield 114, 3) := by decide +kernel
theorem dX1_start_25 : decode cX1_start 25 = .ok (.iload_n 1, 1) := by decide +kernel
theorem dX1_start_26 : decode cX1_start 26 = .ok (.aaload, 1) := by decide +kernel
theorem dX1_start_27 : decode cX1_start 27 = .ok (.invokevirtual 152, 3) := by decide +kernel
theorem dX1_start_30 : decode cX1_start 30 = .ok (.iconst 1, 1) := by decide +kernel
theorem dX1_start_31 : decode cX1_start 31 = .ok (.ireturn, 1) := by decide +kernel
def j_X1_start_16 (M : MM) : Option (Int × MM) :=
  some (0, M)
def f_X1_start (x0 x1 : Int) (M : MM) : Option (Int × MM) :=
  ck 1 x0 M <| (f_X1_has x0 x1 M).bind fun v1 =>
  if w32 v1 = 0 then
    j_X1_start_16 M
  else
    ck 1 x0 M <| (f_X1_isLive x0 x1 M).bind fun v2 =>
    if w32 v2 = 0 then
      (gfr 1 0 x0 M).bind fun v3 =>
      (gfr 6 5 v3 M).bind fun v4 =>
      (lar 7 v4 x1 M).bind fun v5 =>
      ck 17 v5 M <| (f_X17_live v5 M).bind fun M1 =>
      some (1, M1)
    else
      j_X1_start_16 M
theorem s_X1_start_16 {g : GG} {d : Nat} (hD : 3 ≤ d) {M : MM} {o : AV × MM} {P : (Int × MM) → Prop} (r0 : ∀ r : Int × MM, P r → o = ((0, r.1), r.2)) {z : Int × MM} (h : j_X1_start_16 M = some z) (hz : P z) : Sem g d YX1_start 16 [(9, 0), (9, 0)] [] M o := by
  delta j_X1_start_16 at h
  refine S_iconst dX1_start_16 rfl ?_
  obtain rfl := r0 _ (some_P (P := fun r => P r) h hz)
  exact P_ret dX1_start_17 rfl (Or.inr ⟨rfl, Or.inl rfl⟩)
theorem s_X1_start_0 {g : GG} {d : Nat} (hD : 3 ≤ d) {x0 x1 : Int} {M : MM} {o : AV × MM} {P : (Int × MM) → Prop} (r0 : ∀ r : Int × MM, P r → o = ((0, r.1), r.2)) {z : Int × MM} (h : f_X1_start x0 x1 M = some z) (hz : P z) : Sem g d YX1_start 0 [(1, x0), (0, x1)] [] M o := by
  delta f_X1_start at h
  refine S_aload_n (i := 0) dX1_start_0 rfl rfl ?_
  refine S_iload_n (i := 1) dX1_start_1 rfl rfl ?_
  refine P_invVp 0 [(0, x1)] [] CVX1_has MLX1_113 dX1_start_2 rfl rfl rfl rfl rfl (by omega) h (fun r h => F_X1_has (by omega) h) (fun v1 h => ?_)
  refine P_if_eq (tgt := 16) dX1_start_5 rfl h (fun h => ?_) (fun h => ?_)
  · refine S_weak (ls' := [(9, 0), (9, 0)]) ⟨Or.inl rfl, ⟨Or.inl rfl, trivial⟩⟩ ?_
    exact s_X1_start_16 hD r0 h hz
  · refine S_aload_n (i := 0) dX1_start_8 rfl rfl ?_
    refine S_iload_n (i := 1) dX1_start_9 rfl rfl ?_
    refine P_invVp 0 [(0, x1)] [] CVX1_isLive MLX1_149 dX1_start_10 rfl rfl rfl rfl rfl (by omega) h (fun r h => F_X1_isLive (by omega) h) (fun v2 h => ?_)
    refine P_if_eq (tgt := 18) dX1_start_13 rfl h (fun h => ?_) (fun h => ?_)
    · refine S_aload_n (i := 0) dX1_start_18 rfl rfl ?_
      refine P_gfr FLX1_70 rfl dX1_start_19 h (fun v3 h => ?_)
      refine P_gfr FLX1_114 rfl dX1_start_22 h (fun v4 h => ?_)
      refine S_iload_n (i := 1) dX1_start_25 rfl rfl ?_
      refine P_lar (t := 7) ⟨by decide, by decide⟩ dX1_start_26 h (fun v5 h => ?_)
      refine P_invVm' [] [] CVX17_live MLX1_152 dX1_start_27 rfl rfl rfl rfl (by omega) h (fun r h => F_X17_live (by omega) h) (fun M1 h => ?_)
      refine S_iconst dX1_start_30 rfl ?_
      obtain rfl := r0 _ (some_P (P := fun r => P r) h hz)
      exact P_ret dX1_start_31 rfl (Or.inr ⟨rfl, Or.inr rfl⟩)
    · refine S_weak (ls' := [(9, 0), (9, 0)]) ⟨Or.inl rfl, ⟨Or.inl rfl, trivial⟩⟩ ?_
      exact s_X1_start_16 hD r0 h hz
theorem F_X1_start {g : GG} {d : Nat} (hD : 3 ≤ d) {x0 x1 : Int} {M : MM} {r : Int × MM} (h : f_X1_start x0 x1 M = some r) : Sem g d YX1_start 0 (ini YX1_start [(1, x0), (0, x1)]) [] M ((0, r.1), r.2) := by
  change Sem g d YX1_start 0 [(1, x0), (0, x1)] [] M ((0, r.1), r.2)
  exact s_X1_start_0 hD (P := fun x => x = r) (fun q e => by rw [e]) h rfl
/-! PeerSearch.task(II)I -/
theorem dX1_task_0 : decode cX1_task 0 = .ok (.aload_n 0, 1) := by decide +kernel
theorem dX1_task_1 : decode cX1_task 1 = .ok (.iload_n 1, 1) := by decide +kernel
theorem dX1_task_2 : decode cX1_task 2 = .ok (.invokevirtual 346, 3) := by decide +kernel
theorem dX1_task_5 : decode cX1_task 5 = .ok (.ifCond .ne 5, 3) := by decide +kernel
theorem dX1_task_8 : decode cX1_task 8 = .ok (.iconst (-1), 1) := by decide +kernel
theorem dX1_task_9 : decode cX1_task 9 = .ok (.ireturn, 1) := by decide +kernel
theorem dX1_task_10 : decode cX1_task 10 = .ok (.aload_n 0, 1) := by decide +kernel
theorem dX1_task_11 : decode cX1_task 11 = .ok (.getfield 27, 3) := by decide +kernel
theorem dX1_task_14 : decode cX1_task 14 = .ok (.iload_n 1, 1) := by decide +kernel
theorem dX1_task_15 : decode cX1_task 15 = .ok (.aaload, 1) := by decide +kernel
theorem dX1_task_16 : decode cX1_task 16 = .ok (.astore_n 3, 1) := by decide +kernel
theorem dX1_task_17 : decode cX1_task 17 = .ok (.iload_n 2, 1) := by decide +kernel
theorem dX1_task_18 : decode cX1_task 18 = .ok (.tableswitch 59 0 4 #[34, 39, 44, 49, 54], 34) := by decide +kernel
theorem dX1_task_52 : decode cX1_task 52 = .ok (.aload_n 3, 1) := by decide +kernel
theorem dX1_task_53 : decode cX1_task 53 = .ok (.getfield 349, 3) := by decide +kernel
theorem dX1_task_56 : decode cX1_task 56 = .ok (.ireturn, 1) := by decide +kernel
theorem dX1_task_57 : decode cX1_task 57 = .ok (.aload_n 3, 1) := by decide +kernel
theorem dX1_task_58 : decode cX1_task 58 = .ok (.getfield 352, 3) := by decide +kernel
theorem dX1_task_61 : decode cX1_task 61 = .ok (.ireturn, 1) := by decide +kernel
theorem dX1_task_62 : decode cX1_task 62 = .ok (.aload_n 3, 1) := by decide +kernel
theorem dX1_task_63 : decode cX1_task 63 = .ok (.getfield 354, 3) := by decide +kernel
theorem dX1_task_66 : decode cX1_task 66 = .ok (.ireturn, 1) := by decide +kernel
theorem dX1_task_67 : decode cX1_task 67 = .ok (.aload_n 3, 1) := by decide +kernel
theorem dX1_task_68 : decode cX1_task 68 = .ok (.getfield 355, 3) := by decide +kernel
theorem dX1_task_71 : decode cX1_task 71 = .ok (.ireturn, 1) := by decide +kernel
theorem dX1_task_72 : decode cX1_task 72 = .ok (.aload_n 3, 1) := by decide +kernel
theorem dX1_task_73 : decode cX1_task 73 = .ok (.getfield 358, 3) := by decide +kernel
theorem dX1_task_76 : decode cX1_task 76 = .ok (.ireturn, 1) := by decide +kernel
theorem dX1_task_77 : decode cX1_task 77 = .ok (.iconst (-1), 1) := by decide +kernel
theorem dX1_task_78 : decode cX1_task 78 = .ok (.ireturn, 1) := by decide +kernel
def f_X1_task (x0 x1 x2 : Int) (M : MM) : Option (Int) :=
  ck 1 x0 M <| (f_X1_isTask x0 x1 M).bind fun v1 =>
  if w32 v1 = 0 then
    some (-1)
  else
    (gfr 1 7 x0 M).bind fun v2 =>
    (lar 4 v2 x1 M).bind fun v3 =>
    swt (w32 x2) 0 [
      (
      (gfi 26 0 v3 M).bind fun v4 =>
      some v4
      ),
      (
      (gfi 26 1 v3 M).bind fun v5 =>
      some v5
      ),
      (
      (gfi 26 2 v3 M).bind fun v6 =>
      some v6
      ),
      (
      (gfi 26 3 v3 M).bind fun v7 =>
      some v7
      ),
      (
      (gfi 26 4 v3 M).bind fun v8 =>
      some v8
      )
      ] (
      some (-1)
      )
theorem s_X1_task_0 {g : GG} {d : Nat} (hD : 1 ≤ d) {x0 x1 x2 : Int} {M : MM} {o : AV × MM} {P : (Int) → Prop} (r0 : ∀ r : Int, P r → o = ((0, r), M)) {z : Int} (h : f_X1_task x0 x1 x2 M = some z) (hz : P z) : Sem g d YX1_task 0 [(1, x0), (0, x1), (0, x2), (9, 0)] [] M o := by
  delta f_X1_task at h
  refine S_aload_n (i := 0) dX1_task_0 rfl rfl ?_
  refine S_iload_n (i := 1) dX1_task_1 rfl rfl ?_
  refine P_invVp 0 [(0, x1)] [] CVX1_isTask MLX1_346 dX1_task_2 rfl rfl rfl rfl rfl (by omega) h (fun r h => F_X1_isTask (by omega) h) (fun v1 h => ?_)
  refine P_if_ne (tgt := 10) dX1_task_5 rfl h (fun h => ?_) (fun h => ?_)
  · refine S_aload_n (i := 0) dX1_task_10 rfl rfl ?_
    refine P_gfr FLX1_27 rfl dX1_task_11 h (fun v2 h => ?_)
    refine S_iload_n (i := 1) dX1_task_14 rfl rfl ?_
    refine P_lar (t := 4) ⟨by decide, by decide⟩ dX1_task_15 h (fun v3 h => ?_)
    refine S_astore_n (i := 3) dX1_task_16 rfl (Nat.le_of_ble_eq_true rfl) rfl rfl ?_
    change Sem g d YX1_task 17 [(1, x0), (0, x1), (0, x2), (1, v3)] [] M o
    refine S_iload_n (i := 2) dX1_task_17 rfl rfl ?_
    refine P_swt [52, 57, 62, 67, 72] 77 dX1_task_18 rfl rfl rfl rfl h ?_ (fun h => ?_)
    · intro i X hX h t ht
      rcases i with _ | i
      · have e1 := Option.some.inj hX
        have e2 := Option.some.inj ht
        subst e1
        subst e2
        refine S_aload_n (i := 3) dX1_task_52 rfl rfl ?_
        refine P_gfi FLX1_349 rfl dX1_task_53 h (fun v4 h => ?_)
        obtain rfl := r0 _ (some_P (P := fun r => P r) h hz)
        exact P_ret dX1_task_56 rfl (Or.inl rfl)
      rcases i with _ | i
      · have e1 := Option.some.inj hX
        have e2 := Option.some.inj ht
        subst e1
        subst e2
        refine S_aload_n (i := 3) dX1_task_57 rfl rfl ?_
        refine P_gfi FLX1_352 rfl dX1_task_58 h (fun v5 h => ?_)
        obtain rfl := r0 _ (some_P (P := fun r => P r) h hz)
        exact P_ret dX1_task_61 rfl (Or.inl rfl)
      rcases i with _ | i
      · have e1 := Option.some.inj hX
        have e2 := Option.some.inj ht
        subst e1
        subst e2
        refine S_aload_n (i := 3) dX1_task_62 rfl rfl ?_
        refine P_gfi FLX1_354 rfl dX1_task_63 h (fun v6 h => ?_)
        obtain rfl := r0 _ (some_P (P := fun r => P r) h hz)
        exact P_ret dX1_task_66 rfl (Or.inl rfl)
      rcases i with _ | i
      · have e1 := Option.some.inj hX
        have e2 := Option.some.inj ht
        subst e1
        subst e2
        refine S_aload_n (i := 3) dX1_task_67 rfl rfl ?_
        refine P_gfi FLX1_355 rfl dX1_task_68 h (fun v7 h => ?_)
        obtain rfl := r0 _ (some_P (P := fun r => P r) h hz)
        exact P_ret dX1_task_71 rfl (Or.inl rfl)
      rcases i with _ | i
      · have e1 := Option.some.inj hX
        have e2 := Option.some.inj ht
        subst e1
        subst e2
        refine S_aload_n (i := 3) dX1_task_72 rfl rfl ?_
        refine P_gfi FLX1_358 rfl dX1_task_73 h (fun v8 h => ?_)
        obtain rfl := r0 _ (some_P (P := fun r => P r) h hz)
        exact P_ret dX1_task_76 rfl (Or.inl rfl)
      cases hX
    · refine S_iconst dX1_task_77 rfl ?_
      obtain rfl := r0 _ (some_P (P := fun r => P r) h hz)
      exact P_ret dX1_task_78 rfl (Or.inl rfl)
  · refine S_iconst dX1_task_8 rfl ?_
    obtain rfl := r0 _ (some_P (P := fun r => P r) h hz)
    exact P_ret dX1_task_9 rfl (Or.inl rfl)
theorem F_X1_task {g : GG} {d : Nat} (hD : 1 ≤ d) {x0 x1 x2 : Int} {M : MM} {r : Int} (h : f_X1_task x0 x1 x2 M = some r) : Sem g d YX1_task 0 (ini YX1_task [(1, x0), (0, x1), (0, x2)]) [] M ((0, r), M) := by
  change Sem g d YX1_task 0 [(1, x0), (0, x1), (0, x2), (9, 0)] [] M ((0, r), M)
  exact s_X1_task_0 hD (P := fun x => x = r) (fun q e => by rw [e]) h rfl
/-! PeerSearch$Library.weight(LPeerSearch$Cutter;II)I -/
theorem dX19_weight_0 : decode cX19_weight 0 = .ok (.aload_n 0, 1) := by decide +kernel
theorem dX19_weight_1 : decode cX19_weight 1 = .ok (.aload_n 1, 1) := by decide +kernel
theorem dX19_weight_2 : decode cX19_weight 2 = .ok (.iload_n 2, 1) := by decide +kernel
theorem dX19_weight_3 : decode cX19_weight 3 = .ok (.invokevirtual 30, 3) := by decide +kernel
theorem dX19_weight_6 : decode cX19_weight 6 = .ok (.istore 4, 2) := by decide +kernel
theorem dX19_weight_8 : decode cX19_weight 8 = .ok (.iload 4, 2) := by decide +kernel
theorem dX19_weight_10 : decode cX19_weight 10 = .ok (.ifCond .ge 7, 3) := by decide +kernel
theorem dX19_weight_13 : decode cX19_weight 13 = .ok (.iconst 0, 1) := by decide +kernel
theorem dX19_weight_14 : decode cX19_weight 14 = .ok (.goto 15, 3) := by decide +kernel
theorem dX19_weight_17 : decode cX19_weight 17 = .ok (.aload_n 0, 1) := by decide +kernel
theorem dX19_weight_18 : decode cX19_weight 18 = .ok (.getfield 11, 3) := by decide +kernel
theorem dX19_weight_21 : decode cX19_weight 21 = .ok (.iload 4, 2) := by decide +kernel
theorem dX19_weight_23 : decode cX19_weight 23 = .ok (.aaload, 1) := by decide +kernel
theorem dX19_weight_24 : decode cX19_weight 24 = .ok (.getfield 40, 3) := by decide +kernel
theorem dX19_weight_27 : decode cX19_weight 27 = .ok (.iload_n 3, 1) := by decide +kernel
theorem dX19_weight_28 : decode cX19_weight 28 = .ok (.iaload, 1) := by decide +kernel
theorem dX19_weight_29 : decode cX19_weight 29 = .ok (.ireturn, 1) := by decide +kernel
def j_X19_weight_29 (y0 : Int) (M : MM) : Option (Int) :=
  some y0
def f_X19_weight (x0 x1 x2 x3 : Int) (M : MM) : Option (Int) :=
  ck 19 x0 M <| (f_X19_find x0 x1 x2 M).bind fun v1 =>
  if w32 v1 < 0 then
    j_X19_weight_29 0 M
  else
    (gfr 19 0 x0 M).bind fun v2 =>
    (lar 10 v2 v1 M).bind fun v3 =>
    (gfr 29 3 v3 M).bind fun v4 =>
    (lai v4 x3 M).bind fun v5 =>
    j_X19_weight_29 v5 M
theorem s_X19_weight_29 {g : GG} {d : Nat} (hD : 3 ≤ d) {y0 : Int} {M : MM} {o : AV × MM} {P : (Int) → Prop} (r0 : ∀ r : Int, P r → o = ((0, r), M)) {z : Int} (h : j_X19_weight_29 y0 M = some z) (hz : P z) : Sem g d YX19_weight 29 [(9, 0), (9, 0), (9, 0), (9, 0), (9, 0)] [(0, y0)] M o := by
  delta j_X19_weight_29 at h
  obtain rfl := r0 _ (some_P (P := fun r => P r) h hz)
  exact P_ret dX19_weight_29 rfl (Or.inl rfl)
theorem s_X19_weight_0 {g : GG} {d : Nat} (hD : 3 ≤ d) {x0 x1 x2 x3 : Int} {M : MM} {o : AV × MM} {P : (Int) → Prop} (r0 : ∀ r : Int, P r → o = ((0, r), M)) {z : Int} (h : f_X19_weight x0 x1 x2 x3 M = some z) (hz : P z) : Sem g d YX19_weight 0 [(1, x0), (1, x1), (0, x2), (0, x3), (9, 0)] [] M o := by
  delta f_X19_weight at h
  refine S_aload_n (i := 0) dX19_weight_0 rfl rfl ?_
  refine S_aload_n (i := 1) dX19_weight_1 rfl rfl ?_
  refine S_iload_n (i := 2) dX19_weight_2 rfl rfl ?_
  refine P_invVp 0 [(1, x1), (0, x2)] [] CVX19_find MLX19_30 dX19_weight_3 rfl rfl rfl rfl rfl (by omega) h (fun r h => F_X19_find (by omega) h) (fun v1 h => ?_)
  refine S_istore dX19_weight_6 (Nat.le_of_ble_eq_true rfl) rfl rfl ?_
  change Sem g d YX19_weight 8 [(1, x0), (1, x1), (0, x2), (0, x3), (0, v1)] [] M o
  refine S_iload dX19_weight_8 rfl ?_
  refine P_if_ge (tgt := 17) dX19_weight_10 rfl h (fun h => ?_) (fun h => ?_)
  · refine S_aload_n (i := 0) dX19_weight_17 rfl rfl ?_
    refine P_gfr FLX19_11 rfl dX19_weight_18 h (fun v2 h => ?_)
    refine S_iload dX19_weight_21 rfl ?_
    refine P_lar (t := 10) ⟨by decide, by decide⟩ dX19_weight_23 h (fun v3 h => ?_)
    refine P_gfr FLX19_40 rfl dX19_weight_24 h (fun v4 h => ?_)
    refine S_iload_n (i := 3) dX19_weight_27 rfl rfl ?_
    refine P_lai dX19_weight_28 h (fun v5 h => ?_)
    refine S_weak (ls' := [(9, 0), (9, 0), (9, 0), (9, 0), (9, 0)]) ⟨Or.inl rfl, ⟨Or.inl rfl, ⟨Or.inl rfl, ⟨Or.inl rfl, ⟨Or.inl rfl, trivial⟩⟩⟩⟩⟩ ?_
    exact s_X19_weight_29 hD r0 h hz
  · refine S_iconst dX19_weight_13 rfl ?_
    refine S_goto (tgt := 29) dX19_weight_14 rfl ?_
    refine S_weak (ls' := [(9, 0), (9, 0), (9, 0), (9, 0), (9, 0)]) ⟨Or.inl rfl, ⟨Or.inl rfl, ⟨Or.inl rfl, ⟨Or.inl rfl, ⟨Or.inl rfl, trivial⟩⟩⟩⟩⟩ ?_
    exact s_X19_weight_29 hD r0 h hz
theorem F_X19_weight {g : GG} {d : Nat} (hD : 3 ≤ d) {x0 x1 x2 x3 : Int} {M : MM} {r : Int} (h : f_X19_weight x0 x1 x2 x3 M = some r) : Sem g d YX19_weight 0 (ini YX19_weight [(1, x0), (1, x1), (0, x2), (0, x3)]) [] M ((0, r), M) := by
  change Sem g d YX19_weight 0 [(1, x0), (1, x1), (0, x2), (0, x3), (9, 0)] [] M ((0, r), M)
  exact s_X19_weight_0 hD (P := fun x => x = r) (fun q e => by rw [e]) h rfl
/-! PeerSearch.scoreOf(LPeerSearch$Peer;I)I -/
theorem dX1_scoreOf_0 : decode cX1_scoreOf 0 = .ok (.iconst 0, 1) := by decide +kernel
theorem dX1_scoreOf_1 : decode cX1_scoreOf 1 = .ok (.istore_n 3, 1) := by decide +kernel
theorem dX1_scoreOf_2 : decode cX1_scoreOf 2 = .ok (.iconst 0, 1) := by decide +kernel
theorem dX1_scoreOf_3 : decode cX1_scoreOf 3 = .ok (.istore 4, 2) := by decide +kernel
theorem dX1_scoreOf_5 : decode cX1_scoreOf 5 = .ok (.iload 4, 2) := by decide +kernel
theorem dX1_scoreOf_7 : decode cX1_scoreOf 7 = .ok (.aload_n 0, 1) := by decide +kernel
theorem dX1_scoreOf_8 : decode cX1_scoreOf 8 = .ok (.getfield 34, 3) := by decide +kernel
theorem dX1_scoreOf_11 : decode cX1_scoreOf 11 = .ok (.getfield 253, 3) := by decide +kernel
theorem dX1_scoreOf_14 : decode cX1_scoreOf 14 = .ok (.if_icmp .ge 37, 3) := by decide +kernel
theorem dX1_scoreOf_17 : decode cX1_scoreOf 17 = .ok (.aload_n 1, 1) := by decide +kernel
theorem dX1_scoreOf_18 : decode cX1_scoreOf 18 = .ok (.getfield 232, 3) := by decide +kernel
theorem dX1_scoreOf_21 : decode cX1_scoreOf 21 = .ok (.aload_n 0, 1) := by decide +kernel
theorem dX1_scoreOf_22 : decode cX1_scoreOf 22 = .ok (.getfield 34, 3) := by decide +kernel
theorem dX1_scoreOf_25 : decode cX1_scoreOf 25 = .ok (.iload 4, 2) := by decide +kernel
theorem dX1_scoreOf_27 : decode cX1_scoreOf 27 = .ok (.iload_n 2, 1) := by decide +kernel
theorem dX1_scoreOf_28 : decode cX1_scoreOf 28 = .ok (.invokevirtual 448, 3) := by decide +kernel
theorem dX1_scoreOf_31 : decode cX1_scoreOf 31 = .ok (.istore 5, 2) := by decide +kernel
theorem dX1_scoreOf_33 : decode cX1_scoreOf 33 = .ok (.iload 5, 2) := by decide +kernel
theorem dX1_scoreOf_35 : decode cX1_scoreOf 35 = .ok (.ifCond .ne 5, 3) := by decide +kernel
theorem dX1_scoreOf_38 : decode cX1_scoreOf 38 = .ok (.iconst 0, 1) := by decide +kernel
theorem dX1_scoreOf_39 : decode cX1_scoreOf 39 = .ok (.ireturn, 1) := by decide +kernel
theorem dX1_scoreOf_40 : decode cX1_scoreOf 40 = .ok (.iload_n 3, 1) := by decide +kernel
theorem dX1_scoreOf_41 : decode cX1_scoreOf 41 = .ok (.iload 5, 2) := by decide +kernel
theorem dX1_scoreOf_43 : decode cX1_scoreOf 43 = .ok (.iadd, 1) := by decide +kernel
theorem dX1_scoreOf_44 : decode cX1_scoreOf 44 = .ok (.istore_n 3, 1) := by decide +kernel
theorem dX1_scoreOf_45 : decode cX1_scoreOf 45 = .ok (.iinc 4 1, 3) := by decide +kernel
theorem dX1_scoreOf_48 : decode cX1_scoreOf 48 = .ok (.goto (-43), 3) := by decide +kernel
theorem dX1_scoreOf_51 : decode cX1_scoreOf 51 = .ok (.iload_n 3, 1) := by decide +kernel
theorem dX1_scoreOf_52 : decode cX1_scoreOf 52 = .ok (.ireturn, 1) := by decide +kernel
def b_X1_scoreOf_5 (x0 x1 x2 x3 x4 : Int) (M : MM) : Option ((Int × Int) ⊕ (Int)) :=
  (gfr 1 9 x0 M).bind fun v1 =>
  (gfi 2 3 v1 M).bind fun v2 =>
  if w32 x4 < w32 v2 then
    (gfr 17 7 x1 M).bind fun v3 =>
    (gfr 1 9 x0 M).bind fun v4 =>
    ck 19 v3 M <| (f_X19_weight v3 v4 x4 x2 M).bind fun v5 =>
    if w32 v5 = 0 then
      xit (some 0)
    else
      cnt (x3 + v5, x4 + 1)
  else
    xit (some x3)
def l_X1_scoreOf_5 (x0 x1 x2 x3 x4 : Int) (M : MM) : Option (Int) := lpN (fun s : Int × Int => b_X1_scoreOf_5 x0 x1 x2 s.1 s.2 M) FU (x3, x4)
def f_X1_scoreOf (x0 x1 x2 : Int) (M : MM) : Option (Int) :=
  l_X1_scoreOf_5 x0 x1 x2 0 0 M
theorem s_X1_scoreOf_5 {g : GG} {d : Nat} (hD : 4 ≤ d) {x0 x1 x2 x3 x4 : Int} {M : MM} {o : AV × MM} {P : ((Int × Int) ⊕ (Int)) → Prop} (c0 : ∀ s : Int × Int, P (.inl s) → Sem g d YX1_scoreOf 5 [(1, x0), (1, x1), (0, x2), (0, s.1), (0, s.2), (9, 0)] [] M o) (r0 : ∀ r : Int, P (.inr r) → o = ((0, r), M)) {z : (Int × Int) ⊕ (Int)} (h : b_X1_scoreOf_5 x0 x1 x2 x3 x4 M = some z) (hz : P z) : Sem g d YX1_scoreOf 5 [(1, x0), (1, x1), (0, x2), (0, x3), (0, x4), (9, 0)] [] M o := by
  delta b_X1_scoreOf_5 at h
  refine S_iload dX1_scoreOf_5 rfl ?_
  refine S_aload_n (i := 0) dX1_scoreOf_7 rfl rfl ?_
  refine P_gfr FLX1_34 rfl dX1_scoreOf_8 h (fun v1 h => ?_)
  refine P_gfi FLX1_253 rfl dX1_scoreOf_11 h (fun v2 h => ?_)
  refine P_icmp_ge (tgt := 51) dX1_scoreOf_14 rfl h (fun h => ?_) (fun h => ?_)
  · obtain ⟨z0, h, hz⟩ := xit_some' (P := fun r => P r) h hz
    refine S_iload_n (i := 3) dX1_scoreOf_51 rfl rfl ?_
    obtain rfl := r0 _ (some_P (P := fun r => P (.inr r)) h hz)
    exact P_ret dX1_scoreOf_52 rfl (Or.inl rfl)
  · refine S_aload_n (i := 1) dX1_scoreOf_17 rfl rfl ?_
    refine P_gfr FLX1_232 rfl dX1_scoreOf_18 h (fun v3 h => ?_)
    refine S_aload_n (i := 0) dX1_scoreOf_21 rfl rfl ?_
    refine P_gfr FLX1_34 rfl dX1_scoreOf_22 h (fun v4 h => ?_)
    refine S_iload dX1_scoreOf_25 rfl ?_
    refine S_iload_n (i := 2) dX1_scoreOf_27 rfl rfl ?_
    refine P_invVp 0 [(1, v4), (0, x4), (0, x2)] [] CVX19_weight MLX1_448 dX1_scoreOf_28 rfl rfl rfl rfl rfl (by omega) h (fun r h => F_X19_weight (by omega) h) (fun v5 h => ?_)
    refine S_istore dX1_scoreOf_31 (Nat.le_of_ble_eq_true rfl) rfl rfl ?_
    change Sem g d YX1_scoreOf 33 [(1, x0), (1, x1), (0, x2), (0, x3), (0, x4), (0, v5)] [] M o
    refine S_iload dX1_scoreOf_33 rfl ?_
    refine P_if_ne (tgt := 40) dX1_scoreOf_35 rfl h (fun h => ?_) (fun h => ?_)
    · refine S_iload_n (i := 3) dX1_scoreOf_40 rfl rfl ?_
      refine S_iload dX1_scoreOf_41 rfl ?_
      refine S_iadd dX1_scoreOf_43 ?_
      refine S_istore_n (i := 3) dX1_scoreOf_44 rfl (Nat.le_of_ble_eq_true rfl) rfl rfl ?_
      change Sem g d YX1_scoreOf 45 [(1, x0), (1, x1), (0, x2), (0, x3 + v5), (0, x4), (0, v5)] [] M o
      refine S_iinc dX1_scoreOf_45 rfl rfl rfl ?_
      change Sem g d YX1_scoreOf 48 [(1, x0), (1, x1), (0, x2), (0, x3 + v5), (0, x4 + 1), (0, v5)] [] M o
      refine S_goto (tgt := 5) dX1_scoreOf_48 rfl ?_
      refine S_weak (ls' := [(1, x0), (1, x1), (0, x2), (0, x3 + v5), (0, x4 + 1), (9, 0)]) ⟨Or.inr rfl, ⟨Or.inr rfl, ⟨Or.inr rfl, ⟨Or.inr rfl, ⟨Or.inr rfl, ⟨Or.inl rfl, trivial⟩⟩⟩⟩⟩⟩ ?_
      exact c0 (x3 + v5, x4 + 1) (some_P (P := fun r => P r) h hz)
    · obtain ⟨z0, h, hz⟩ := xit_some' (P := fun r => P r) h hz
      refine S_iconst dX1_scoreOf_38 rfl ?_
      obtain rfl := r0 _ (some_P (P := fun r => P (.inr r)) h hz)
      exact P_ret dX1_scoreOf_39 rfl (Or.inl rfl)
theorem sl_X1_scoreOf_5 {g : GG} {d : Nat} (hD : 4 ≤ d) {x0 x1 x2 x3 x4 : Int} {M : MM} {o : AV × MM} {P : (Int) → Prop} (r0 : ∀ r : Int, P r → o = ((0, r), M)) {z : Int} (h : l_X1_scoreOf_5 x0 x1 x2 x3 x4 M = some z) (hz : P z) : Sem g d YX1_scoreOf 5 [(1, x0), (1, x1), (0, x2), (0, x3), (0, x4), (9, 0)] [] M o := by
  refine lp_sound (S := fun s : Int × Int => Sem g d YX1_scoreOf 5 [(1, x0), (1, x1), (0, x2), (0, s.1), (0, s.2), (9, 0)] [] M o) (P := P) ?_ FU (x3, x4) z h hz
  intro s x hx hP
  exact s_X1_scoreOf_5 hD (P := Sum.elim (fun s : Int × Int => Sem g d YX1_scoreOf 5 [(1, x0), (1, x1), (0, x2), (0, s.1), (0, s.2), (9, 0)] [] M o) P) (fun s h => h) (fun s h => r0 s h) hx hP
theorem s_X1_scoreOf_0 {g : GG} {d : Nat} (hD : 4 ≤ d) {x0 x1 x2 : Int} {M : MM} {o : AV × MM} {P : (Int) → Prop} (r0 : ∀ r : Int, P r → o = ((0, r), M)) {z : Int} (h : f_X1_scoreOf x0 x1 x2 M = some z) (hz : P z) : Sem g d YX1_scoreOf 0 [(1, x0), (1, x1), (0, x2), (9, 0), (9, 0), (9, 0)] [] M o := by
  delta f_X1_scoreOf at h
  refine S_iconst dX1_scoreOf_0 rfl ?_
  refine S_istore_n (i := 3) dX1_scoreOf_1 rfl (Nat.le_of_ble_eq_true rfl) rfl rfl ?_
  change Sem g d YX1_scoreOf 2 [(1, x0), (1, x1), (0, x2), (0, 0), (9, 0), (9, 0)] [] M o
  refine S_iconst dX1_scoreOf_2 rfl ?_
  refine S_istore dX1_scoreOf_3 (Nat.le_of_ble_eq_true rfl) rfl rfl ?_
  change Sem g d YX1_scoreOf 5 [(1, x0), (1, x1), (0, x2), (0, 0), (0, 0), (9, 0)] [] M o
  exact sl_X1_scoreOf_5 hD r0 h hz
theorem F_X1_scoreOf {g : GG} {d : Nat} (hD : 4 ≤ d) {x0 x1 x2 : Int} {M : MM} {r : Int} (h : f_X1_scoreOf x0 x1 x2 M = some r) : Sem g d YX1_scoreOf 0 (ini YX1_scoreOf [(1, x0), (1, x1), (0, x2)]) [] M ((0, r), M) := by
  change Sem g d YX1_scoreOf 0 [(1, x0), (1, x1), (0, x2), (9, 0), (9, 0), (9, 0)] [] M ((0, r), M)
  exact s_X1_scoreOf_0 hD (P := fun x => x = r) (fun q e => by rw [e]) h rfl
/-! PeerSearch.truth(II)I -/
theorem dX1_truth_0 : decode cX1_truth 0 = .ok (.aload_n 0, 1) := by decide +kernel
theorem dX1_truth_1 : decode cX1_truth 1 = .ok (.getfield 34, 3) := by decide +kernel
theorem dX1_truth_4 : decode cX1_truth 4 = .ok (.aload_n 0, 1) := by decide +kernel
theorem dX1_truth_5 : decode cX1_truth 5 = .ok (.getfield 13, 3) := by decide +kernel
theorem dX1_truth_8 : decode cX1_truth 8 = .ok (.aload_n 0, 1) := by decide +kernel
theorem dX1_truth_9 : decode cX1_truth 9 = .ok (.getfield 91, 3) := by decide +kernel
theorem dX1_truth_12 : decode cX1_truth 12 = .ok (.invokevirtual 228, 3) := by decide +kernel
theorem dX1_truth_15 : decode cX1_truth 15 = .ok (.aload_n 0, 1) := by decide +kernel
theorem dX1_truth_16 : decode cX1_truth 16 = .ok (.invokevirtual 256, 3) := by decide +kernel
theorem dX1_truth_19 : decode cX1_truth 19 = .ok (.ifCond .eq 16, 3) := by decide +kernel
theorem dX1_truth_22 : decode cX1_truth 22 = .ok (.iload_n 1, 1) := by decide +kernel
theorem dX1_truth_23 : decode cX1_truth 23 = .ok (.ifCond .lt 12, 3) := by decide +kernel
theorem dX1_truth_26 : decode cX1_truth 26 = .ok (.iload_n 2, 1) := by decide +kernel
theorem dX1_truth_27 : decode cX1_truth 27 = .ok (.ifCond .lt 8, 3) := by decide +kernel
theorem dX1_truth_30 : decode cX1_truth 30 = .ok (.iload_n 2, 1) := by decide +kernel
theorem dX1_truth_31 : decode cX1_truth 31 = .ok (.iconst 2, 1) := by decide +kernel
theorem dX1_truth_32 : decode cX1_truth 32 = .ok (.if_icmp .le 5, 3) := by decide +kernel
theorem dX1_truth_35 : decode cX1_truth 35 = .ok (.iconst (-1), 1) := by decide +kernel
theorem dX1_truth_36 : decode cX1_truth 36 = .ok (.ireturn, 1) := by decide +kernel
theorem dX1_truth_37 : decode cX1_truth 37 = .ok (.aload_n 0, 1) := by decide +kernel
theorem dX1_truth_38 : decode cX1_truth 38 = .ok (.getfield 57, 3) := by decide +kernel
theorem dX1_truth_41 : decode cX1_truth 41 = .ok (.invokevirtual 451, 3) := by decide +kernel
theorem dX1_truth_44 : decode cX1_truth 44 = .ok (.iconst 0, 1) := by decide +kernel
theorem dX1_truth_45 : decode cX1_truth 45 = .ok (.istore_n 3, 1) := by decide +kernel
theorem dX1_truth_46 : decode cX1_truth 46 = .ok (.iload_n 3, 1) := by decide +kernel
theorem dX1_truth_47 : decode cX1_truth 47 = .ok (.aload_n 0, 1) := by decide +kernel
theorem dX1_truth_48 : decode cX1_truth 48 = .ok (.getfield 70, 3) := by decide +kernel
theorem dX1_truth_51 : decode cX1_truth 51 = .ok (.getfield 127, 3) := by decide +kernel
theorem dX1_truth_54 : decode cX1_truth 54 = .ok (.if_icmp .ge 72, 3) := by decide +kernel
theorem dX1_truth_57 : decode cX1_truth 57 = .ok (.iconst 0, 1) := by decide +kernel
theorem dX1_truth_58 : decode cX1_truth 58 = .ok (.istore 4, 2) := by decide +kernel
theorem dX1_truth_60 : decode cX1_truth 60 = .ok (.iload 4, 2) := by decide +kernel
theorem dX1_truth_62 : decode cX1_truth 62 = .ok (.aload_n 0, 1) := by decide +kernel
theorem dX1_truth_63 : decode cX1_truth 63 = .ok (.getfield 70, 3) := by decide +kernel
theorem dX1_truth_66 : decode cX1_truth 66 = .ok (.getfield 114, 3) := by decide +kernel
theorem dX1_truth_69 : decode cX1_truth 69 = .ok (.iload_n 3, 1) := by decide +kernel
theorem dX1_truth_70 : decode cX1_truth 70 = .ok (.aaload, 1) := by decide +kernel
theorem dX1_truth_71 : decode cX1_truth 71 = .ok (.getfield 232, 3) := by decide +kernel
theorem dX1_truth_74 : decode cX1_truth 74 = .ok (.getfield 369, 3) := by decide +kernel
theorem dX1_truth_77 : decode cX1_truth 77 = .ok (.if_icmp .ge 43, 3) := by decide +kernel
theorem dX1_truth_80 : decode cX1_truth 80 = .ok (.aload_n 0, 1) := by decide +kernel
theorem dX1_truth_81 : decode cX1_truth 81 = .ok (.aload_n 0, 1) := by decide +kernel
theorem dX1_truth_82 : decode cX1_truth 82 = .ok (.getfield 70, 3) := by decide +kernel
theorem dX1_truth_85 : decode cX1_truth 85 = .ok (.getfield 114, 3) := by decide +kernel
theorem dX1_truth_88 : decode cX1_truth 88 = .ok (.iload_n 3, 1) := by decide +kernel
theorem dX1_truth_89 : decode cX1_truth 89 = .ok (.aaload, 1) := by decide +kernel
theorem dX1_truth_90 : decode cX1_truth 90 = .ok (.iload 4, 2) := by decide +kernel
theorem dX1_truth_92 : decode cX1_truth 92 = .ok (.invokevirtual 453, 3) := by decide +kernel
theorem dX1_truth_95 : decode cX1_truth 95 = .ok (.istore 5, 2) := by decide +kernel
theorem dX1_truth_97 : decode cX1_truth 97 = .ok (.iload 5, 2) := by decide +kernel
theorem dX1_truth_99 : decode cX1_truth 99 = .ok (.ifCond .le 15, 3) := by decide +kernel
theorem dX1_truth_102 : decode cX1_truth 102 = .ok (.aload_n 0, 1) := by decide +kernel
theorem dX1_truth_103 : decode cX1_truth 103 = .ok (.getfield 57, 3) := by decide +kernel
theorem dX1_truth_106 : decode cX1_truth 106 = .ok (.iload_n 3, 1) := by decide +kernel
theorem dX1_truth_107 : decode cX1_truth 107 = .ok (.iload 4, 2) := by decide +kernel
theorem dX1_truth_109 : decode cX1_truth 109 = .ok (.iload 5, 2) := by decide +kernel
theorem dX1_truth_111 : decode cX1_truth 111 = .ok (.invokevirtual 457, 3) := by decide +kernel
theorem dX1_truth_114 : decode cX1_truth 114 = .ok (.iinc 4 1, 3) := by decide +kernel
theorem dX1_truth_117 : decode cX1_truth 117 = .ok (.goto (-57), 3) := by decide +kernel
theorem dX1_truth_120 : decode cX1_truth 120 = .ok (.iinc 3 1, 3) := by decide +kernel
theorem dX1_truth_123 : decode cX1_truth 123 = .ok (.goto (-77), 3) := by decide +kernel
theorem dX1_truth_126 : decode cX1_truth 126 = .ok (.iload_n 1, 1) := by decide +kernel
theorem dX1_truth_127 : decode cX1_truth 127 = .ok (.aload_n 0, 1) := by decide +kernel
theorem dX1_truth_128 : decode cX1_truth 128 = .ok (.getfield 57, 3) := by decide +kernel
theorem dX1_truth_131 : decode cX1_truth 131 = .ok (.getfield 460, 3) := by decide +kernel
theorem dX1_truth_134 : decode cX1_truth 134 = .ok (.if_icmp .ge 15, 3) := by decide +kernel
theorem dX1_truth_137 : decode cX1_truth 137 = .ok (.aload_n 0, 1) := by decide +kernel
theorem dX1_truth_138 : decode cX1_truth 138 = .ok (.getfield 57, 3) := by decide +kernel
theorem dX1_truth_141 : decode cX1_truth 141 = .ok (.iload_n 1, 1) := by decide +kernel
theorem dX1_truth_142 : decode cX1_truth 142 = .ok (.iload_n 2, 1) := by decide +kernel
theorem dX1_truth_143 : decode cX1_truth 143 = .ok (.invokevirtual 461, 3) := by decide +kernel
theorem dX1_truth_146 : decode cX1_truth 146 = .ok (.goto 4, 3) := by decide +kernel
theorem dX1_truth_149 : decode cX1_truth 149 = .ok (.iconst (-1), 1) := by decide +kernel
theorem dX1_truth_150 : decode cX1_truth 150 = .ok (.ireturn, 1) := by decide +kernel
def j_X1_truth_150 (y0 : Int) (M : MM) : Option (Int × MM) :=
  some (y0, M)
def j_X1_truth_126 (x0 x1 x2 : Int) (M : MM) : Option (Int × MM) :=
  (gfr 1 12 x0 M).bind fun v1 =>
  (gfi 5 3 v1 M).bind fun v2 =>
  if w32 x1 < w32 v2 then
    (gfr 1 12 x0 M).bind fun v3 =>
    ck 5 v3 M <| (f_X5_told v3 x1 x2 M).bind fun v4 =>
    j_X1_truth_150 v4 M
  else
    j_X1_truth_150 (-1) M
def j_X1_truth_120 (x0 x1 x2 x3 : Int) (M : MM) : Option ((Int × MM) ⊕ (Int × MM)) :=
  cnt (x3 + 1, M)
def j_X1_truth_114 (x0 x1 x2 x3 x4 : Int) (M : MM) : Option ((Int × MM) ⊕ ((Int × MM) ⊕ (Int × MM))) :=
  cnt (x4 + 1, M)
def b_X1_truth_60 (x0 x1 x2 x3 x4 : Int) (M : MM) : Option ((Int × MM) ⊕ ((Int × MM) ⊕ (Int × MM))) :=
  (gfr 1 0 x0 M).bind fun v1 =>
  (gfr 6 5 v1 M).bind fun v2 =>
  (lar 7 v2 x3 M).bind fun v3 =>
  (gfr 17 7 v3 M).bind fun v4 =>
  (gfi 19 2 v4 M).bind fun v5 =>
  if w32 x4 < w32 v5 then
    (gfr 1 0 x0 M).bind fun v6 =>
    (gfr 6 5 v6 M).bind fun v7 =>
    (lar 7 v7 x3 M).bind fun v8 =>
    ck 1 x0 M <| (f_X1_scoreOf x0 v8 x4 M).bind fun v9 =>
    if 0 < w32 v9 then
      (gfr 1 12 x0 M).bind fun v10 =>
      ck 5 v10 M <| (f_X5_add v10 x3 x4 v9 M).bind fun M1 =>
      j_X1_truth_114 x0 x1 x2 x3 x4 M1
    else
      j_X1_truth_114 x0 x1 x2 x3 x4 M
  else
    xit (j_X1_truth_120 x0 x1 x2 x3 M)
def l_X1_truth_60 (x0 x1 x2 x3 x4 : Int) (M : MM) : Option ((Int × MM) ⊕ (Int × MM)) := lpN (fun s : Int × MM => b_X1_truth_60 x0 x1 x2 x3 s.1 s.2) FU (x4, M)
def b_X1_truth_46 (x0 x1 x2 x3 : Int) (M : MM) : Option ((Int × MM) ⊕ (Int × MM)) :=
  (gfr 1 0 x0 M).bind fun v1 =>
  (gfi 6 6 v1 M).bind fun v2 =>
  if w32 x3 < w32 v2 then
    l_X1_truth_60 x0 x1 x2 x3 0 M
  else
    xit (j_X1_truth_126 x0 x1 x2 M)
def l_X1_truth_46 (x0 x1 x2 x3 : Int) (M : MM) : Option (Int × MM) := lpN (fun s : Int × MM => b_X1_truth_46 x0 x1 x2 s.1 s.2) FU (x3, M)
def j_X1_truth_35 (M : MM) : Option (Int × MM) :=
  some ((-1), M)
def f_X1_truth (x0 x1 x2 : Int) (M : MM) : Option (Int × MM) :=
  (gfr 1 9 x0 M).bind fun v1 =>
  (gfr 1 3 x0 M).bind fun v2 =>
  (gfi 1 5 x0 M).bind fun v3 =>
  ck 2 v1 M <| (f_X2_cut v1 v2 v3 M).bind fun M1 =>
  ck 1 x0 M1 <| (f_X1_areAsked x0 M1).bind fun v4 =>
  if w32 v4 = 0 then
    j_X1_truth_35 M1
  else
    if w32 x1 < 0 then
      j_X1_truth_35 M1
    else
      if w32 x2 < 0 then
        j_X1_truth_35 M1
      else
        if w32 2 < w32 x2 then
          j_X1_truth_35 M1
        else
          (gfr 1 12 x0 M1).bind fun v5 =>
          ck 5 v5 M1 <| (f_X5_begin v5 M1).bind fun M2 =>
          l_X1_truth_46 x0 x1 x2 0 M2
theorem s_X1_truth_150 {g : GG} {d : Nat} (hD : 5 ≤ d) {y0 : Int} {M : MM} {o : AV × MM} {P : (Int × MM) → Prop} (r0 : ∀ r : Int × MM, P r → o = ((0, r.1), r.2)) {z : Int × MM} (h : j_X1_truth_150 y0 M = some z) (hz : P z) : Sem g d YX1_truth 150 [(9, 0), (9, 0), (9, 0), (9, 0), (9, 0), (9, 0)] [(0, y0)] M o := by
  delta j_X1_truth_150 at h
  obtain rfl := r0 _ (some_P (P := fun r => P r) h hz)
  exact P_ret dX1_truth_150 rfl (Or.inl rfl)
theorem s_X1_truth_126 {g : GG} {d : Nat} (hD : 5 ≤ d) {x0 x1 x2 : Int} {M : MM} {o : AV × MM} {P : (Int × MM) → Prop} (r0 : ∀ r : Int × MM, P r → o = ((0, r.1), r.2)) {z : Int × MM} (h : j_X1_truth_126 x0 x1 x2 M = some z) (hz : P z) : Sem g d YX1_truth 126 [(1, x0), (0, x1), (0, x2), (9, 0), (9, 0), (9, 0)] [] M o := by
  delta j_X1_truth_126 at h
  refine S_iload_n (i := 1) dX1_truth_126 rfl rfl ?_
  refine S_aload_n (i := 0) dX1_truth_127 rfl rfl ?_
  refine P_gfr FLX1_57 rfl dX1_truth_128 h (fun v1 h => ?_)
  refine P_gfi FLX1_460 rfl dX1_truth_131 h (fun v2 h => ?_)
  refine P_icmp_ge (tgt := 149) dX1_truth_134 rfl h (fun h => ?_) (fun h => ?_)
  · refine S_iconst dX1_truth_149 rfl ?_
    refine S_weak (ls' := [(9, 0), (9, 0), (9, 0), (9, 0), (9, 0), (9, 0)]) ⟨Or.inl rfl, ⟨Or.inl rfl, ⟨Or.inl rfl, ⟨Or.inl rfl, ⟨Or.inl rfl, ⟨Or.inl rfl, trivial⟩⟩⟩⟩⟩⟩ ?_
    exact s_X1_truth_150 hD r0 h hz
  · refine S_aload_n (i := 0) dX1_truth_137 rfl rfl ?_
    refine P_gfr FLX1_57 rfl dX1_truth_138 h (fun v3 h => ?_)
    refine S_iload_n (i := 1) dX1_truth_141 rfl rfl ?_
    refine S_iload_n (i := 2) dX1_truth_142 rfl rfl ?_
    refine P_invVp 0 [(0, x1), (0, x2)] [] CVX5_told MLX1_461 dX1_truth_143 rfl rfl rfl rfl rfl (by omega) h (fun r h => F_X5_told (by omega) h) (fun v4 h => ?_)
    refine S_goto (tgt := 150) dX1_truth_146 rfl ?_
    refine S_weak (ls' := [(9, 0), (9, 0), (9, 0), (9, 0), (9, 0), (9, 0)]) ⟨Or.inl rfl, ⟨Or.inl rfl, ⟨Or.inl rfl, ⟨Or.inl rfl, ⟨Or.inl rfl, ⟨Or.inl rfl, trivial⟩⟩⟩⟩⟩⟩ ?_
    exact s_X1_truth_150 hD r0 h hz
theorem s_X1_truth_120 {g : GG} {d : Nat} (hD : 5 ≤ d) {x0 x1 x2 x3 : Int} {M : MM} {o : AV × MM} {P : ((Int × MM) ⊕ (Int × MM)) → Prop} (c0 : ∀ s : Int × MM, P (.inl s) → Sem g d YX1_truth 46 [(1, x0), (0, x1), (0, x2), (0, s.1), (9, 0), (9, 0)] [] s.2 o) (r0 : ∀ r : Int × MM, P (.inr r) → o = ((0, r.1), r.2)) {z : (Int × MM) ⊕ (Int × MM)} (h : j_X1_truth_120 x0 x1 x2 x3 M = some z) (hz : P z) : Sem g d YX1_truth 120 [(1, x0), (0, x1), (0, x2), (0, x3), (9, 0), (9, 0)] [] M o := by
  delta j_X1_truth_120 at h
  refine S_iinc dX1_truth_120 rfl rfl rfl ?_
  change Sem g d YX1_truth 123 [(1, x0), (0, x1), (0, x2), (0, x3 + 1), (9, 0), (9, 0)] [] M o
  refine S_goto (tgt := 46) dX1_truth_123 rfl ?_
  exact c0 (x3 + 1, M) (some_P (P := fun r => P r) h hz)
theorem s_X1_truth_114 {g : GG} {d : Nat} (hD : 5 ≤ d) {x0 x1 x2 x3 x4 : Int} {M : MM} {o : AV × MM} {P : ((Int × MM) ⊕ ((Int × MM) ⊕ (Int × MM))) → Prop} (c1 : ∀ s : Int × MM, P (.inl s) → Sem g d YX1_truth 60 [(1, x0), (0, x1), (0, x2), (0, x3), (0, s.1), (9, 0)] [] s.2 o) (c0 : ∀ s : Int × MM, P (.inr (.inl s)) → Sem g d YX1_truth 46 [(1, x0), (0, x1), (0, x2), (0, s.1), (9, 0), (9, 0)] [] s.2 o) (r0 : ∀ r : Int × MM, P (.inr (.inr r)) → o = ((0, r.1), r.2)) {z : (Int × MM) ⊕ ((Int × MM) ⊕ (Int × MM))} (h : j_X1_truth_114 x0 x1 x2 x3 x4 M = some z) (hz : P z) : Sem g d YX1_truth 114 [(1, x0), (0, x1), (0, x2), (0, x3), (0, x4), (9, 0)] [] M o := by
  delta j_X1_truth_114 at h
  refine S_iinc dX1_truth_114 rfl rfl rfl ?_
  change Sem g d YX1_truth 117 [(1, x0), (0, x1), (0, x2), (0, x3), (0, x4 + 1), (9, 0)] [] M o
  refine S_goto (tgt := 60) dX1_truth_117 rfl ?_
  exact c1 (x4 + 1, M) (some_P (P := fun r => P r) h hz)
theorem s_X1_truth_60 {g : GG} {d : Nat} (hD : 5 ≤ d) {x0 x1 x2 x3 x4 : Int} {M : MM} {o : AV × MM} {P : ((Int × MM) ⊕ ((Int × MM) ⊕ (Int × MM))) → Prop} (c1 : ∀ s : Int × MM, P (.inl s) → Sem g d YX1_truth 60 [(1, x0), (0, x1), (0, x2), (0, x3), (0, s.1), (9, 0)] [] s.2 o) (c0 : ∀ s : Int × MM, P (.inr (.inl s)) → Sem g d YX1_truth 46 [(1, x0), (0, x1), (0, x2), (0, s.1), (9, 0), (9, 0)] [] s.2 o) (r0 : ∀ r : Int × MM, P (.inr (.inr r)) → o = ((0, r.1), r.2)) {z : (Int × MM) ⊕ ((Int × MM) ⊕ (Int × MM))} (h : b_X1_truth_60 x0 x1 x2 x3 x4 M = some z) (hz : P z) : Sem g d YX1_truth 60 [(1, x0), (0, x1), (0, x2), (0, x3), (0, x4), (9, 0)] [] M o := by
  delta b_X1_truth_60 at h
  refine S_iload dX1_truth_60 rfl ?_
  refine S_aload_n (i := 0) dX1_truth_62 rfl rfl ?_
  refine P_gfr FLX1_70 rfl dX1_truth_63 h (fun v1 h => ?_)
  refine P_gfr FLX1_114 rfl dX1_truth_66 h (fun v2 h => ?_)
  refine S_iload_n (i := 3) dX1_truth_69 rfl rfl ?_
  refine P_lar (t := 7) ⟨by decide, by decide⟩ dX1_truth_70 h (fun v3 h => ?_)
  refine P_gfr FLX1_232 rfl dX1_truth_71 h (fun v4 h => ?_)
  refine P_gfi FLX1_369 rfl dX1_truth_74 h (fun v5 h => ?_)
  refine P_icmp_ge (tgt := 120) dX1_truth_77 rfl h (fun h => ?_) (fun h => ?_)
  · refine S_weak (ls' := [(1, x0), (0, x1), (0, x2), (0, x3), (9, 0), (9, 0)]) ⟨Or.inr rfl, ⟨Or.inr rfl, ⟨Or.inr rfl, ⟨Or.inr rfl, ⟨Or.inl rfl, ⟨Or.inl rfl, trivial⟩⟩⟩⟩⟩⟩ ?_
    obtain ⟨z0, h, hz⟩ := xit_some' (P := fun r => P r) h hz
    exact s_X1_truth_120 hD (P := fun r => P (.inr r)) c0 r0 h hz
  · refine S_aload_n (i := 0) dX1_truth_80 rfl rfl ?_
    refine S_aload_n (i := 0) dX1_truth_81 rfl rfl ?_
    refine P_gfr FLX1_70 rfl dX1_truth_82 h (fun v6 h => ?_)
    refine P_gfr FLX1_114 rfl dX1_truth_85 h (fun v7 h => ?_)
    refine S_iload_n (i := 3) dX1_truth_88 rfl rfl ?_
    refine P_lar (t := 7) ⟨by decide, by decide⟩ dX1_truth_89 h (fun v8 h => ?_)
    refine S_iload dX1_truth_90 rfl ?_
    refine P_invVp 0 [(1, v8), (0, x4)] [] CVX1_scoreOf MLX1_453 dX1_truth_92 rfl rfl rfl rfl rfl (by omega) h (fun r h => F_X1_scoreOf (by omega) h) (fun v9 h => ?_)
    refine S_istore dX1_truth_95 (Nat.le_of_ble_eq_true rfl) rfl rfl ?_
    change Sem g d YX1_truth 97 [(1, x0), (0, x1), (0, x2), (0, x3), (0, x4), (0, v9)] [] M o
    refine S_iload dX1_truth_97 rfl ?_
    refine P_if_le (tgt := 114) dX1_truth_99 rfl h (fun h => ?_) (fun h => ?_)
    · refine S_weak (ls' := [(1, x0), (0, x1), (0, x2), (0, x3), (0, x4), (9, 0)]) ⟨Or.inr rfl, ⟨Or.inr rfl, ⟨Or.inr rfl, ⟨Or.inr rfl, ⟨Or.inr rfl, ⟨Or.inl rfl, trivial⟩⟩⟩⟩⟩⟩ ?_
      exact s_X1_truth_114 hD c1 c0 r0 h hz
    · refine S_aload_n (i := 0) dX1_truth_102 rfl rfl ?_
      refine P_gfr FLX1_57 rfl dX1_truth_103 h (fun v10 h => ?_)
      refine S_iload_n (i := 3) dX1_truth_106 rfl rfl ?_
      refine S_iload dX1_truth_107 rfl ?_
      refine S_iload dX1_truth_109 rfl ?_
      refine P_invVm' [(0, x3), (0, x4), (0, v9)] [] CVX5_add MLX1_457 dX1_truth_111 rfl rfl rfl rfl (by omega) h (fun r h => F_X5_add (by omega) h) (fun M1 h => ?_)
      refine S_weak (ls' := [(1, x0), (0, x1), (0, x2), (0, x3), (0, x4), (9, 0)]) ⟨Or.inr rfl, ⟨Or.inr rfl, ⟨Or.inr rfl, ⟨Or.inr rfl, ⟨Or.inr rfl, ⟨Or.inl rfl, trivial⟩⟩⟩⟩⟩⟩ ?_
      exact s_X1_truth_114 hD c1 c0 r0 h hz
theorem sl_X1_truth_60 {g : GG} {d : Nat} (hD : 5 ≤ d) {x0 x1 x2 x3 x4 : Int} {M : MM} {o : AV × MM} {P : ((Int × MM) ⊕ (Int × MM)) → Prop} (c0 : ∀ s : Int × MM, P (.inl s) → Sem g d YX1_truth 46 [(1, x0), (0, x1), (0, x2), (0, s.1), (9, 0), (9, 0)] [] s.2 o) (r0 : ∀ r : Int × MM, P (.inr r) → o = ((0, r.1), r.2)) {z : (Int × MM) ⊕ (Int × MM)} (h : l_X1_truth_60 x0 x1 x2 x3 x4 M = some z) (hz : P z) : Sem g d YX1_truth 60 [(1, x0), (0, x1), (0, x2), (0, x3), (0, x4), (9, 0)] [] M o := by
  refine lp_sound (S := fun s : Int × MM => Sem g d YX1_truth 60 [(1, x0), (0, x1), (0, x2), (0, x3), (0, s.1), (9, 0)] [] s.2 o) (P := P) ?_ FU (x4, M) z h hz
  intro s x hx hP
  exact s_X1_truth_60 hD (P := Sum.elim (fun s : Int × MM => Sem g d YX1_truth 60 [(1, x0), (0, x1), (0, x2), (0, x3), (0, s.1), (9, 0)] [] s.2 o) P) (fun s h => h) (fun s h => c0 s h) (fun s h => r0 s h) hx hP
theorem s_X1_truth_46 {g : GG} {d : Nat} (hD : 5 ≤ d) {x0 x1 x2 x3 : Int} {M : MM} {o : AV × MM} {P : ((Int × MM) ⊕ (Int × MM)) → Prop} (c0 : ∀ s : Int × MM, P (.inl s) → Sem g d YX1_truth 46 [(1, x0), (0, x1), (0, x2), (0, s.1), (9, 0), (9, 0)] [] s.2 o) (r0 : ∀ r : Int × MM, P (.inr r) → o = ((0, r.1), r.2)) {z : (Int × MM) ⊕ (Int × MM)} (h : b_X1_truth_46 x0 x1 x2 x3 M = some z) (hz : P z) : Sem g d YX1_truth 46 [(1, x0), (0, x1), (0, x2), (0, x3), (9, 0), (9, 0)] [] M o := by
  delta b_X1_truth_46 at h
  refine S_iload_n (i := 3) dX1_truth_46 rfl rfl ?_
  refine S_aload_n (i := 0) dX1_truth_47 rfl rfl ?_
  refine P_gfr FLX1_70 rfl dX1_truth_48 h (fun v1 h => ?_)
  refine P_gfi FLX1_127 rfl dX1_truth_51 h (fun v2 h => ?_)
  refine P_icmp_ge (tgt := 126) dX1_truth_54 rfl h (fun h => ?_) (fun h => ?_)
  · refine S_weak (ls' := [(1, x0), (0, x1), (0, x2), (9, 0), (9, 0), (9, 0)]) ⟨Or.inr rfl, ⟨Or.inr rfl, ⟨Or.inr rfl, ⟨Or.inl rfl, ⟨Or.inl rfl, ⟨Or.inl rfl, trivial⟩⟩⟩⟩⟩⟩ ?_
    obtain ⟨z0, h, hz⟩ := xit_some' (P := fun r => P r) h hz
    exact s_X1_truth_126 hD (P := fun r => P (.inr r)) r0 h hz
  · refine S_iconst dX1_truth_57 rfl ?_
    refine S_istore dX1_truth_58 (Nat.le_of_ble_eq_true rfl) rfl rfl ?_
    change Sem g d YX1_truth 60 [(1, x0), (0, x1), (0, x2), (0, x3), (0, 0), (9, 0)] [] M o
    exact sl_X1_truth_60 hD c0 r0 h hz
theorem sl_X1_truth_46 {g : GG} {d : Nat} (hD : 5 ≤ d) {x0 x1 x2 x3 : Int} {M : MM} {o : AV × MM} {P : (Int × MM) → Prop} (r0 : ∀ r : Int × MM, P r → o = ((0, r.1), r.2)) {z : Int × MM} (h : l_X1_truth_46 x0 x1 x2 x3 M = some z) (hz : P z) : Sem g d YX1_truth 46 [(1, x0), (0, x1), (0, x2), (0, x3), (9, 0), (9, 0)] [] M o := by
  refine lp_sound (S := fun s : Int × MM => Sem g d YX1_truth 46 [(1, x0), (0, x1), (0, x2), (0, s.1), (9, 0), (9, 0)] [] s.2 o) (P := P) ?_ FU (x3, M) z h hz
  intro s x hx hP
  exact s_X1_truth_46 hD (P := Sum.elim (fun s : Int × MM => Sem g d YX1_truth 46 [(1, x0), (0, x1), (0, x2), (0, s.1), (9, 0), (9, 0)] [] s.2 o) P) (fun s h => h) (fun s h => r0 s h) hx hP
theorem s_X1_truth_35 {g : GG} {d : Nat} (hD : 5 ≤ d) {M : MM} {o : AV × MM} {P : (Int × MM) → Prop} (r0 : ∀ r : Int × MM, P r → o = ((0, r.1), r.2)) {z : Int × MM} (h : j_X1_truth_35 M = some z) (hz : P z) : Sem g d YX1_truth 35 [(9, 0), (9, 0), (9, 0), (9, 0), (9, 0), (9, 0)] [] M o := by
  delta j_X1_truth_35 at h
  refine S_iconst dX1_truth_35 rfl ?_
  obtain rfl := r0 _ (some_P (P := fun r => P r) h hz)
  exact P_ret dX1_truth_36 rfl (Or.inl rfl)
theorem s_X1_truth_0 {g : GG} {d : Nat} (hD : 5 ≤ d) {x0 x1 x2 : Int} {M : MM} {o : AV × MM} {P : (Int × MM) → Prop} (r0 : ∀ r : Int × MM, P r → o = ((0, r.1), r.2)) {z : Int × MM} (h : f_X1_truth x0 x1 x2 M = some z) (hz : P z) : Sem g d YX1_truth 0 [(1, x0), (0, x1), (0, x2), (9, 0), (9, 0), (9, 0)] [] M o := by
  delta f_X1_truth at h
  refine S_aload_n (i := 0) dX1_truth_0 rfl rfl ?_
  refine P_gfr FLX1_34 rfl dX1_truth_1 h (fun v1 h => ?_)
  refine S_aload_n (i := 0) dX1_truth_4 rfl rfl ?_
  refine P_gfr FLX1_13 rfl dX1_truth_5 h (fun v2 h => ?_)
  refine S_aload_n (i := 0) dX1_truth_8 rfl rfl ?_
  refine P_gfi FLX1_91 rfl dX1_truth_9 h (fun v3 h => ?_)
  refine P_invVm' [(1, v2), (0, v3)] [] CVX2_cut MLX1_228 dX1_truth_12 rfl rfl rfl rfl (by omega) h (fun r h => F_X2_cut (by omega) h) (fun M1 h => ?_)
  refine S_aload_n (i := 0) dX1_truth_15 rfl rfl ?_
  refine P_invVp 0 [] [] CVX1_areAsked MLX1_256 dX1_truth_16 rfl rfl rfl rfl rfl (by omega) h (fun r h => F_X1_areAsked (by omega) h) (fun v4 h => ?_)
  refine P_if_eq (tgt := 35) dX1_truth_19 rfl h (fun h => ?_) (fun h => ?_)
  · refine S_weak (ls' := [(9, 0), (9, 0), (9, 0), (9, 0), (9, 0), (9, 0)]) ⟨Or.inl rfl, ⟨Or.inl rfl, ⟨Or.inl rfl, ⟨Or.inl rfl, ⟨Or.inl rfl, ⟨Or.inl rfl, trivial⟩⟩⟩⟩⟩⟩ ?_
    exact s_X1_truth_35 hD r0 h hz
  · refine S_iload_n (i := 1) dX1_truth_22 rfl rfl ?_
    refine P_if_lt (tgt := 35) dX1_truth_23 rfl h (fun h => ?_) (fun h => ?_)
    · refine S_weak (ls' := [(9, 0), (9, 0), (9, 0), (9, 0), (9, 0), (9, 0)]) ⟨Or.inl rfl, ⟨Or.inl rfl, ⟨Or.inl rfl, ⟨Or.inl rfl, ⟨Or.inl rfl, ⟨Or.inl rfl, trivial⟩⟩⟩⟩⟩⟩ ?_
      exact s_X1_truth_35 hD r0 h hz
    · refine S_iload_n (i := 2) dX1_truth_26 rfl rfl ?_
      refine P_if_lt (tgt := 35) dX1_truth_27 rfl h (fun h => ?_) (fun h => ?_)
      · refine S_weak (ls' := [(9, 0), (9, 0), (9, 0), (9, 0), (9, 0), (9, 0)]) ⟨Or.inl rfl, ⟨Or.inl rfl, ⟨Or.inl rfl, ⟨Or.inl rfl, ⟨Or.inl rfl, ⟨Or.inl rfl, trivial⟩⟩⟩⟩⟩⟩ ?_
        exact s_X1_truth_35 hD r0 h hz
      · refine S_iload_n (i := 2) dX1_truth_30 rfl rfl ?_
        refine S_iconst dX1_truth_31 rfl ?_
        refine P_icmp_le (tgt := 37) dX1_truth_32 rfl h (fun h => ?_) (fun h => ?_)
        · refine S_aload_n (i := 0) dX1_truth_37 rfl rfl ?_
          refine P_gfr FLX1_57 rfl dX1_truth_38 h (fun v5 h => ?_)
          refine P_invVm' [] [] CVX5_begin MLX1_451 dX1_truth_41 rfl rfl rfl rfl (by omega) h (fun r h => F_X5_begin (by omega) h) (fun M2 h => ?_)
          refine S_iconst dX1_truth_44 rfl ?_
          refine S_istore_n (i := 3) dX1_truth_45 rfl (Nat.le_of_ble_eq_true rfl) rfl rfl ?_
          change Sem g d YX1_truth 46 [(1, x0), (0, x1), (0, x2), (0, 0), (9, 0), (9, 0)] [] M2 o
          exact sl_X1_truth_46 hD r0 h hz
        · refine S_weak (ls' := [(9, 0), (9, 0), (9, 0), (9, 0), (9, 0), (9, 0)]) ⟨Or.inl rfl, ⟨Or.inl rfl, ⟨Or.inl rfl, ⟨Or.inl rfl, ⟨Or.inl rfl, ⟨Or.inl rfl, trivial⟩⟩⟩⟩⟩⟩ ?_
          exact s_X1_truth_35 hD r0 h hz
theorem F_X1_truth {g : GG} {d : Nat} (hD : 5 ≤ d) {x0 x1 x2 : Int} {M : MM} {r : Int × MM} (h : f_X1_truth x0 x1 x2 M = some r) : Sem g d YX1_truth 0 (ini YX1_truth [(1, x0), (0, x1), (0, x2)]) [] M ((0, r.1), r.2) := by
  change Sem g d YX1_truth 0 [(1, x0), (0, x1), (0, x2), (9, 0), (9, 0), (9, 0)] [] M ((0, r.1), r.2)
  exact s_X1_truth_0 hD (P := fun x => x = r) (fun q e => by rw [e]) h rfl
/-! PeerSearchLaw.cell([II)I -/
theorem dX0_cell_0 : decode cX0_cell 0 = .ok (.iload_n 1, 1) := by decide +kernel
theorem dX0_cell_1 : decode cX0_cell 1 = .ok (.aload_n 0, 1) := by decide +kernel
theorem dX0_cell_2 : decode cX0_cell 2 = .ok (.arraylength, 1) := by decide +kernel
theorem dX0_cell_3 : decode cX0_cell 3 = .ok (.if_icmp .ge 9, 3) := by decide +kernel
theorem dX0_cell_6 : decode cX0_cell 6 = .ok (.aload_n 0, 1) := by decide +kernel
theorem dX0_cell_7 : decode cX0_cell 7 = .ok (.iload_n 1, 1) := by decide +kernel
theorem dX0_cell_8 : decode cX0_cell 8 = .ok (.iaload, 1) := by decide +kernel
theorem dX0_cell_9 : decode cX0_cell 9 = .ok (.goto 4, 3) := by decide +kernel
theorem dX0_cell_12 : decode cX0_cell 12 = .ok (.iconst 0, 1) := by decide +kernel
theorem dX0_cell_13 : decode cX0_cell 13 = .ok (.ireturn, 1) := by decide +kernel
def j_X0_cell_13 (g : GG) (y0 : Int) (M : MM) : Option (Int) :=
  some y0
def f_X0_cell (g : GG) (x1 : Int) (M : MM) : Option (Int) :=
  if w32 x1 < w32 (gL g : Int) then
    (sld g x1).bind fun v1 =>
    j_X0_cell_13 g v1 M
  else
    j_X0_cell_13 g 0 M
theorem s_X0_cell_13 {g : GG} {d : Nat} (hD : 0 ≤ d) {y0 : Int} {M : MM} {o : AV × MM} {P : (Int) → Prop} (r0 : ∀ r : Int, P r → o = ((0, r), M)) {z : Int} (h : j_X0_cell_13 g y0 M = some z) (hz : P z) : Sem g d YX0_cell 13 [(9, 0), (9, 0)] [(0, y0)] M o := by
  delta j_X0_cell_13 at h
  obtain rfl := r0 _ (some_P (P := fun r => P r) h hz)
  exact P_ret dX0_cell_13 rfl (Or.inl rfl)
theorem s_X0_cell_0 {g : GG} {d : Nat} (hD : 0 ≤ d) {x1 : Int} {M : MM} {o : AV × MM} {P : (Int) → Prop} (r0 : ∀ r : Int, P r → o = ((0, r), M)) {z : Int} (h : f_X0_cell g x1 M = some z) (hz : P z) : Sem g d YX0_cell 0 [(1, (-2)), (0, x1)] [] M o := by
  delta f_X0_cell at h
  refine S_iload_n (i := 1) dX0_cell_0 rfl rfl ?_
  refine S_aload_n (i := 0) dX0_cell_1 rfl rfl ?_
  refine S_salen dX0_cell_2 ?_
  refine P_icmp_ge (tgt := 12) dX0_cell_3 rfl h (fun h => ?_) (fun h => ?_)
  · refine S_iconst dX0_cell_12 rfl ?_
    refine S_weak (ls' := [(9, 0), (9, 0)]) ⟨Or.inl rfl, ⟨Or.inl rfl, trivial⟩⟩ ?_
    exact s_X0_cell_13 hD r0 h hz
  · refine S_aload_n (i := 0) dX0_cell_6 rfl rfl ?_
    refine S_iload_n (i := 1) dX0_cell_7 rfl rfl ?_
    refine P_sld dX0_cell_8 h (fun v1 h => ?_)
    refine S_goto (tgt := 13) dX0_cell_9 rfl ?_
    refine S_weak (ls' := [(9, 0), (9, 0)]) ⟨Or.inl rfl, ⟨Or.inl rfl, trivial⟩⟩ ?_
    exact s_X0_cell_13 hD r0 h hz
theorem F_X0_cell {g : GG} {d : Nat} (hD : 0 ≤ d) {x1 : Int} {M : MM} {r : Int} (h : f_X0_cell g x1 M = some r) : Sem g d YX0_cell 0 (ini YX0_cell [(1, (-2)), (0, x1)]) [] M ((0, r), M) := by
  change Sem g d YX0_cell 0 [(1, (-2)), (0, x1)] [] M ((0, r), M)
  exact s_X0_cell_0 hD (P := fun x => x = r) (fun q e => by rw [e]) h rfl
/-! PeerSearchModel.<init>(II)V -/
theorem dX16_init_0 : decode cX16_init 0 = .ok (.aload_n 0, 1) := by decide +kernel
theorem dX16_init_1 : decode cX16_init 1 = .ok (.invokespecial 1, 3) := by decide +kernel
theorem dX16_init_4 : decode cX16_init 4 = .ok (.aload_n 0, 1) := by decide +kernel
theorem dX16_init_5 : decode cX16_init 5 = .ok (.bipush 20, 2) := by decide +kernel
theorem dX16_init_7 : decode cX16_init 7 = .ok (.newarray .int, 2) := by decide +kernel
theorem dX16_init_9 : decode cX16_init 9 = .ok (.putfield 7, 3) := by decide +kernel
theorem dX16_init_12 : decode cX16_init 12 = .ok (.aload_n 0, 1) := by decide +kernel
theorem dX16_init_13 : decode cX16_init 13 = .ok (.sipush 500, 3) := by decide +kernel
theorem dX16_init_16 : decode cX16_init 16 = .ok (.newarray .int, 2) := by decide +kernel
theorem dX16_init_18 : decode cX16_init 18 = .ok (.putfield 13, 3) := by decide +kernel
theorem dX16_init_21 : decode cX16_init 21 = .ok (.aload_n 0, 1) := by decide +kernel
theorem dX16_init_22 : decode cX16_init 22 = .ok (.sipush 576, 3) := by decide +kernel
theorem dX16_init_25 : decode cX16_init 25 = .ok (.newarray .int, 2) := by decide +kernel
theorem dX16_init_27 : decode cX16_init 27 = .ok (.putfield 16, 3) := by decide +kernel
theorem dX16_init_30 : decode cX16_init 30 = .ok (.aload_n 0, 1) := by decide +kernel
theorem dX16_init_31 : decode cX16_init 31 = .ok (.bipush 80, 2) := by decide +kernel
theorem dX16_init_33 : decode cX16_init 33 = .ok (.newarray .int, 2) := by decide +kernel
theorem dX16_init_35 : decode cX16_init 35 = .ok (.putfield 19, 3) := by decide +kernel
theorem dX16_init_38 : decode cX16_init 38 = .ok (.aload_n 0, 1) := by decide +kernel
theorem dX16_init_39 : decode cX16_init 39 = .ok (.iconst 5, 1) := by decide +kernel
theorem dX16_init_40 : decode cX16_init 40 = .ok (.newarray .int, 2) := by decide +kernel
theorem dX16_init_42 : decode cX16_init 42 = .ok (.putfield 22, 3) := by decide +kernel
theorem dX16_init_45 : decode cX16_init 45 = .ok (.aload_n 0, 1) := by decide +kernel
theorem dX16_init_46 : decode cX16_init 46 = .ok (.bipush 11, 2) := by decide +kernel
theorem dX16_init_48 : decode cX16_init 48 = .ok (.newarray .int, 2) := by decide +kernel
theorem dX16_init_50 : decode cX16_init 50 = .ok (.dup, 1) := by decide +kernel
theorem dX16_init_51 : decode cX16_init 51 = .ok (.iconst 0, 1) := by decide +kernel
theorem dX16_init_52 : decode cX16_init 52 = .ok (.iconst 0, 1) := by decide +kernel
theorem dX16_init_53 : decode cX16_init 53 = .ok (.iastore, 1) := by decide +kernel
theorem dX16_init_54 : decode cX16_init 54 = .ok (.dup, 1) := by decide +kernel
theorem dX16_init_55 : decode cX16_init 55 = .ok (.iconst 1, 1) := by decide +kernel
theorem dX16_init_56 : decode cX16_init 56 = .ok (.iconst 1, 1) := by decide +kernel
theorem dX16_init_57 : decode cX16_init 57 = .ok (.iastore, 1) := by decide +kernel
theorem dX16_init_58 : decode cX16_init 58 = .ok (.dup, 1) := by decide +kernel
theorem dX16_init_59 : decode cX16_init 59 = .ok (.iconst 2, 1) := by decide +kernel
theorem dX16_init_60 : decode cX16_init 60 = .ok (.iconst 0, 1) := by decide +kernel
theorem dX16_init_61 : decode cX16_init 61 = .ok (.iastore, 1) := by decide +kernel
theorem dX16_init_62 : decode cX16_init 62 = .ok (.dup, 1) := by decide +kernel
theorem dX16_init_63 : decode cX16_init 63 = .ok (.iconst 3, 1) := by decide +kernel
theorem dX16_init_64 : decode cX16_init 64 = .ok (.iconst 0, 1) := by decide +kernel
theorem dX16_init_65 : decode cX16_init 65 = .ok (.iastore, 1) := by decide +kernel
theorem dX16_init_66 : decode cX16_init 66 = .ok (.dup, 1) := by decide +kernel
theorem dX16_init_67 : decode cX16_init 67 = .ok (.iconst 4, 1) := by decide +kernel
theorem dX16_init_68 : decode cX16_init 68 = .ok (.bipush 20, 2) := by decide +kernel
theorem dX16_init_70 : decode cX16_init 70 = .ok (.iastore, 1) := by decide +kernel
theorem dX16_init_71 : decode cX16_init 71 = .ok (.dup, 1) := by decide +kernel
theorem dX16_init_72 : decode cX16_init 72 = .ok (.iconst 5, 1) := by decide +kernel
theorem dX16_init_73 : decode cX16_init 73 = .ok (.iconst 1, 1) := by decide +kernel
theorem dX16_init_74 : decode cX16_init 74 = .ok (.iastore, 1) := by decide +kernel
theorem dX16_init_75 : decode cX16_init 75 = .ok (.dup, 1) := by decide +kernel
theorem dX16_init_76 : decode cX16_init 76 = .ok (.bipush 6, 2) := by decide +kernel
theorem dX16_init_78 : decode cX16_init 78 = .ok (.iconst 0, 1) := by decide +kernel
theorem dX16_init_79 : decode cX16_init 79 = .ok (.iastore, 1) := by decide +kernel
theorem dX16_init_80 : decode cX16_init 80 = .ok (.dup, 1) := by decide +kernel
theorem dX16_init_81 : decode cX16_init 81 = .ok (.bipush 7, 2) := by decide +kernel
theorem dX16_init_83 : decode cX16_init 83 = .ok (.sipush 10000, 3) := by decide +kernel
theorem dX16_init_86 : decode cX16_init 86 = .ok (.iastore, 1) := by decide +kernel
theorem dX16_init_87 : decode cX16_init 87 = .ok (.dup, 1) := by decide +kernel
theorem dX16_init_88 : decode cX16_init 88 = .ok (.bipush 8, 2) := by decide +kernel
theorem dX16_init_90 : decode cX16_init 90 = .ok (.iconst 0, 1) := by decide +kernel
theorem dX16_init_91 : decode cX16_init 91 = .ok (.iastore, 1) := by decide +kernel
theorem dX16_init_92 : decode cX16_init 92 = .ok (.dup, 1) := by decide +kernel
theorem dX16_init_93 : decode cX16_init 93 = .ok (.bipush 9, 2) := by decide +kernel
theorem dX16_init_95 : decode cX16_init 95 = .ok (.iconst 4, 1) := by decide +kernel
theorem dX16_init_96 : decode cX16_init 96 = .ok (.iastore, 1) := by decide +kernel
theorem dX16_init_97 : decode cX16_init 97 = .ok (.dup, 1) := by decide +kernel
theorem dX16_init_98 : decode cX16_init 98 = .ok (.bipush 10, 2) := by decide +kernel
theorem dX16_init_100 : decode cX16_init 100 = .ok (.iconst 1, 1) := by decide +kernel
theorem dX16_init_101 : decode cX16_init 101 = .ok (.iastore, 1) := by decide +kernel
theorem dX16_init_102 : decode cX16_init 102 = .ok (.putfield 25, 3) := by decide +kernel
theorem dX16_init_105 : decode cX16_init 105 = .ok (.aload_n 0, 1) := by decide +kernel
theorem dX16_init_106 : decode cX16_init 106 = .ok (.bipush 11, 2) := by decide +kernel
theorem dX16_init_108 : decode cX16_init 108 = .ok (.newarray .int, 2) := by decide +kernel
theorem dX16_init_110 : decode cX16_init 110 = .ok (.dup, 1) := by decide +kernel
theorem dX16_init_111 : decode cX16_init 111 = .ok (.iconst 0, 1) := by decide +kernel
theorem dX16_init_112 : decode cX16_init 112 = .ok (.iconst 0, 1) := by decide +kernel
theorem dX16_init_113 : decode cX16_init 113 = .ok (.iastore, 1) := by decide +kernel
theorem dX16_init_114 : decode cX16_init 114 = .ok (.dup, 1) := by decide +kernel
theorem dX16_init_115 : decode cX16_init 115 = .ok (.iconst 1, 1) := by decide +kernel
theorem dX16_init_116 : decode cX16_init 116 = .ok (.iconst 1, 1) := by decide +kernel
theorem dX16_init_117 : decode cX16_init 117 = .ok (.iastore, 1) := by decide +kernel
theorem dX16_init_118 : decode cX16_init 118 = .ok (.dup, 1) := by decide +kernel
theorem dX16_init_119 : decode cX16_init 119 = .ok (.iconst 2, 1) := by decide +kernel
theorem dX16_init_120 : decode cX16_init 120 = .ok (.iconst 0, 1) := by decide +kernel
theorem dX16_init_121 : decode cX16_init 121 = .ok (.iastore, 1) := by decide +kernel
theorem dX16_init_122 : decode cX16_init 122 = .ok (.dup, 1) := by decide +kernel
theorem dX16_init_123 : decode cX16_init 123 = .ok (.iconst 3, 1) := by decide +kernel
theorem dX16_init_124 : decode cX16_init 124 = .ok (.iconst 0, 1) := by decide +kernel
theorem dX16_init_125 : decode cX16_init 125 = .ok (.iastore, 1) := by decide +kernel
theorem dX16_init_126 : decode cX16_init 126 = .ok (.dup, 1) := by decide +kernel
theorem dX16_init_127 : decode cX16_init 127 = .ok (.iconst 4, 1) := by decide +kernel
theorem dX16_init_128 : decode cX16_init 128 = .ok (.iconst 1, 1) := by decide +kernel
theorem dX16_init_129 : decode cX16_init 129 = .ok (.iastore, 1) := by decide +kernel
theorem dX16_init_130 : decode cX16_init 130 = .ok (.dup, 1) := by decide +kernel
theorem dX16_init_131 : decode cX16_init 131 = .ok (.iconst 5, 1) := by decide +kernel
theorem dX16_init_132 : decode cX16_init 132 = .ok (.iconst 0, 1) := by decide +kernel
theorem dX16_init_133 : decode cX16_init 133 = .ok (.iastore, 1) := by decide +kernel
theorem dX16_init_134 : decode cX16_init 134 = .ok (.dup, 1) := by decide +kernel
theorem dX16_init_135 : decode cX16_init 135 = .ok (.bipush 6, 2) := by decide +kernel
theorem dX16_init_137 : decode cX16_init 137 = .ok (.iconst 0, 1) := by decide +kernel
theorem dX16_init_138 : decode cX16_init 138 = .ok (.iastore, 1) := by decide +kernel
theorem dX16_init_139 : decode cX16_init 139 = .ok (.dup, 1) := by decide +kernel
theorem dX16_init_140 : decode cX16_init 140 = .ok (.bipush 7, 2) := by decide +kernel
theorem dX16_init_142 : decode cX16_init 142 = .ok (.iconst 1, 1) := by decide +kernel
theorem dX16_init_143 : decode cX16_init 143 = .ok (.iastore, 1) := by decide +kernel
theorem dX16_init_144 : decode cX16_init 144 = .ok (.dup, 1) := by decide +kernel
theorem dX16_init_145 : decode cX16_init 145 = .ok (.bipush 8, 2) := by decide +kernel
theorem dX16_init_147 : decode cX16_init 147 = .ok (.iconst 0, 1) := by decide +kernel
theorem dX16_init_148 : decode cX16_init 148 = .ok (.iastore, 1) := by decide +kernel
theorem dX16_init_149 : decode cX16_init 149 = .ok (.dup, 1) := by decide +kernel
theorem dX16_init_150 : decode cX16_init 150 = .ok (.bipush 9, 2) := by decide +kernel
theorem dX16_init_152 : decode cX16_init 152 = .ok (.iconst 1, 1) := by decide +kernel
theorem dX16_init_153 : decode cX16_init 153 = .ok (.iastore, 1) := by decide +kernel
theorem dX16_init_154 : decode cX16_init 154 = .ok (.dup, 1) := by decide +kernel
theorem dX16_init_155 : decode cX16_init 155 = .ok (.bipush 10, 2) := by decide +kernel
theorem dX16_init_157 : decode cX16_init 157 = .ok (.iconst 0, 1) := by decide +kernel
theorem dX16_init_158 : decode cX16_init 158 = .ok (.iastore, 1) := by decide +kernel
theorem dX16_init_159 : decode cX16_init 159 = .ok (.putfield 28, 3) := by decide +kernel
theorem dX16_init_162 : decode cX16_init 162 = .ok (.aload_n 0, 1) := by decide +kernel
theorem dX16_init_163 : decode cX16_init 163 = .ok (.bipush 11, 2) := by decide +kernel
theorem dX16_init_165 : decode cX16_init 165 = .ok (.newarray .int, 2) := by decide +kernel
theorem dX16_init_167 : decode cX16_init 167 = .ok (.dup, 1) := by decide +kernel
theorem dX16_init_168 : decode cX16_init 168 = .ok (.iconst 0, 1) := by decide +kernel
theorem dX16_init_169 : decode cX16_init 169 = .ok (.sipush 1000, 3) := by decide +kernel
theorem dX16_init_172 : decode cX16_init 172 = .ok (.iastore, 1) := by decide +kernel
theorem dX16_init_173 : decode cX16_init 173 = .ok (.dup, 1) := by decide +kernel
theorem dX16_init_174 : decode cX16_init 174 = .ok (.iconst 1, 1) := by decide +kernel
theorem dX16_init_175 : decode cX16_init 175 = .ok (.bipush 50, 2) := by decide +kernel
theorem dX16_init_177 : decode cX16_init 177 = .ok (.iastore, 1) := by decide +kernel
theorem dX16_init_178 : decode cX16_init 178 = .ok (.dup, 1) := by decide +kernel
theorem dX16_init_179 : decode cX16_init 179 = .ok (.iconst 2, 1) := by decide +kernel
theorem dX16_init_180 : decode cX16_init 180 = .ok (.bipush 50, 2) := by decide +kernel
theorem dX16_init_182 : decode cX16_init 182 = .ok (.iastore, 1) := by decide +kernel
theorem dX16_init_183 : decode cX16_init 183 = .ok (.dup, 1) := by decide +kernel
theorem dX16_init_184 : decode cX16_init 184 = .ok (.iconst 3, 1) := by decide +kernel
theorem dX16_init_185 : decode cX16_init 185 = .ok (.sipush 1000, 3) := by decide +kernel
theorem dX16_init_188 : decode cX16_init 188 = .ok (.iastore, 1) := by decide +kernel
theorem dX16_init_189 : decode cX16_init 189 = .ok (.dup, 1) := by decide +kernel
theorem dX16_init_190 : decode cX16_init 190 = .ok (.iconst 4, 1) := by decide +kernel
theorem dX16_init_191 : decode cX16_init 191 = .ok (.sipush 500, 3) := by decide +kernel
theorem dX16_init_194 : decode cX16_init 194 = .ok (.iastore, 1) := by decide +kernel
theorem dX16_init_195 : decode cX16_init 195 = .ok (.dup, 1) := by decide +kernel
theorem dX16_init_196 : decode cX16_init 196 = .ok (.iconst 5, 1) := by decide +kernel
theorem dX16_init_197 : decode cX16_init 197 = .ok (.iconst 3, 1) := by decide +kernel
theorem dX16_init_198 : decode cX16_init 198 = .ok (.iastore, 1) := by decide +kernel
theorem dX16_init_199 : decode cX16_init 199 = .ok (.dup, 1) := by decide +kernel
theorem dX16_init_200 : decode cX16_init 200 = .ok (.bipush 6, 2) := by decide +kernel
theorem dX16_init_202 : decode cX16_init 202 = .ok (.sipush 10000, 3) := by decide +kernel
theorem dX16_init_205 : decode cX16_init 205 = .ok (.iastore, 1) := by decide +kernel
theorem dX16_init_206 : decode cX16_init 206 = .ok (.dup, 1) := by decide +kernel
theorem dX16_init_207 : decode cX16_init 207 = .ok (.bipush 7, 2) := by decide +kernel
theorem dX16_init_209 : decode cX16_init 209 = .ok (.ldc 31, 2) := by decide +kernel
theorem dX16_init_211 : decode cX16_init 211 = .ok (.iastore, 1) := by decide +kernel
theorem dX16_init_212 : decode cX16_init 212 = .ok (.dup, 1) := by decide +kernel
theorem dX16_init_213 : decode cX16_init 213 = .ok (.bipush 8, 2) := by decide +kernel
theorem dX16_init_215 : decode cX16_init 215 = .ok (.sipush 10000, 3) := by decide +kernel
theorem dX16_init_218 : decode cX16_init 218 = .ok (.iastore, 1) := by decide +kernel
theorem dX16_init_219 : decode cX16_init 219 = .ok (.dup, 1) := by decide +kernel
theorem dX16_init_220 : decode cX16_init 220 = .ok (.bipush 9, 2) := by decide +kernel
theorem dX16_init_222 : decode cX16_init 222 = .ok (.bipush 8, 2) := by decide +kernel
theorem dX16_init_224 : decode cX16_init 224 = .ok (.iastore, 1) := by decide +kernel
theorem dX16_init_225 : decode cX16_init 225 = .ok (.dup, 1) := by decide +kernel
theorem dX16_init_226 : decode cX16_init 226 = .ok (.bipush 10, 2) := by decide +kernel
theorem dX16_init_228 : decode cX16_init 228 = .ok (.ldc 32, 2) := by decide +kernel
theorem dX16_init_230 : decode cX16_init 230 = .ok (.iastore, 1) := by decide +kernel
theorem dX16_init_231 : decode cX16_init 231 = .ok (.putfield 33, 3) := by decide +kernel
theorem dX16_init_234 : decode cX16_init 234 = .ok (.aload_n 0, 1) := by decide +kernel
theorem dX16_init_235 : decode cX16_init 235 = .ok (.sipush 160, 3) := by decide +kernel
theorem dX16_init_238 : decode cX16_init 238 = .ok (.newarray .int, 2) := by decide +kernel
theorem dX16_init_240 : decode cX16_init 240 = .ok (.putfield 36, 3) := by decide +kernel
theorem dX16_init_243 : decode cX16_init 243 = .ok (.aload_n 0, 1) := by decide +kernel
theorem dX16_init_244 : decode cX16_init 244 = .ok (.bipush 32, 2) := by decide +kernel
theorem dX16_init_246 : decode cX16_init 246 = .ok (.newarray .int, 2) := by decide +kernel
theorem dX16_init_248 : decode cX16_init 248 = .ok (.putfield 39, 3) := by decide +kernel
theorem dX16_init_251 : decode cX16_init 251 = .ok (.aload_n 0, 1) := by decide +kernel
theorem dX16_init_252 : decode cX16_init 252 = .ok (.bipush 32, 2) := by decide +kernel
theorem dX16_init_254 : decode cX16_init 254 = .ok (.newarray .int, 2) := by decide +kernel
theorem dX16_init_256 : decode cX16_init 256 = .ok (.putfield 42, 3) := by decide +kernel
theorem dX16_init_259 : decode cX16_init 259 = .ok (.aload_n 0, 1) := by decide +kernel
theorem dX16_init_260 : decode cX16_init 260 = .ok (.bipush 32, 2) := by decide +kernel
theorem dX16_init_262 : decode cX16_init 262 = .ok (.newarray .int, 2) := by decide +kernel
theorem dX16_init_264 : decode cX16_init 264 = .ok (.putfield 45, 3) := by decide +kernel
theorem dX16_init_267 : decode cX16_init 267 = .ok (.aload_n 0, 1) := by decide +kernel
theorem dX16_init_268 : decode cX16_init 268 = .ok (.bipush 32, 2) := by decide +kernel
theorem dX16_init_270 : decode cX16_init 270 = .ok (.newarray .int, 2) := by decide +kernel
theorem dX16_init_272 : decode cX16_init 272 = .ok (.putfield 48, 3) := by decide +kernel
theorem dX16_init_275 : decode cX16_init 275 = .ok (.aload_n 0, 1) := by decide +kernel
theorem dX16_init_276 : decode cX16_init 276 = .ok (.bipush 32, 2) := by decide +kernel
theorem dX16_init_278 : decode cX16_init 278 = .ok (.newarray .int, 2) := by decide +kernel
theorem dX16_init_280 : decode cX16_init 280 = .ok (.putfield 51, 3) := by decide +kernel
theorem dX16_init_283 : decode cX16_init 283 = .ok (.aload_n 0, 1) := by decide +kernel
theorem dX16_init_284 : decode cX16_init 284 = .ok (.bipush 32, 2) := by decide +kernel
theorem dX16_init_286 : decode cX16_init 286 = .ok (.newarray .int, 2) := by decide +kernel
theorem dX16_init_288 : decode cX16_init 288 = .ok (.putfield 54, 3) := by decide +kernel
theorem dX16_init_291 : decode cX16_init 291 = .ok (.aload_n 0, 1) := by decide +kernel
theorem dX16_init_292 : decode cX16_init 292 = .ok (.sipush 160, 3) := by decide +kernel
theorem dX16_init_295 : decode cX16_init 295 = .ok (.newarray .int, 2) := by decide +kernel
theorem dX16_init_297 : decode cX16_init 297 = .ok (.putfield 57, 3) := by decide +kernel
theorem dX16_init_300 : decode cX16_init 300 = .ok (.aload_n 0, 1) := by decide +kernel
theorem dX16_init_301 : decode cX16_init 301 = .ok (.bipush 32, 2) := by decide +kernel
theorem dX16_init_303 : decode cX16_init 303 = .ok (.newarray .int, 2) := by decide +kernel
theorem dX16_init_305 : decode cX16_init 305 = .ok (.putfield 60, 3) := by decide +kernel
theorem dX16_init_308 : decode cX16_init 308 = .ok (.aload_n 0, 1) := by decide +kernel
theorem dX16_init_309 : decode cX16_init 309 = .ok (.bipush 32, 2) := by decide +kernel
theorem dX16_init_311 : decode cX16_init 311 = .ok (.newarray .int, 2) := by decide +kernel
theorem dX16_init_313 : decode cX16_init 313 = .ok (.putfield 63, 3) := by decide +kernel
theorem dX16_init_316 : decode cX16_init 316 = .ok (.aload_n 0, 1) := by decide +kernel
theorem dX16_init_317 : decode cX16_init 317 = .ok (.sipush 24576, 3) := by decide +kernel
theorem dX16_init_320 : decode cX16_init 320 = .ok (.newarray .int, 2) := by decide +kernel
theorem dX16_init_322 : decode cX16_init 322 = .ok (.putfield 66, 3) := by decide +kernel
theorem dX16_init_325 : decode cX16_init 325 = .ok (.aload_n 0, 1) := by decide +kernel
theorem dX16_init_326 : decode cX16_init 326 = .ok (.sipush 2048, 3) := by decide +kernel
theorem dX16_init_329 : decode cX16_init 329 = .ok (.newarray .int, 2) := by decide +kernel
theorem dX16_init_331 : decode cX16_init 331 = .ok (.putfield 69, 3) := by decide +kernel
theorem dX16_init_334 : decode cX16_init 334 = .ok (.aload_n 0, 1) := by decide +kernel
theorem dX16_init_335 : decode cX16_init 335 = .ok (.sipush 10240, 3) := by decide +kernel
theorem dX16_init_338 : decode cX16_init 338 = .ok (.newarray .int, 2) := by decide +kernel
theorem dX16_init_340 : decode cX16_init 340 = .ok (.putfield 72, 3) := by decide +kernel
theorem dX16_init_343 : decode cX16_init 343 = .ok (.aload_n 0, 1) := by decide +kernel
theorem dX16_init_344 : decode cX16_init 344 = .ok (.ldc 75, 2) := by decide +kernel
theorem dX16_init_346 : decode cX16_init 346 = .ok (.newarray .int, 2) := by decide +kernel
theorem dX16_init_348 : decode cX16_init 348 = .ok (.putfield 76, 3) := by decide +kernel
theorem dX16_init_351 : decode cX16_init 351 = .ok (.aload_n 0, 1) := by decide +kernel
theorem dX16_init_352 : decode cX16_init 352 = .ok (.sipush 3000, 3) := by decide +kernel
theorem dX16_init_355 : decode cX16_init 355 = .ok (.newarray .int, 2) := by decide +kernel
theorem dX16_init_357 : decode cX16_init 357 = .ok (.putfield 79, 3) := by decide +kernel
theorem dX16_init_360 : decode cX16_init 360 = .ok (.aload_n 0, 1) := by decide +kernel
theorem dX16_init_361 : decode cX16_init 361 = .ok (.sipush 250, 3) := by decide +kernel
theorem dX16_init_364 : decode cX16_init 364 = .ok (.newarray .int, 2) := by decide +kernel
theorem dX16_init_366 : decode cX16_init 366 = .ok (.putfield 82, 3) := by decide +kernel
theorem dX16_init_369 : decode cX16_init 369 = .ok (.aload_n 0, 1) := by decide +kernel
theorem dX16_init_370 : decode cX16_init 370 = .ok (.sipush 250, 3) := by decide +kernel
theorem dX16_init_373 : decode cX16_init 373 = .ok (.newarray .int, 2) := by decide +kernel
theorem dX16_init_375 : decode cX16_init 375 = .ok (.putfield 85, 3) := by decide +kernel
theorem dX16_init_378 : decode cX16_init 378 = .ok (.aload_n 0, 1) := by decide +kernel
theorem dX16_init_379 : decode cX16_init 379 = .ok (.sipush 400, 3) := by decide +kernel
theorem dX16_init_382 : decode cX16_init 382 = .ok (.newarray .int, 2) := by decide +kernel
theorem dX16_init_384 : decode cX16_init 384 = .ok (.putfield 88, 3) := by decide +kernel
theorem dX16_init_387 : decode cX16_init 387 = .ok (.aload_n 0, 1) := by decide +kernel
theorem dX16_init_388 : decode cX16_init 388 = .ok (.sipush 400, 3) := by decide +kernel
theorem dX16_init_391 : decode cX16_init 391 = .ok (.newarray .int, 2) := by decide +kernel
theorem dX16_init_393 : decode cX16_init 393 = .ok (.putfield 91, 3) := by decide +kernel
theorem dX16_init_396 : decode cX16_init 396 = .ok (.aload_n 0, 1) := by decide +kernel
theorem dX16_init_397 : decode cX16_init 397 = .ok (.sipush 400, 3) := by decide +kernel
theorem dX16_init_400 : decode cX16_init 400 = .ok (.newarray .int, 2) := by decide +kernel
theorem dX16_init_402 : decode cX16_init 402 = .ok (.putfield 94, 3) := by decide +kernel
theorem dX16_init_405 : decode cX16_init 405 = .ok (.aload_n 0, 1) := by decide +kernel
theorem dX16_init_406 : decode cX16_init 406 = .ok (.sipush 400, 3) := by decide +kernel
theorem dX16_init_409 : decode cX16_init 409 = .ok (.newarray .int, 2) := by decide +kernel
theorem dX16_init_411 : decode cX16_init 411 = .ok (.putfield 97, 3) := by decide +kernel
theorem dX16_init_414 : decode cX16_init 414 = .ok (.aload_n 0, 1) := by decide +kernel
theorem dX16_init_415 : decode cX16_init 415 = .ok (.sipush 400, 3) := by decide +kernel
theorem dX16_init_418 : decode cX16_init 418 = .ok (.newarray .int, 2) := by decide +kernel
theorem dX16_init_420 : decode cX16_init 420 = .ok (.putfield 100, 3) := by decide +kernel
theorem dX16_init_423 : decode cX16_init 423 = .ok (.aload_n 0, 1) := by decide +kernel
theorem dX16_init_424 : decode cX16_init 424 = .ok (.ldc 103, 2) := by decide +kernel
theorem dX16_init_426 : decode cX16_init 426 = .ok (.newarray .int, 2) := by decide +kernel
theorem dX16_init_428 : decode cX16_init 428 = .ok (.putfield 104, 3) := by decide +kernel
theorem dX16_init_431 : decode cX16_init 431 = .ok (.aload_n 0, 1) := by decide +kernel
theorem dX16_init_432 : decode cX16_init 432 = .ok (.sipush 460, 3) := by decide +kernel
theorem dX16_init_435 : decode cX16_init 435 = .ok (.newarray .int, 2) := by decide +kernel
theorem dX16_init_437 : decode cX16_init 437 = .ok (.putfield 107, 3) := by decide +kernel
theorem dX16_init_440 : decode cX16_init 440 = .ok (.aload_n 0, 1) := by decide +kernel
theorem dX16_init_441 : decode cX16_init 441 = .ok (.bipush 32, 2) := by decide +kernel
theorem dX16_init_443 : decode cX16_init 443 = .ok (.newarray .int, 2) := by decide +kernel
theorem dX16_init_445 : decode cX16_init 445 = .ok (.putfield 110, 3) := by decide +kernel
theorem dX16_init_448 : decode cX16_init 448 = .ok (.aload_n 0, 1) := by decide +kernel
theorem dX16_init_449 : decode cX16_init 449 = .ok (.ldc 113, 2) := by decide +kernel
theorem dX16_init_451 : decode cX16_init 451 = .ok (.newarray .int, 2) := by decide +kernel
theorem dX16_init_453 : decode cX16_init 453 = .ok (.putfield 114, 3) := by decide +kernel
theorem dX16_init_456 : decode cX16_init 456 = .ok (.aload_n 0, 1) := by decide +kernel
theorem dX16_init_457 : decode cX16_init 457 = .ok (.ldc 117, 2) := by decide +kernel
theorem dX16_init_459 : decode cX16_init 459 = .ok (.newarray .int, 2) := by decide +kernel
theorem dX16_init_461 : decode cX16_init 461 = .ok (.putfield 118, 3) := by decide +kernel
theorem dX16_init_464 : decode cX16_init 464 = .ok (.aload_n 0, 1) := by decide +kernel
theorem dX16_init_465 : decode cX16_init 465 = .ok (.ldc 117, 2) := by decide +kernel
theorem dX16_init_467 : decode cX16_init 467 = .ok (.newarray .int, 2) := by decide +kernel
theorem dX16_init_469 : decode cX16_init 469 = .ok (.putfield 121, 3) := by decide +kernel
theorem dX16_init_472 : decode cX16_init 472 = .ok (.aload_n 0, 1) := by decide +kernel
theorem dX16_init_473 : decode cX16_init 473 = .ok (.ldc 117, 2) := by decide +kernel
theorem dX16_init_475 : decode cX16_init 475 = .ok (.newarray .boolean, 2) := by decide +kernel
theorem dX16_init_477 : decode cX16_init 477 = .ok (.putfield 124, 3) := by decide +kernel
theorem dX16_init_480 : decode cX16_init 480 = .ok (.aload_n 0, 1) := by decide +kernel
theorem dX16_init_481 : decode cX16_init 481 = .ok (.ldc 117, 2) := by decide +kernel
theorem dX16_init_483 : decode cX16_init 483 = .ok (.newarray .int, 2) := by decide +kernel
theorem dX16_init_485 : decode cX16_init 485 = .ok (.putfield 128, 3) := by decide +kernel
theorem dX16_init_488 : decode cX16_init 488 = .ok (.aload_n 0, 1) := by decide +kernel
theorem dX16_init_489 : decode cX16_init 489 = .ok (.iconst 5, 1) := by decide +kernel
theorem dX16_init_490 : decode cX16_init 490 = .ok (.newarray .int, 2) := by decide +kernel
theorem dX16_init_492 : decode cX16_init 492 = .ok (.putfield 131, 3) := by decide +kernel
theorem dX16_init_495 : decode cX16_init 495 = .ok (.aload_n 0, 1) := by decide +kernel
theorem dX16_init_496 : decode cX16_init 496 = .ok (.bipush 21, 2) := by decide +kernel
theorem dX16_init_498 : decode cX16_init 498 = .ok (.newarray .int, 2) := by decide +kernel
theorem dX16_init_500 : decode cX16_init 500 = .ok (.putfield 134, 3) := by decide +kernel
theorem dX16_init_503 : decode cX16_init 503 = .ok (.aload_n 0, 1) := by decide +kernel
theorem dX16_init_504 : decode cX16_init 504 = .ok (.sipush 1280, 3) := by decide +kernel
theorem dX16_init_507 : decode cX16_init 507 = .ok (.newarray .boolean, 2) := by decide +kernel
theorem dX16_init_509 : decode cX16_init 509 = .ok (.putfield 137, 3) := by decide +kernel
theorem dX16_init_512 : decode cX16_init 512 = .ok (.aload_n 0, 1) := by decide +kernel
theorem dX16_init_513 : decode cX16_init 513 = .ok (.sipush 1280, 3) := by decide +kernel
theorem dX16_init_516 : decode cX16_init 516 = .ok (.newarray .int, 2) := by decide +kernel
theorem dX16_init_518 : decode cX16_init 518 = .ok (.putfield 140, 3) := by decide +kernel
theorem dX16_init_521 : decode cX16_init 521 = .ok (.aload_n 0, 1) := by decide +kernel
theorem dX16_init_522 : decode cX16_init 522 = .ok (.sipush 1280, 3) := by decide +kernel
theorem dX16_init_525 : decode cX16_init 525 = .ok (.newarray .int, 2) := by decide +kernel
theorem dX16_init_527 : decode cX16_init 527 = .ok (.putfield 143, 3) := by decide +kernel
theorem dX16_init_530 : decode cX16_init 530 = .ok (.aload_n 0, 1) := by decide +kernel
theorem dX16_init_531 : decode cX16_init 531 = .ok (.sipush 6400, 3) := by decide +kernel
theorem dX16_init_534 : decode cX16_init 534 = .ok (.newarray .int, 2) := by decide +kernel
theorem dX16_init_536 : decode cX16_init 536 = .ok (.putfield 146, 3) := by decide +kernel
theorem dX16_init_539 : decode cX16_init 539 = .ok (.aload_n 0, 1) := by decide +kernel
theorem dX16_init_540 : decode cX16_init 540 = .ok (.sipush 1280, 3) := by decide +kernel
theorem dX16_init_543 : decode cX16_init 543 = .ok (.newarray .int, 2) := by decide +kernel
theorem dX16_init_545 : decode cX16_init 545 = .ok (.putfield 149, 3) := by decide +kernel
theorem dX16_init_548 : decode cX16_init 548 = .ok (.aload_n 0, 1) := by decide +kernel
theorem dX16_init_549 : decode cX16_init 549 = .ok (.sipush 1280, 3) := by decide +kernel
theorem dX16_init_552 : decode cX16_init 552 = .ok (.newarray .int, 2) := by decide +kernel
theorem dX16_init_554 : decode cX16_init 554 = .ok (.putfield 152, 3) := by decide +kernel
theorem dX16_init_557 : decode cX16_init 557 = .ok (.aload_n 0, 1) := by decide +kernel
theorem dX16_init_558 : decode cX16_init 558 = .ok (.sipush 1280, 3) := by decide +kernel
theorem dX16_init_561 : decode cX16_init 561 = .ok (.newarray .int, 2) := by decide +kernel
theorem dX16_init_563 : decode cX16_init 563 = .ok (.putfield 155, 3) := by decide +kernel
theorem dX16_init_566 : decode cX16_init 566 = .ok (.aload_n 0, 1) := by decide +kernel
theorem dX16_init_567 : decode cX16_init 567 = .ok (.sipush 1280, 3) := by decide +kernel
theorem dX16_init_570 : decode cX16_init 570 = .ok (.newarray .int, 2) := by decide +kernel
theorem dX16_init_572 : decode cX16_init 572 = .ok (.putfield 158, 3) := by decide +kernel
theorem dX16_init_575 : decode cX16_init 575 = .ok (.aload_n 0, 1) := by decide +kernel
theorem dX16_init_576 : decode cX16_init 576 = .ok (.sipush 1280, 3) := by decide +kernel
theorem dX16_init_579 : decode cX16_init 579 = .ok (.newarray .int, 2) := by decide +kernel
theorem dX16_init_581 : decode cX16_init 581 = .ok (.putfield 161, 3) := by decide +kernel
theorem dX16_init_584 : decode cX16_init 584 = .ok (.aload_n 0, 1) := by decide +kernel
theorem dX16_init_585 : decode cX16_init 585 = .ok (.sipush 1280, 3) := by decide +kernel
theorem dX16_init_588 : decode cX16_init 588 = .ok (.newarray .int, 2) := by decide +kernel
theorem dX16_init_590 : decode cX16_init 590 = .ok (.putfield 164, 3) := by decide +kernel
theorem dX16_init_593 : decode cX16_init 593 = .ok (.aload_n 0, 1) := by decide +kernel
theorem dX16_init_594 : decode cX16_init 594 = .ok (.sipush 1280, 3) := by decide +kernel
theorem dX16_init_597 : decode cX16_init 597 = .ok (.newarray .int, 2) := by decide +kernel
theorem dX16_init_599 : decode cX16_init 599 = .ok (.putfield 167, 3) := by decide +kernel
theorem dX16_init_602 : decode cX16_init 602 = .ok (.aload_n 0, 1) := by decide +kernel
theorem dX16_init_603 : decode cX16_init 603 = .ok (.ldc 170, 2) := by decide +kernel
theorem dX16_init_605 : decode cX16_init 605 = .ok (.newarray .int, 2) := by decide +kernel
theorem dX16_init_607 : decode cX16_init 607 = .ok (.putfield 171, 3) := by decide +kernel
theorem dX16_init_610 : decode cX16_init 610 = .ok (.aload_n 0, 1) := by decide +kernel
theorem dX16_init_611 : decode cX16_init 611 = .ok (.sipush 325, 3) := by decide +kernel
theorem dX16_init_614 : decode cX16_init 614 = .ok (.newarray .int, 2) := by decide +kernel
theorem dX16_init_616 : decode cX16_init 616 = .ok (.putfield 174, 3) := by decide +kernel
theorem dX16_init_619 : decode cX16_init 619 = .ok (.aload_n 0, 1) := by decide +kernel
theorem dX16_init_620 : decode cX16_init 620 = .ok (.bipush 32, 2) := by decide +kernel
theorem dX16_init_622 : decode cX16_init 622 = .ok (.newarray .int, 2) := by decide +kernel
theorem dX16_init_624 : decode cX16_init 624 = .ok (.putfield 177, 3) := by decide +kernel
theorem dX16_init_627 : decode cX16_init 627 = .ok (.aload_n 0, 1) := by decide +kernel
theorem dX16_init_628 : decode cX16_init 628 = .ok (.sipush 32000, 3) := by decide +kernel
theorem dX16_init_631 : decode cX16_init 631 = .ok (.newarray .int, 2) := by decide +kernel
theorem dX16_init_633 : decode cX16_init 633 = .ok (.putfield 180, 3) := by decide +kernel
theorem dX16_init_636 : decode cX16_init 636 = .ok (.aload_n 0, 1) := by decide +kernel
theorem dX16_init_637 : decode cX16_init 637 = .ok (.sipush 6400, 3) := by decide +kernel
theorem dX16_init_640 : decode cX16_init 640 = .ok (.newarray .int, 2) := by decide +kernel
theorem dX16_init_642 : decode cX16_init 642 = .ok (.putfield 183, 3) := by decide +kernel
theorem dX16_init_645 : decode cX16_init 645 = .ok (.aload_n 0, 1) := by decide +kernel
theorem dX16_init_646 : decode cX16_init 646 = .ok (.sipush 6400, 3) := by decide +kernel
theorem dX16_init_649 : decode cX16_init 649 = .ok (.newarray .int, 2) := by decide +kernel
theorem dX16_init_651 : decode cX16_init 651 = .ok (.putfield 186, 3) := by decide +kernel
theorem dX16_init_654 : decode cX16_init 654 = .ok (.aload_n 0, 1) := by decide +kernel
theorem dX16_init_655 : decode cX16_init 655 = .ok (.sipush 6400, 3) := by decide +kernel
theorem dX16_init_658 : decode cX16_init 658 = .ok (.newarray .int, 2) := by decide +kernel
theorem dX16_init_660 : decode cX16_init 660 = .ok (.putfield 189, 3) := by decide +kernel
theorem dX16_init_663 : decode cX16_init 663 = .ok (.aload_n 0, 1) := by decide +kernel
theorem dX16_init_664 : decode cX16_init 664 = .ok (.sipush 6400, 3) := by decide +kernel
theorem dX16_init_667 : decode cX16_init 667 = .ok (.newarray .int, 2) := by decide +kernel
theorem dX16_init_669 : decode cX16_init 669 = .ok (.putfield 192, 3) := by decide +kernel
theorem dX16_init_672 : decode cX16_init 672 = .ok (.aload_n 0, 1) := by decide +kernel
theorem dX16_init_673 : decode cX16_init 673 = .ok (.sipush 200, 3) := by decide +kernel
theorem dX16_init_676 : decode cX16_init 676 = .ok (.newarray .int, 2) := by decide +kernel
theorem dX16_init_678 : decode cX16_init 678 = .ok (.putfield 195, 3) := by decide +kernel
theorem dX16_init_681 : decode cX16_init 681 = .ok (.aload_n 0, 1) := by decide +kernel
theorem dX16_init_682 : decode cX16_init 682 = .ok (.bipush 16, 2) := by decide +kernel
theorem dX16_init_684 : decode cX16_init 684 = .ok (.newarray .int, 2) := by decide +kernel
theorem dX16_init_686 : decode cX16_init 686 = .ok (.putfield 198, 3) := by decide +kernel
theorem dX16_init_689 : decode cX16_init 689 = .ok (.aload_n 0, 1) := by decide +kernel
theorem dX16_init_690 : decode cX16_init 690 = .ok (.bipush 16, 2) := by decide +kernel
theorem dX16_init_692 : decode cX16_init 692 = .ok (.newarray .int, 2) := by decide +kernel
theorem dX16_init_694 : decode cX16_init 694 = .ok (.putfield 201, 3) := by decide +kernel
theorem dX16_init_697 : decode cX16_init 697 = .ok (.aload_n 0, 1) := by decide +kernel
theorem dX16_init_698 : decode cX16_init 698 = .ok (.bipush 16, 2) := by decide +kernel
theorem dX16_init_700 : decode cX16_init 700 = .ok (.newarray .int, 2) := by decide +kernel
theorem dX16_init_702 : decode cX16_init 702 = .ok (.putfield 204, 3) := by decide +kernel
theorem dX16_init_705 : decode cX16_init 705 = .ok (.aload_n 0, 1) := by decide +kernel
theorem dX16_init_706 : decode cX16_init 706 = .ok (.sipush 290, 3) := by decide +kernel
theorem dX16_init_709 : decode cX16_init 709 = .ok (.newarray .int, 2) := by decide +kernel
theorem dX16_init_711 : decode cX16_init 711 = .ok (.putfield 207, 3) := by decide +kernel
theorem dX16_init_714 : decode cX16_init 714 = .ok (.aload_n 0, 1) := by decide +kernel
theorem dX16_init_715 : decode cX16_init 715 = .ok (.bipush 30, 2) := by decide +kernel
theorem dX16_init_717 : decode cX16_init 717 = .ok (.newarray .int, 2) := by decide +kernel
theorem dX16_init_719 : decode cX16_init 719 = .ok (.putfield 210, 3) := by decide +kernel
theorem dX16_init_722 : decode cX16_init 722 = .ok (.aload_n 0, 1) := by decide +kernel
theorem dX16_init_723 : decode cX16_init 723 = .ok (.bipush 30, 2) := by decide +kernel
theorem dX16_init_725 : decode cX16_init 725 = .ok (.newarray .int, 2) := by decide +kernel
theorem dX16_init_727 : decode cX16_init 727 = .ok (.putfield 213, 3) := by decide +kernel
theorem dX16_init_730 : decode cX16_init 730 = .ok (.aload_n 0, 1) := by decide +kernel
theorem dX16_init_731 : decode cX16_init 731 = .ok (.bipush 30, 2) := by decide +kernel
theorem dX16_init_733 : decode cX16_init 733 = .ok (.newarray .int, 2) := by decide +kernel
theorem dX16_init_735 : decode cX16_init 735 = .ok (.putfield 216, 3) := by decide +kernel
theorem dX16_init_738 : decode cX16_init 738 = .ok (.aload_n 0, 1) := by decide +kernel
theorem dX16_init_739 : decode cX16_init 739 = .ok (.bipush 30, 2) := by decide +kernel
theorem dX16_init_741 : decode cX16_init 741 = .ok (.newarray .int, 2) := by decide +kernel
theorem dX16_init_743 : decode cX16_init 743 = .ok (.putfield 219, 3) := by decide +kernel
theorem dX16_init_746 : decode cX16_init 746 = .ok (.aload_n 0, 1) := by decide +kernel
theorem dX16_init_747 : decode cX16_init 747 = .ok (.bipush 30, 2) := by decide +kernel
theorem dX16_init_749 : decode cX16_init 749 = .ok (.newarray .int, 2) := by decide +kernel
theorem dX16_init_751 : decode cX16_init 751 = .ok (.putfield 222, 3) := by decide +kernel
theorem dX16_init_754 : decode cX16_init 754 = .ok (.aload_n 0, 1) := by decide +kernel
theorem dX16_init_755 : decode cX16_init 755 = .ok (.bipush 44, 2) := by decide +kernel
theorem dX16_init_757 : decode cX16_init 757 = .ok (.newarray .boolean, 2) := by decide +kernel
theorem dX16_init_759 : decode cX16_init 759 = .ok (.putfield 225, 3) := by decide +kernel
theorem dX16_init_762 : decode cX16_init 762 = .ok (.aload_n 0, 1) := by decide +kernel
theorem dX16_init_763 : decode cX16_init 763 = .ok (.bipush 44, 2) := by decide +kernel
theorem dX16_init_765 : decode cX16_init 765 = .ok (.newarray .int, 2) := by decide +kernel
theorem dX16_init_767 : decode cX16_init 767 = .ok (.putfield 228, 3) := by decide +kernel
theorem dX16_init_770 : decode cX16_init 770 = .ok (.aload_n 0, 1) := by decide +kernel
theorem dX16_init_771 : decode cX16_init 771 = .ok (.bipush 44, 2) := by decide +kernel
theorem dX16_init_773 : decode cX16_init 773 = .ok (.newarray .int, 2) := by decide +kernel
theorem dX16_init_775 : decode cX16_init 775 = .ok (.putfield 231, 3) := by decide +kernel
theorem dX16_init_778 : decode cX16_init 778 = .ok (.aload_n 0, 1) := by decide +kernel
theorem dX16_init_779 : decode cX16_init 779 = .ok (.bipush 44, 2) := by decide +kernel
theorem dX16_init_781 : decode cX16_init 781 = .ok (.newarray .int, 2) := by decide +kernel
theorem dX16_init_783 : decode cX16_init 783 = .ok (.putfield 234, 3) := by decide +kernel
theorem dX16_init_786 : decode cX16_init 786 = .ok (.aload_n 0, 1) := by decide +kernel
theorem dX16_init_787 : decode cX16_init 787 = .ok (.bipush 44, 2) := by decide +kernel
theorem dX16_init_789 : decode cX16_init 789 = .ok (.newarray .int, 2) := by decide +kernel
theorem dX16_init_791 : decode cX16_init 791 = .ok (.putfield 237, 3) := by decide +kernel
theorem dX16_init_794 : decode cX16_init 794 = .ok (.aload_n 0, 1) := by decide +kernel
theorem dX16_init_795 : decode cX16_init 795 = .ok (.bipush 44, 2) := by decide +kernel
theorem dX16_init_797 : decode cX16_init 797 = .ok (.newarray .int, 2) := by decide +kernel
theorem dX16_init_799 : decode cX16_init 799 = .ok (.putfield 240, 3) := by decide +kernel
theorem dX16_init_802 : decode cX16_init 802 = .ok (.aload_n 0, 1) := by decide +kernel
theorem dX16_init_803 : decode cX16_init 803 = .ok (.sipush 220, 3) := by decide +kernel
theorem dX16_init_806 : decode cX16_init 806 = .ok (.newarray .int, 2) := by decide +kernel
theorem dX16_init_808 : decode cX16_init 808 = .ok (.putfield 243, 3) := by decide +kernel
theorem dX16_init_811 : decode cX16_init 811 = .ok (.aload_n 0, 1) := by decide +kernel
theorem dX16_init_812 : decode cX16_init 812 = .ok (.bipush 44, 2) := by decide +kernel
theorem dX16_init_814 : decode cX16_init 814 = .ok (.newarray .boolean, 2) := by decide +kernel
theorem dX16_init_816 : decode cX16_init 816 = .ok (.putfield 246, 3) := by decide +kernel
theorem dX16_init_819 : decode cX16_init 819 = .ok (.aload_n 0, 1) := by decide +kernel
theorem dX16_init_820 : decode cX16_init 820 = .ok (.bipush 44, 2) := by decide +kernel
theorem dX16_init_822 : decode cX16_init 822 = .ok (.newarray .int, 2) := by decide +kernel
theorem dX16_init_824 : decode cX16_init 824 = .ok (.putfield 249, 3) := by decide +kernel
theorem dX16_init_827 : decode cX16_init 827 = .ok (.aload_n 0, 1) := by decide +kernel
theorem dX16_init_828 : decode cX16_init 828 = .ok (.sipush 14300, 3) := by decide +kernel
theorem dX16_init_831 : decode cX16_init 831 = .ok (.newarray .int, 2) := by decide +kernel
theorem dX16_init_833 : decode cX16_init 833 = .ok (.putfield 252, 3) := by decide +kernel
theorem dX16_init_836 : decode cX16_init 836 = .ok (.aload_n 0, 1) := by decide +kernel
theorem dX16_init_837 : decode cX16_init 837 = .ok (.sipush 2860, 3) := by decide +kernel
theorem dX16_init_840 : decode cX16_init 840 = .ok (.newarray .int, 2) := by decide +kernel
theorem dX16_init_842 : decode cX16_init 842 = .ok (.putfield 255, 3) := by decide +kernel
theorem dX16_init_845 : decode cX16_init 845 = .ok (.aload_n 0, 1) := by decide +kernel
theorem dX16_init_846 : decode cX16_init 846 = .ok (.sipush 2860, 3) := by decide +kernel
theorem dX16_init_849 : decode cX16_init 849 = .ok (.newarray .int, 2) := by decide +kernel
theorem dX16_init_851 : decode cX16_init 851 = .ok (.putfield 258, 3) := by decide +kernel
theorem dX16_init_854 : decode cX16_init 854 = .ok (.aload_n 0, 1) := by decide +kernel
theorem dX16_init_855 : decode cX16_init 855 = .ok (.sipush 2860, 3) := by decide +kernel
theorem dX16_init_858 : decode cX16_init 858 = .ok (.newarray .int, 2) := by decide +kernel
theorem dX16_init_860 : decode cX16_init 860 = .ok (.putfield 261, 3) := by decide +kernel
theorem dX16_init_863 : decode cX16_init 863 = .ok (.aload_n 0, 1) := by decide +kernel
theorem dX16_init_864 : decode cX16_init 864 = .ok (.bipush 44, 2) := by decide +kernel
theorem dX16_init_866 : decode cX16_init 866 = .ok (.newarray .int, 2) := by decide +kernel
theorem dX16_init_868 : decode cX16_init 868 = .ok (.putfield 264, 3) := by decide +kernel
theorem dX16_init_871 : decode cX16_init 871 = .ok (.aload_n 0, 1) := by decide +kernel
theorem dX16_init_872 : decode cX16_init 872 = .ok (.bipush 21, 2) := by decide +kernel
theorem dX16_init_874 : decode cX16_init 874 = .ok (.newarray .int, 2) := by decide +kernel
theorem dX16_init_876 : decode cX16_init 876 = .ok (.putfield 267, 3) := by decide +kernel
theorem dX16_init_879 : decode cX16_init 879 = .ok (.aload_n 0, 1) := by decide +kernel
theorem dX16_init_880 : decode cX16_init 880 = .ok (.bipush 44, 2) := by decide +kernel
theorem dX16_init_882 : decode cX16_init 882 = .ok (.newarray .int, 2) := by decide +kernel
theorem dX16_init_884 : decode cX16_init 884 = .ok (.putfield 270, 3) := by decide +kernel
theorem dX16_init_887 : decode cX16_init 887 = .ok (.aload_n 0, 1) := by decide +kernel
theorem dX16_init_888 : decode cX16_init 888 = .ok (.bipush 44, 2) := by decide +kernel
theorem dX16_init_890 : decode cX16_init 890 = .ok (.newarray .int, 2) := by decide +kernel
theorem dX16_init_892 : decode cX16_init 892 = .ok (.putfield 273, 3) := by decide +kernel
theorem dX16_init_895 : decode cX16_init 895 = .ok (.aload_n 0, 1) := by decide +kernel
theorem dX16_init_896 : decode cX16_init 896 = .ok (.bipush 44, 2) := by decide +kernel
theorem dX16_init_898 : decode cX16_init 898 = .ok (.newarray .int, 2) := by decide +kernel
theorem dX16_init_900 : decode cX16_init 900 = .ok (.putfield 276, 3) := by decide +kernel
theorem dX16_init_903 : decode cX16_init 903 = .ok (.aload_n 0, 1) := by decide +kernel
theorem dX16_init_904 : decode cX16_init 904 = .ok (.bipush 44, 2) := by decide +kernel
theorem dX16_init_906 : decode cX16_init 906 = .ok (.newarray .int, 2) := by decide +kernel
theorem dX16_init_908 : decode cX16_init 908 = .ok (.putfield 279, 3) := by decide +kernel
theorem dX16_init_911 : decode cX16_init 911 = .ok (.aload_n 0, 1) := by decide +kernel
theorem dX16_init_912 : decode cX16_init 912 = .ok (.bipush 44, 2) := by decide +kernel
theorem dX16_init_914 : decode cX16_init 914 = .ok (.newarray .int, 2) := by decide +kernel
theorem dX16_init_916 : decode cX16_init 916 = .ok (.putfield 282, 3) := by decide +kernel
theorem dX16_init_919 : decode cX16_init 919 = .ok (.aload_n 0, 1) := by decide +kernel
theorem dX16_init_920 : decode cX16_init 920 = .ok (.bipush 44, 2) := by decide +kernel
theorem dX16_init_922 : decode cX16_init 922 = .ok (.newarray .boolean, 2) := by decide +kernel
theorem dX16_init_924 : decode cX16_init 924 = .ok (.putfield 285, 3) := by decide +kernel
theorem dX16_init_927 : decode cX16_init 927 = .ok (.aload_n 0, 1) := by decide +kernel
theorem dX16_init_928 : decode cX16_init 928 = .ok (.bipush 44, 2) := by decide +kernel
theorem dX16_init_930 : decode cX16_init 930 = .ok (.newarray .int, 2) := by decide +kernel
theorem dX16_init_932 : decode cX16_init 932 = .ok (.putfield 288, 3) := by decide +kernel
theorem dX16_init_935 : decode cX16_init 935 = .ok (.aload_n 0, 1) := by decide +kernel
theorem dX16_init_936 : decode cX16_init 936 = .ok (.bipush 44, 2) := by decide +kernel
theorem dX16_init_938 : decode cX16_init 938 = .ok (.newarray .int, 2) := by decide +kernel
theorem dX16_init_940 : decode cX16_init 940 = .ok (.putfield 291, 3) := by decide +kernel
theorem dX16_init_943 : decode cX16_init 943 = .ok (.aload_n 0, 1) := by decide +kernel
theorem dX16_init_944 : decode cX16_init 944 = .ok (.sipush 660, 3) := by decide +kernel
theorem dX16_init_947 : decode cX16_init 947 = .ok (.newarray .int, 2) := by decide +kernel
theorem dX16_init_949 : decode cX16_init 949 = .ok (.putfield 294, 3) := by decide +kernel
theorem dX16_init_952 : decode cX16_init 952 = .ok (.aload_n 0, 1) := by decide +kernel
theorem dX16_init_953 : decode cX16_init 953 = .ok (.sipush 132, 3) := by decide +kernel
theorem dX16_init_956 : decode cX16_init 956 = .ok (.newarray .int, 2) := by decide +kernel
theorem dX16_init_958 : decode cX16_init 958 = .ok (.putfield 297, 3) := by decide +kernel
theorem dX16_init_961 : decode cX16_init 961 = .ok (.aload_n 0, 1) := by decide +kernel
theorem dX16_init_962 : decode cX16_init 962 = .ok (.sipush 660, 3) := by decide +kernel
theorem dX16_init_965 : decode cX16_init 965 = .ok (.newarray .int, 2) := by decide +kernel
theorem dX16_init_967 : decode cX16_init 967 = .ok (.putfield 300, 3) := by decide +kernel
theorem dX16_init_970 : decode cX16_init 970 = .ok (.aload_n 0, 1) := by decide +kernel
theorem dX16_init_971 : decode cX16_init 971 = .ok (.sipush 132, 3) := by decide +kernel
theorem dX16_init_974 : decode cX16_init 974 = .ok (.newarray .int, 2) := by decide +kernel
theorem dX16_init_976 : decode cX16_init 976 = .ok (.putfield 303, 3) := by decide +kernel
theorem dX16_init_979 : decode cX16_init 979 = .ok (.aload_n 0, 1) := by decide +kernel
theorem dX16_init_980 : decode cX16_init 980 = .ok (.sipush 132, 3) := by decide +kernel
theorem dX16_init_983 : decode cX16_init 983 = .ok (.newarray .int, 2) := by decide +kernel
theorem dX16_init_985 : decode cX16_init 985 = .ok (.putfield 306, 3) := by decide +kernel
theorem dX16_init_988 : decode cX16_init 988 = .ok (.aload_n 0, 1) := by decide +kernel
theorem dX16_init_989 : decode cX16_init 989 = .ok (.bipush 44, 2) := by decide +kernel
theorem dX16_init_991 : decode cX16_init 991 = .ok (.newarray .int, 2) := by decide +kernel
theorem dX16_init_993 : decode cX16_init 993 = .ok (.putfield 309, 3) := by decide +kernel
theorem dX16_init_996 : decode cX16_init 996 = .ok (.aload_n 0, 1) := by decide +kernel
theorem dX16_init_997 : decode cX16_init 997 = .ok (.bipush 44, 2) := by decide +kernel
theorem dX16_init_999 : decode cX16_init 999 = .ok (.newarray .int, 2) := by decide +kernel
theorem dX16_init_1001 : decode cX16_init 1001 = .ok (.putfield 312, 3) := by decide +kernel
theorem dX16_init_1004 : decode cX16_init 1004 = .ok (.aload_n 0, 1) := by decide +kernel
theorem dX16_init_1005 : decode cX16_init 1005 = .ok (.bipush 44, 2) := by decide +kernel
theorem dX16_init_1007 : decode cX16_init 1007 = .ok (.newarray .int, 2) := by decide +kernel
theorem dX16_init_1009 : decode cX16_init 1009 = .ok (.putfield 315, 3) := by decide +kernel
theorem dX16_init_1012 : decode cX16_init 1012 = .ok (.aload_n 0, 1) := by decide +kernel
theorem dX16_init_1013 : decode cX16_init 1013 = .ok (.sipush 12760, 3) := by decide +kernel
theorem dX16_init_1016 : decode cX16_init 1016 = .ok (.newarray .int, 2) := by decide +kernel
theorem dX16_init_1018 : decode cX16_init 1018 = .ok (.putfield 318, 3) := by decide +kernel
theorem dX16_init_1021 : decode cX16_init 1021 = .ok (.aload_n 0, 1) := by decide +kernel
theorem dX16_init_1022 : decode cX16_init 1022 = .ok (.bipush 44, 2) := by decide +kernel
theorem dX16_init_1024 : decode cX16_init 1024 = .ok (.newarray .int, 2) := by decide +kernel
theorem dX16_init_1026 : decode cX16_init 1026 = .ok (.putfield 321, 3) := by decide +kernel
theorem dX16_init_1029 : decode cX16_init 1029 = .ok (.aload_n 0, 1) := by decide +kernel
theorem dX16_init_1030 : decode cX16_init 1030 = .ok (.sipush 8800, 3) := by decide +kernel
theorem dX16_init_1033 : decode cX16_init 1033 = .ok (.newarray .int, 2) := by decide +kernel
theorem dX16_init_1035 : decode cX16_init 1035 = .ok (.putfield 324, 3) := by decide +kernel
theorem dX16_init_1038 : decode cX16_init 1038 = .ok (.aload_n 0, 1) := by decide +kernel
theorem dX16_init_1039 : decode cX16_init 1039 = .ok (.sipush 8800, 3) := by decide +kernel
theorem dX16_init_1042 : decode cX16_init 1042 = .ok (.newarray .int, 2) := by decide +kernel
theorem dX16_init_1044 : decode cX16_init 1044 = .ok (.putfield 327, 3) := by decide +kernel
theorem dX16_init_1047 : decode cX16_init 1047 = .ok (.aload_n 0, 1) := by decide +kernel
theorem dX16_init_1048 : decode cX16_init 1048 = .ok (.sipush 8800, 3) := by decide +kernel
theorem dX16_init_1051 : decode cX16_init 1051 = .ok (.newarray .int, 2) := by decide +kernel
theorem dX16_init_1053 : decode cX16_init 1053 = .ok (.putfield 330, 3) := by decide +kernel
theorem dX16_init_1056 : decode cX16_init 1056 = .ok (.aload_n 0, 1) := by decide +kernel
theorem dX16_init_1057 : decode cX16_init 1057 = .ok (.sipush 8800, 3) := by decide +kernel
theorem dX16_init_1060 : decode cX16_init 1060 = .ok (.newarray .boolean, 2) := by decide +kernel
theorem dX16_init_1062 : decode cX16_init 1062 = .ok (.putfield 333, 3) := by decide +kernel
theorem dX16_init_1065 : decode cX16_init 1065 = .ok (.aload_n 0, 1) := by decide +kernel
theorem dX16_init_1066 : decode cX16_init 1066 = .ok (.bipush 44, 2) := by decide +kernel
theorem dX16_init_1068 : decode cX16_init 1068 = .ok (.newarray .int, 2) := by decide +kernel
theorem dX16_init_1070 : decode cX16_init 1070 = .ok (.putfield 336, 3) := by decide +kernel
theorem dX16_init_1073 : decode cX16_init 1073 = .ok (.aload_n 0, 1) := by decide +kernel
theorem dX16_init_1074 : decode cX16_init 1074 = .ok (.bipush 44, 2) := by decide +kernel
theorem dX16_init_1076 : decode cX16_init 1076 = .ok (.newarray .int, 2) := by decide +kernel
theorem dX16_init_1078 : decode cX16_init 1078 = .ok (.putfield 339, 3) := by decide +kernel
theorem dX16_init_1081 : decode cX16_init 1081 = .ok (.aload_n 0, 1) := by decide +kernel
theorem dX16_init_1082 : decode cX16_init 1082 = .ok (.sipush 256, 3) := by decide +kernel
theorem dX16_init_1085 : decode cX16_init 1085 = .ok (.newarray .int, 2) := by decide +kernel
theorem dX16_init_1087 : decode cX16_init 1087 = .ok (.putfield 342, 3) := by decide +kernel
theorem dX16_init_1090 : decode cX16_init 1090 = .ok (.aload_n 0, 1) := by decide +kernel
theorem dX16_init_1091 : decode cX16_init 1091 = .ok (.sipush 256, 3) := by decide +kernel
theorem dX16_init_1094 : decode cX16_init 1094 = .ok (.newarray .int, 2) := by decide +kernel
theorem dX16_init_1096 : decode cX16_init 1096 = .ok (.putfield 345, 3) := by decide +kernel
theorem dX16_init_1099 : decode cX16_init 1099 = .ok (.aload_n 0, 1) := by decide +kernel
theorem dX16_init_1100 : decode cX16_init 1100 = .ok (.sipush 256, 3) := by decide +kernel
theorem dX16_init_1103 : decode cX16_init 1103 = .ok (.newarray .int, 2) := by decide +kernel
theorem dX16_init_1105 : decode cX16_init 1105 = .ok (.putfield 348, 3) := by decide +kernel
theorem dX16_init_1108 : decode cX16_init 1108 = .ok (.aload_n 0, 1) := by decide +kernel
theorem dX16_init_1109 : decode cX16_init 1109 = .ok (.sipush 256, 3) := by decide +kernel
theorem dX16_init_1112 : decode cX16_init 1112 = .ok (.newarray .int, 2) := by decide +kernel
theorem dX16_init_1114 : decode cX16_init 1114 = .ok (.putfield 351, 3) := by decide +kernel
theorem dX16_init_1117 : decode cX16_init 1117 = .ok (.aload_n 0, 1) := by decide +kernel
theorem dX16_init_1118 : decode cX16_init 1118 = .ok (.sipush 256, 3) := by decide +kernel
theorem dX16_init_1121 : decode cX16_init 1121 = .ok (.newarray .int, 2) := by decide +kernel
theorem dX16_init_1123 : decode cX16_init 1123 = .ok (.putfield 354, 3) := by decide +kernel
theorem dX16_init_1126 : decode cX16_init 1126 = .ok (.aload_n 0, 1) := by decide +kernel
theorem dX16_init_1127 : decode cX16_init 1127 = .ok (.ldc_w 357, 3) := by decide +kernel
theorem dX16_init_1130 : decode cX16_init 1130 = .ok (.newarray .int, 2) := by decide +kernel
theorem dX16_init_1132 : decode cX16_init 1132 = .ok (.putfield 358, 3) := by decide +kernel
theorem dX16_init_1135 : decode cX16_init 1135 = .ok (.aload_n 0, 1) := by decide +kernel
theorem dX16_init_1136 : decode cX16_init 1136 = .ok (.sipush 460, 3) := by decide +kernel
theorem dX16_init_1139 : decode cX16_init 1139 = .ok (.newarray .int, 2) := by decide +kernel
theorem dX16_init_1141 : decode cX16_init 1141 = .ok (.putfield 361, 3) := by decide +kernel
theorem dX16_init_1144 : decode cX16_init 1144 = .ok (.aload_n 0, 1) := by decide +kernel
theorem dX16_init_1145 : decode cX16_init 1145 = .ok (.iconst 5, 1) := by decide +kernel
theorem dX16_init_1146 : decode cX16_init 1146 = .ok (.newarray .int, 2) := by decide +kernel
theorem dX16_init_1148 : decode cX16_init 1148 = .ok (.putfield 364, 3) := by decide +kernel
theorem dX16_init_1151 : decode cX16_init 1151 = .ok (.aload_n 0, 1) := by decide +kernel
theorem dX16_init_1152 : decode cX16_init 1152 = .ok (.iconst 5, 1) := by decide +kernel
theorem dX16_init_1153 : decode cX16_init 1153 = .ok (.newarray .int, 2) := by decide +kernel
theorem dX16_init_1155 : decode cX16_init 1155 = .ok (.putfield 367, 3) := by decide +kernel
theorem dX16_init_1158 : decode cX16_init 1158 = .ok (.aload_n 0, 1) := by decide +kernel
theorem dX16_init_1159 : decode cX16_init 1159 = .ok (.bipush 40, 2) := by decide +kernel
theorem dX16_init_1161 : decode cX16_init 1161 = .ok (.newarray .int, 2) := by decide +kernel
theorem dX16_init_1163 : decode cX16_init 1163 = .ok (.putfield 370, 3) := by decide +kernel
theorem dX16_init_1166 : decode cX16_init 1166 = .ok (.aload_n 0, 1) := by decide +kernel
theorem dX16_init_1167 : decode cX16_init 1167 = .ok (.sipush 512, 3) := by decide +kernel
theorem dX16_init_1170 : decode cX16_init 1170 = .ok (.newarray .int, 2) := by decide +kernel
theorem dX16_init_1172 : decode cX16_init 1172 = .ok (.putfield 373, 3) := by decide +kernel
theorem dX16_init_1175 : decode cX16_init 1175 = .ok (.aload_n 0, 1) := by decide +kernel
theorem dX16_init_1176 : decode cX16_init 1176 = .ok (.iload_n 1, 1) := by decide +kernel
theorem dX16_init_1177 : decode cX16_init 1177 = .ok (.iconst 1, 1) := by decide +kernel
theorem dX16_init_1178 : decode cX16_init 1178 = .ok (.if_icmp .ge 7, 3) := by decide +kernel
theorem dX16_init_1181 : decode cX16_init 1181 = .ok (.iconst 1, 1) := by decide +kernel
theorem dX16_init_1182 : decode cX16_init 1182 = .ok (.goto 15, 3) := by decide +kernel
theorem dX16_init_1185 : decode cX16_init 1185 = .ok (.iload_n 1, 1) := by decide +kernel
theorem dX16_init_1186 : decode cX16_init 1186 = .ok (.bipush 20, 2) := by decide +kernel
theorem dX16_init_1188 : decode cX16_init 1188 = .ok (.if_icmp .le 8, 3) := by decide +kernel
theorem dX16_init_1191 : decode cX16_init 1191 = .ok (.bipush 20, 2) := by decide +kernel
theorem dX16_init_1193 : decode cX16_init 1193 = .ok (.goto 4, 3) := by decide +kernel
theorem dX16_init_1196 : decode cX16_init 1196 = .ok (.iload_n 1, 1) := by decide +kernel
theorem dX16_init_1197 : decode cX16_init 1197 = .ok (.putfield 376, 3) := by decide +kernel
theorem dX16_init_1200 : decode cX16_init 1200 = .ok (.aload_n 0, 1) := by decide +kernel
theorem dX16_init_1201 : decode cX16_init 1201 = .ok (.iload_n 2, 1) := by decide +kernel
theorem dX16_init_1202 : decode cX16_init 1202 = .ok (.iconst 1, 1) := by decide +kernel
theorem dX16_init_1203 : decode cX16_init 1203 = .ok (.if_icmp .ge 7, 3) := by decide +kernel
theorem dX16_init_1206 : decode cX16_init 1206 = .ok (.iconst 1, 1) := by decide +kernel
theorem dX16_init_1207 : decode cX16_init 1207 = .ok (.goto 15, 3) := by decide +kernel
theorem dX16_init_1210 : decode cX16_init 1210 = .ok (.iload_n 2, 1) := by decide +kernel
theorem dX16_init_1211 : decode cX16_init 1211 = .ok (.bipush 8, 2) := by decide +kernel
theorem dX16_init_1213 : decode cX16_init 1213 = .ok (.if_icmp .le 8, 3) := by decide +kernel
theorem dX16_init_1216 : decode cX16_init 1216 = .ok (.bipush 8, 2) := by decide +kernel
theorem dX16_init_1218 : decode cX16_init 1218 = .ok (.goto 4, 3) := by decide +kernel
theorem dX16_init_1221 : decode cX16_init 1221 = .ok (.iload_n 2, 1) := by decide +kernel
theorem dX16_init_1222 : decode cX16_init 1222 = .ok (.putfield 380, 3) := by decide +kernel
theorem dX16_init_1225 : decode cX16_init 1225 = .ok (.return_, 1) := by decide +kernel
def j_X16_init_1222 (y0 y1 : Int) (M : MM) : Option (MM) :=
  (pfi 16 1 y0 y1 M).bind fun M1 =>
  some M1
def j_X16_init_1197 (x0 x2 y0 y1 : Int) (M : MM) : Option (MM) :=
  (pfi 16 0 y0 y1 M).bind fun M1 =>
  if w32 x2 < w32 1 then
    j_X16_init_1222 x0 1 M1
  else
    if w32 8 < w32 x2 then
      j_X16_init_1222 x0 8 M1
    else
      j_X16_init_1222 x0 x2 M1
def j_X16_init_1126 (x0 x1 x2 : Int) (M : MM) : Option (MM) :=
  (nar 768 46080 M).bind fun r1 =>
  (pfr 16 137 x0 r1.1 r1.2).bind fun M1 =>
  (nar 784 460 M1).bind fun r2 =>
  (pfr 16 139 x0 r2.1 r2.2).bind fun M2 =>
  (nar 800 5 M2).bind fun r3 =>
  (pfr 16 140 x0 r3.1 r3.2).bind fun M3 =>
  (nar 816 5 M3).bind fun r4 =>
  (pfr 16 141 x0 r4.1 r4.2).bind fun M4 =>
  (nar 832 40 M4).bind fun r5 =>
  (pfr 16 143 x0 r5.1 r5.2).bind fun M5 =>
  (nar 848 512 M5).bind fun r6 =>
  (pfr 16 144 x0 r6.1 r6.2).bind fun M6 =>
  if w32 x1 < w32 1 then
    j_X16_init_1197 x0 x2 x0 1 M6
  else
    if w32 20 < w32 x1 then
      j_X16_init_1197 x0 x2 x0 20 M6
    else
      j_X16_init_1197 x0 x2 x0 x1 M6
def j_X16_init_996 (x0 x1 x2 : Int) (M : MM) : Option (MM) :=
  (nar 864 44 M).bind fun r1 =>
  (pfr 16 122 x0 r1.1 r1.2).bind fun M1 =>
  (nar 880 44 M1).bind fun r2 =>
  (pfr 16 123 x0 r2.1 r2.2).bind fun M2 =>
  (nar 896 12760 M2).bind fun r3 =>
  (pfr 16 124 x0 r3.1 r3.2).bind fun M3 =>
  (nar 912 44 M3).bind fun r4 =>
  (pfr 16 125 x0 r4.1 r4.2).bind fun M4 =>
  (nar 928 8800 M4).bind fun r5 =>
  (pfr 16 126 x0 r5.1 r5.2).bind fun M5 =>
  (nar 944 8800 M5).bind fun r6 =>
  (pfr 16 127 x0 r6.1 r6.2).bind fun M6 =>
  (nar 960 8800 M6).bind fun r7 =>
  (pfr 16 128 x0 r7.1 r7.2).bind fun M7 =>
  (nar 978 8800 M7).bind fun r8 =>
  (pfr 16 129 x0 r8.1 r8.2).bind fun M8 =>
  (nar 992 44 M8).bind fun r9 =>
  (pfr 16 130 x0 r9.1 r9.2).bind fun M9 =>
  (nar 1008 44 M9).bind fun r10 =>
  (pfr 16 131 x0 r10.1 r10.2).bind fun M10 =>
  (nar 1024 256 M10).bind fun r11 =>
  (pfr 16 132 x0 r11.1 r11.2).bind fun M11 =>
  (nar 1040 256 M11).bind fun r12 =>
  (pfr 16 133 x0 r12.1 r12.2).bind fun M12 =>
  (nar 1056 256 M12).bind fun r13 =>
  (pfr 16 134 x0 r13.1 r13.2).bind fun M13 =>
  (nar 1072 256 M13).bind fun r14 =>
  (pfr 16 135 x0 r14.1 r14.2).bind fun M14 =>
  (nar 1088 256 M14).bind fun r15 =>
  (pfr 16 136 x0 r15.1 r15.2).bind fun M15 =>
  j_X16_init_1126 x0 x1 x2 M15
def j_X16_init_871 (x0 x1 x2 : Int) (M : MM) : Option (MM) :=
  (nar 1104 21 M).bind fun r1 =>
  (pfr 16 107 x0 r1.1 r1.2).bind fun M1 =>
  (nar 1120 44 M1).bind fun r2 =>
  (pfr 16 108 x0 r2.1 r2.2).bind fun M2 =>
  (nar 1136 44 M2).bind fun r3 =>
  (pfr 16 109 x0 r3.1 r3.2).bind fun M3 =>
  (nar 1152 44 M3).bind fun r4 =>
  (pfr 16 110 x0 r4.1 r4.2).bind fun M4 =>
  (nar 1168 44 M4).bind fun r5 =>
  (pfr 16 111 x0 r5.1 r5.2).bind fun M5 =>
  (nar 1184 44 M5).bind fun r6 =>
  (pfr 16 112 x0 r6.1 r6.2).bind fun M6 =>
  (nar 1202 44 M6).bind fun r7 =>
  (pfr 16 113 x0 r7.1 r7.2).bind fun M7 =>
  (nar 1216 44 M7).bind fun r8 =>
  (pfr 16 114 x0 r8.1 r8.2).bind fun M8 =>
  (nar 1232 44 M8).bind fun r9 =>
  (pfr 16 115 x0 r9.1 r9.2).bind fun M9 =>
  (nar 1248 660 M9).bind fun r10 =>
  (pfr 16 116 x0 r10.1 r10.2).bind fun M10 =>
  (nar 1264 132 M10).bind fun r11 =>
  (pfr 16 117 x0 r11.1 r11.2).bind fun M11 =>
  (nar 1280 660 M11).bind fun r12 =>
  (pfr 16 118 x0 r12.1 r12.2).bind fun M12 =>
  (nar 1296 132 M12).bind fun r13 =>
  (pfr 16 119 x0 r13.1 r13.2).bind fun M13 =>
  (nar 1312 132 M13).bind fun r14 =>
  (pfr 16 120 x0 r14.1 r14.2).bind fun M14 =>
  (nar 1328 44 M14).bind fun r15 =>
  (pfr 16 121 x0 r15.1 r15.2).bind fun M15 =>
  j_X16_init_996 x0 x1 x2 M15
def j_X16_init_746 (x0 x1 x2 : Int) (M : MM) : Option (MM) :=
  (nar 1344 30 M).bind fun r1 =>
  (pfr 16 90 x0 r1.1 r1.2).bind fun M1 =>
  (nar 1362 44 M1).bind fun r2 =>
  (pfr 16 92 x0 r2.1 r2.2).bind fun M2 =>
  (nar 1376 44 M2).bind fun r3 =>
  (pfr 16 93 x0 r3.1 r3.2).bind fun M3 =>
  (nar 1392 44 M3).bind fun r4 =>
  (pfr 16 94 x0 r4.1 r4.2).bind fun M4 =>
  (nar 1408 44 M4).bind fun r5 =>
  (pfr 16 95 x0 r5.1 r5.2).bind fun M5 =>
  (nar 1424 44 M5).bind fun r6 =>
  (pfr 16 96 x0 r6.1 r6.2).bind fun M6 =>
  (nar 1440 44 M6).bind fun r7 =>
  (pfr 16 97 x0 r7.1 r7.2).bind fun M7 =>
  (nar 1456 220 M7).bind fun r8 =>
  (pfr 16 98 x0 r8.1 r8.2).bind fun M8 =>
  (nar 1474 44 M8).bind fun r9 =>
  (pfr 16 99 x0 r9.1 r9.2).bind fun M9 =>
  (nar 1488 44 M9).bind fun r10 =>
  (pfr 16 100 x0 r10.1 r10.2).bind fun M10 =>
  (nar 1504 14300 M10).bind fun r11 =>
  (pfr 16 101 x0 r11.1 r11.2).bind fun M11 =>
  (nar 1520 2860 M11).bind fun r12 =>
  (pfr 16 102 x0 r12.1 r12.2).bind fun M12 =>
  (nar 1536 2860 M12).bind fun r13 =>
  (pfr 16 103 x0 r13.1 r13.2).bind fun M13 =>
  (nar 1552 2860 M13).bind fun r14 =>
  (pfr 16 104 x0 r14.1 r14.2).bind fun M14 =>
  (nar 1568 44 M14).bind fun r15 =>
  (pfr 16 105 x0 r15.1 r15.2).bind fun M15 =>
  j_X16_init_871 x0 x1 x2 M15
def j_X16_init_619 (x0 x1 x2 : Int) (M : MM) : Option (MM) :=
  (nar 1584 32 M).bind fun r1 =>
  (pfr 16 66 x0 r1.1 r1.2).bind fun M1 =>
  (nar 1600 32000 M1).bind fun r2 =>
  (pfr 16 67 x0 r2.1 r2.2).bind fun M2 =>
  (nar 1616 6400 M2).bind fun r3 =>
  (pfr 16 68 x0 r3.1 r3.2).bind fun M3 =>
  (nar 1632 6400 M3).bind fun r4 =>
  (pfr 16 69 x0 r4.1 r4.2).bind fun M4 =>
  (nar 1648 6400 M4).bind fun r5 =>
  (pfr 16 70 x0 r5.1 r5.2).bind fun M5 =>
  (nar 1664 6400 M5).bind fun r6 =>
  (pfr 16 71 x0 r6.1 r6.2).bind fun M6 =>
  (nar 1680 200 M6).bind fun r7 =>
  (pfr 16 73 x0 r7.1 r7.2).bind fun M7 =>
  (nar 1696 16 M7).bind fun r8 =>
  (pfr 16 75 x0 r8.1 r8.2).bind fun M8 =>
  (nar 1712 16 M8).bind fun r9 =>
  (pfr 16 76 x0 r9.1 r9.2).bind fun M9 =>
  (nar 1728 16 M9).bind fun r10 =>
  (pfr 16 77 x0 r10.1 r10.2).bind fun M10 =>
  (nar 1744 290 M10).bind fun r11 =>
  (pfr 16 80 x0 r11.1 r11.2).bind fun M11 =>
  (nar 1760 30 M11).bind fun r12 =>
  (pfr 16 85 x0 r12.1 r12.2).bind fun M12 =>
  (nar 1776 30 M12).bind fun r13 =>
  (pfr 16 86 x0 r13.1 r13.2).bind fun M13 =>
  (nar 1792 30 M13).bind fun r14 =>
  (pfr 16 87 x0 r14.1 r14.2).bind fun M14 =>
  (nar 1808 30 M14).bind fun r15 =>
  (pfr 16 89 x0 r15.1 r15.2).bind fun M15 =>
  j_X16_init_746 x0 x1 x2 M15
def j_X16_init_488 (x0 x1 x2 : Int) (M : MM) : Option (MM) :=
  (nar 1824 5 M).bind fun r1 =>
  (pfr 16 49 x0 r1.1 r1.2).bind fun M1 =>
  (nar 1840 21 M1).bind fun r2 =>
  (pfr 16 51 x0 r2.1 r2.2).bind fun M2 =>
  (nar 1858 1280 M2).bind fun r3 =>
  (pfr 16 52 x0 r3.1 r3.2).bind fun M3 =>
  (nar 1872 1280 M3).bind fun r4 =>
  (pfr 16 53 x0 r4.1 r4.2).bind fun M4 =>
  (nar 1888 1280 M4).bind fun r5 =>
  (pfr 16 54 x0 r5.1 r5.2).bind fun M5 =>
  (nar 1904 6400 M5).bind fun r6 =>
  (pfr 16 55 x0 r6.1 r6.2).bind fun M6 =>
  (nar 1920 1280 M6).bind fun r7 =>
  (pfr 16 56 x0 r7.1 r7.2).bind fun M7 =>
  (nar 1936 1280 M7).bind fun r8 =>
  (pfr 16 57 x0 r8.1 r8.2).bind fun M8 =>
  (nar 1952 1280 M8).bind fun r9 =>
  (pfr 16 58 x0 r9.1 r9.2).bind fun M9 =>
  (nar 1968 1280 M9).bind fun r10 =>
  (pfr 16 59 x0 r10.1 r10.2).bind fun M10 =>
  (nar 1984 1280 M10).bind fun r11 =>
  (pfr 16 60 x0 r11.1 r11.2).bind fun M11 =>
  (nar 2000 1280 M11).bind fun r12 =>
  (pfr 16 61 x0 r12.1 r12.2).bind fun M12 =>
  (nar 2016 1280 M12).bind fun r13 =>
  (pfr 16 62 x0 r13.1 r13.2).bind fun M13 =>
  (nar 2032 448000 M13).bind fun r14 =>
  (pfr 16 63 x0 r14.1 r14.2).bind fun M14 =>
  (nar 2048 325 M14).bind fun r15 =>
  (pfr 16 65 x0 r15.1 r15.2).bind fun M15 =>
  j_X16_init_619 x0 x1 x2 M15
def j_X16_init_360 (x0 x1 x2 : Int) (M : MM) : Option (MM) :=
  (nar 2064 250 M).bind fun r1 =>
  (pfr 16 30 x0 r1.1 r1.2).bind fun M1 =>
  (nar 2080 250 M1).bind fun r2 =>
  (pfr 16 31 x0 r2.1 r2.2).bind fun M2 =>
  (nar 2096 400 M2).bind fun r3 =>
  (pfr 16 34 x0 r3.1 r3.2).bind fun M3 =>
  (nar 2112 400 M3).bind fun r4 =>
  (pfr 16 35 x0 r4.1 r4.2).bind fun M4 =>
  (nar 2128 400 M4).bind fun r5 =>
  (pfr 16 36 x0 r5.1 r5.2).bind fun M5 =>
  (nar 2144 400 M5).bind fun r6 =>
  (pfr 16 37 x0 r6.1 r6.2).bind fun M6 =>
  (nar 2160 400 M6).bind fun r7 =>
  (pfr 16 38 x0 r7.1 r7.2).bind fun M7 =>
  (nar 2176 184000 M7).bind fun r8 =>
  (pfr 16 39 x0 r8.1 r8.2).bind fun M8 =>
  (nar 2192 460 M8).bind fun r9 =>
  (pfr 16 40 x0 r9.1 r9.2).bind fun M9 =>
  (nar 2208 32 M9).bind fun r10 =>
  (pfr 16 43 x0 r10.1 r10.2).bind fun M10 =>
  (nar 2224 176000 M10).bind fun r11 =>
  (pfr 16 44 x0 r11.1 r11.2).bind fun M11 =>
  (nar 2240 35200 M11).bind fun r12 =>
  (pfr 16 45 x0 r12.1 r12.2).bind fun M12 =>
  (nar 2256 35200 M12).bind fun r13 =>
  (pfr 16 46 x0 r13.1 r13.2).bind fun M13 =>
  (nar 2274 35200 M13).bind fun r14 =>
  (pfr 16 47 x0 r14.1 r14.2).bind fun M14 =>
  (nar 2288 35200 M14).bind fun r15 =>
  (pfr 16 48 x0 r15.1 r15.2).bind fun M15 =>
  j_X16_init_488 x0 x1 x2 M15
def j_X16_init_234 (x0 x1 x2 : Int) (M : MM) : Option (MM) :=
  (nar 2304 160 M).bind fun r1 =>
  (pfr 16 14 x0 r1.1 r1.2).bind fun M1 =>
  (nar 2320 32 M1).bind fun r2 =>
  (pfr 16 15 x0 r2.1 r2.2).bind fun M2 =>
  (nar 2336 32 M2).bind fun r3 =>
  (pfr 16 16 x0 r3.1 r3.2).bind fun M3 =>
  (nar 2352 32 M3).bind fun r4 =>
  (pfr 16 17 x0 r4.1 r4.2).bind fun M4 =>
  (nar 2368 32 M4).bind fun r5 =>
  (pfr 16 18 x0 r5.1 r5.2).bind fun M5 =>
  (nar 2384 32 M5).bind fun r6 =>
  (pfr 16 19 x0 r6.1 r6.2).bind fun M6 =>
  (nar 2400 32 M6).bind fun r7 =>
  (pfr 16 20 x0 r7.1 r7.2).bind fun M7 =>
  (nar 2416 160 M7).bind fun r8 =>
  (pfr 16 21 x0 r8.1 r8.2).bind fun M8 =>
  (nar 2432 32 M8).bind fun r9 =>
  (pfr 16 22 x0 r9.1 r9.2).bind fun M9 =>
  (nar 2448 32 M9).bind fun r10 =>
  (pfr 16 23 x0 r10.1 r10.2).bind fun M10 =>
  (nar 2464 24576 M10).bind fun r11 =>
  (pfr 16 24 x0 r11.1 r11.2).bind fun M11 =>
  (nar 2480 2048 M11).bind fun r12 =>
  (pfr 16 25 x0 r12.1 r12.2).bind fun M12 =>
  (nar 2496 10240 M12).bind fun r13 =>
  (pfr 16 26 x0 r13.1 r13.2).bind fun M13 =>
  (nar 2512 32768 M13).bind fun r14 =>
  (pfr 16 27 x0 r14.1 r14.2).bind fun M14 =>
  (nar 2528 3000 M14).bind fun r15 =>
  (pfr 16 29 x0 r15.1 r15.2).bind fun M15 =>
  j_X16_init_360 x0 x1 x2 M15
def j_X16_init_105 (x0 x1 x2 : Int) (M : MM) : Option (MM) :=
  (nar 2544 11 M).bind fun r1 =>
  (sai r1.1 0 0 r1.2).bind fun M1 =>
  (sai r1.1 1 1 M1).bind fun M2 =>
  (sai r1.1 2 0 M2).bind fun M3 =>
  (sai r1.1 3 0 M3).bind fun M4 =>
  (sai r1.1 4 1 M4).bind fun M5 =>
  (sai r1.1 5 0 M5).bind fun M6 =>
  (sai r1.1 6 0 M6).bind fun M7 =>
  (sai r1.1 7 1 M7).bind fun M8 =>
  (sai r1.1 8 0 M8).bind fun M9 =>
  (sai r1.1 9 1 M9).bind fun M10 =>
  (sai r1.1 10 0 M10).bind fun M11 =>
  (pfr 16 9 x0 r1.1 M11).bind fun M12 =>
  (nar 2560 11 M12).bind fun r2 =>
  (sai r2.1 0 1000 r2.2).bind fun M13 =>
  (sai r2.1 1 50 M13).bind fun M14 =>
  (sai r2.1 2 50 M14).bind fun M15 =>
  (sai r2.1 3 1000 M15).bind fun M16 =>
  (sai r2.1 4 500 M16).bind fun M17 =>
  (sai r2.1 5 3 M17).bind fun M18 =>
  (sai r2.1 6 10000 M18).bind fun M19 =>
  (sai r2.1 7 100000 M19).bind fun M20 =>
  (sai r2.1 8 10000 M20).bind fun M21 =>
  (sai r2.1 9 8 M21).bind fun M22 =>
  (sai r2.1 10 2147483647 M22).bind fun M23 =>
  (pfr 16 10 x0 r2.1 M23).bind fun M24 =>
  j_X16_init_234 x0 x1 x2 M24
def f_X16_init (x0 x1 x2 : Int) (M : MM) : Option (MM) :=
  nn x0 <|
  (nar 2576 20 M).bind fun r1 =>
  (pfr 16 2 x0 r1.1 r1.2).bind fun M1 =>
  (nar 2592 500 M1).bind fun r2 =>
  (pfr 16 3 x0 r2.1 r2.2).bind fun M2 =>
  (nar 2608 576 M2).bind fun r3 =>
  (pfr 16 5 x0 r3.1 r3.2).bind fun M3 =>
  (nar 2624 80 M3).bind fun r4 =>
  (pfr 16 6 x0 r4.1 r4.2).bind fun M4 =>
  (nar 2640 5 M4).bind fun r5 =>
  (pfr 16 7 x0 r5.1 r5.2).bind fun M5 =>
  (nar 2656 11 M5).bind fun r6 =>
  (sai r6.1 0 0 r6.2).bind fun M6 =>
  (sai r6.1 1 1 M6).bind fun M7 =>
  (sai r6.1 2 0 M7).bind fun M8 =>
  (sai r6.1 3 0 M8).bind fun M9 =>
  (sai r6.1 4 20 M9).bind fun M10 =>
  (sai r6.1 5 1 M10).bind fun M11 =>
  (sai r6.1 6 0 M11).bind fun M12 =>
  (sai r6.1 7 10000 M12).bind fun M13 =>
  (sai r6.1 8 0 M13).bind fun M14 =>
  (sai r6.1 9 4 M14).bind fun M15 =>
  (sai r6.1 10 1 M15).bind fun M16 =>
  (pfr 16 8 x0 r6.1 M16).bind fun M17 =>
  j_X16_init_105 x0 x1 x2 M17
theorem s_X16_init_1222 {g : GG} {d : Nat} (hD : 1 ≤ d) {y0 y1 : Int} {M : MM} {o : AV × MM} {P : (MM) → Prop} (r0 : ∀ r : MM, P r → o = ((9, 0), r)) {z : MM} (h : j_X16_init_1222 y0 y1 M = some z) (hz : P z) : Sem g d YX16_init 1222 [(9, 0), (9, 0), (9, 0)] [(0, y1), (1, y0)] M o := by
  delta j_X16_init_1222 at h
  refine P_pfi FLX16_380 FPX16_380 rfl dX16_init_1222 h (fun M1 h => ?_)
  obtain rfl := r0 _ (some_P (P := fun r => P r) h hz)
  exact S_return dX16_init_1225 rfl
theorem s_X16_init_1197 {g : GG} {d : Nat} (hD : 1 ≤ d) {x0 x2 y0 y1 : Int} {M : MM} {o : AV × MM} {P : (MM) → Prop} (r0 : ∀ r : MM, P r → o = ((9, 0), r)) {z : MM} (h : j_X16_init_1197 x0 x2 y0 y1 M = some z) (hz : P z) : Sem g d YX16_init 1197 [(1, x0), (9, 0), (0, x2)] [(0, y1), (1, y0)] M o := by
  delta j_X16_init_1197 at h
  refine P_pfi FLX16_376 FPX16_376 rfl dX16_init_1197 h (fun M1 h => ?_)
  refine S_aload_n (i := 0) dX16_init_1200 rfl rfl ?_
  refine S_iload_n (i := 2) dX16_init_1201 rfl rfl ?_
  refine S_iconst dX16_init_1202 rfl ?_
  refine P_icmp_ge (tgt := 1210) dX16_init_1203 rfl h (fun h => ?_) (fun h => ?_)
  · refine S_iload_n (i := 2) dX16_init_1210 rfl rfl ?_
    refine S_bipush (z := 8) dX16_init_1211 rfl ?_
    refine P_icmp_le (tgt := 1221) dX16_init_1213 rfl h (fun h => ?_) (fun h => ?_)
    · refine S_iload_n (i := 2) dX16_init_1221 rfl rfl ?_
      refine S_weak (ls' := [(9, 0), (9, 0), (9, 0)]) ⟨Or.inl rfl, ⟨Or.inl rfl, ⟨Or.inl rfl, trivial⟩⟩⟩ ?_
      exact s_X16_init_1222 hD r0 h hz
    · refine S_bipush (z := 8) dX16_init_1216 rfl ?_
      refine S_goto (tgt := 1222) dX16_init_1218 rfl ?_
      refine S_weak (ls' := [(9, 0), (9, 0), (9, 0)]) ⟨Or.inl rfl, ⟨Or.inl rfl, ⟨Or.inl rfl, trivial⟩⟩⟩ ?_
      exact s_X16_init_1222 hD r0 h hz
  · refine S_iconst dX16_init_1206 rfl ?_
    refine S_goto (tgt := 1222) dX16_init_1207 rfl ?_
    refine S_weak (ls' := [(9, 0), (9, 0), (9, 0)]) ⟨Or.inl rfl, ⟨Or.inl rfl, ⟨Or.inl rfl, trivial⟩⟩⟩ ?_
    exact s_X16_init_1222 hD r0 h hz
theorem s_X16_init_1126 {g : GG} {d : Nat} (hD : 1 ≤ d) {x0 x1 x2 : Int} {M : MM} {o : AV × MM} {P : (MM) → Prop} (r0 : ∀ r : MM, P r → o = ((9, 0), r)) {z : MM} (h : j_X16_init_1126 x0 x1 x2 M = some z) (hz : P z) : Sem g d YX16_init 1126 [(1, x0), (0, x1), (0, x2)] [] M o := by
  delta j_X16_init_1126 at h
  refine S_aload_n (i := 0) dX16_init_1126 rfl rfl ?_
  refine S_ldcw (z := 46080) kX16_357 dX16_init_1127 ?_
  refine P_nar (k := 768) (t := 0) (at' := .int) (by decide) (by decide) rfl q248 dX16_init_1130 h (fun r1 h => ?_)
  refine P_pfr FLX16_358 FPX16_358 (Or.inr ⟨_, rfl⟩) rfl dX16_init_1132 h (fun M1 h => ?_)
  refine S_aload_n (i := 0) dX16_init_1135 rfl rfl ?_
  refine S_sipush (z := 460) dX16_init_1136 rfl ?_
  refine P_nar (k := 784) (t := 0) (at' := .int) (by decide) (by decide) rfl q248 dX16_init_1139 h (fun r2 h => ?_)
  refine P_pfr FLX16_361 FPX16_361 (Or.inr ⟨_, rfl⟩) rfl dX16_init_1141 h (fun M2 h => ?_)
  refine S_aload_n (i := 0) dX16_init_1144 rfl rfl ?_
  refine S_iconst dX16_init_1145 rfl ?_
  refine P_nar (k := 800) (t := 0) (at' := .int) (by decide) (by decide) rfl q248 dX16_init_1146 h (fun r3 h => ?_)
  refine P_pfr FLX16_364 FPX16_364 (Or.inr ⟨_, rfl⟩) rfl dX16_init_1148 h (fun M3 h => ?_)
  refine S_aload_n (i := 0) dX16_init_1151 rfl rfl ?_
  refine S_iconst dX16_init_1152 rfl ?_
  refine P_nar (k := 816) (t := 0) (at' := .int) (by decide) (by decide) rfl q248 dX16_init_1153 h (fun r4 h => ?_)
  refine P_pfr FLX16_367 FPX16_367 (Or.inr ⟨_, rfl⟩) rfl dX16_init_1155 h (fun M4 h => ?_)
  refine S_aload_n (i := 0) dX16_init_1158 rfl rfl ?_
  refine S_bipush (z := 40) dX16_init_1159 rfl ?_
  refine P_nar (k := 832) (t := 0) (at' := .int) (by decide) (by decide) rfl q248 dX16_init_1161 h (fun r5 h => ?_)
  refine P_pfr FLX16_370 FPX16_370 (Or.inr ⟨_, rfl⟩) rfl dX16_init_1163 h (fun M5 h => ?_)
  refine S_aload_n (i := 0) dX16_init_1166 rfl rfl ?_
  refine S_sipush (z := 512) dX16_init_1167 rfl ?_
  refine P_nar (k := 848) (t := 0) (at' := .int) (by decide) (by decide) rfl q248 dX16_init_1170 h (fun r6 h => ?_)
  refine P_pfr FLX16_373 FPX16_373 (Or.inr ⟨_, rfl⟩) rfl dX16_init_1172 h (fun M6 h => ?_)
  refine S_aload_n (i := 0) dX16_init_1175 rfl rfl ?_
  refine S_iload_n (i := 1) dX16_init_1176 rfl rfl ?_
  refine S_iconst dX16_init_1177 rfl ?_
  refine P_icmp_ge (tgt := 1185) dX16_init_1178 rfl h (fun h => ?_) (fun h => ?_)
  · refine S_iload_n (i := 1) dX16_init_1185 rfl rfl ?_
    refine S_bipush (z := 20) dX16_init_1186 rfl ?_
    refine P_icmp_le (tgt := 1196) dX16_init_1188 rfl h (fun h => ?_) (fun h => ?_)
    · refine S_iload_n (i := 1) dX16_init_1196 rfl rfl ?_
      refine S_weak (ls' := [(1, x0), (9, 0), (0, x2)]) ⟨Or.inr rfl, ⟨Or.inl rfl, ⟨Or.inr rfl, trivial⟩⟩⟩ ?_
      exact s_X16_init_1197 hD r0 h hz
    · refine S_bipush (z := 20) dX16_init_1191 rfl ?_
      refine S_goto (tgt := 1197) dX16_init_1193 rfl ?_
      refine S_weak (ls' := [(1, x0), (9, 0), (0, x2)]) ⟨Or.inr rfl, ⟨Or.inl rfl, ⟨Or.inr rfl, trivial⟩⟩⟩ ?_
      exact s_X16_init_1197 hD r0 h hz
  · refine S_iconst dX16_init_1181 rfl ?_
    refine S_goto (tgt := 1197) dX16_init_1182 rfl ?_
    refine S_weak (ls' := [(1, x0), (9, 0), (0, x2)]) ⟨Or.inr rfl, ⟨Or.inl rfl, ⟨Or.inr rfl, trivial⟩⟩⟩ ?_
    exact s_X16_init_1197 hD r0 h hz
theorem s_X16_init_996 {g : GG} {d : Nat} (hD : 1 ≤ d) {x0 x1 x2 : Int} {M : MM} {o : AV × MM} {P : (MM) → Prop} (r0 : ∀ r : MM, P r → o = ((9, 0), r)) {z : MM} (h : j_X16_init_996 x0 x1 x2 M = some z) (hz : P z) : Sem g d YX16_init 996 [(1, x0), (0, x1), (0, x2)] [] M o := by
  delta j_X16_init_996 at h
  refine S_aload_n (i := 0) dX16_init_996 rfl rfl ?_
  refine S_bipush (z := 44) dX16_init_997 rfl ?_
  refine P_nar (k := 864) (t := 0) (at' := .int) (by decide) (by decide) rfl q248 dX16_init_999 h (fun r1 h => ?_)
  refine P_pfr FLX16_312 FPX16_312 (Or.inr ⟨_, rfl⟩) rfl dX16_init_1001 h (fun M1 h => ?_)
  refine S_aload_n (i := 0) dX16_init_1004 rfl rfl ?_
  refine S_bipush (z := 44) dX16_init_1005 rfl ?_
  refine P_nar (k := 880) (t := 0) (at' := .int) (by decide) (by decide) rfl q248 dX16_init_1007 h (fun r2 h => ?_)
  refine P_pfr FLX16_315 FPX16_315 (Or.inr ⟨_, rfl⟩) rfl dX16_init_1009 h (fun M2 h => ?_)
  refine S_aload_n (i := 0) dX16_init_1012 rfl rfl ?_
  refine S_sipush (z := 12760) dX16_init_1013 rfl ?_
  refine P_nar (k := 896) (t := 0) (at' := .int) (by decide) (by decide) rfl q248 dX16_init_1016 h (fun r3 h => ?_)
  refine P_pfr FLX16_318 FPX16_318 (Or.inr ⟨_, rfl⟩) rfl dX16_init_1018 h (fun M3 h => ?_)
  refine S_aload_n (i := 0) dX16_init_1021 rfl rfl ?_
  refine S_bipush (z := 44) dX16_init_1022 rfl ?_
  refine P_nar (k := 912) (t := 0) (at' := .int) (by decide) (by decide) rfl q248 dX16_init_1024 h (fun r4 h => ?_)
  refine P_pfr FLX16_321 FPX16_321 (Or.inr ⟨_, rfl⟩) rfl dX16_init_1026 h (fun M4 h => ?_)
  refine S_aload_n (i := 0) dX16_init_1029 rfl rfl ?_
  refine S_sipush (z := 8800) dX16_init_1030 rfl ?_
  refine P_nar (k := 928) (t := 0) (at' := .int) (by decide) (by decide) rfl q248 dX16_init_1033 h (fun r5 h => ?_)
  refine P_pfr FLX16_324 FPX16_324 (Or.inr ⟨_, rfl⟩) rfl dX16_init_1035 h (fun M5 h => ?_)
  refine S_aload_n (i := 0) dX16_init_1038 rfl rfl ?_
  refine S_sipush (z := 8800) dX16_init_1039 rfl ?_
  refine P_nar (k := 944) (t := 0) (at' := .int) (by decide) (by decide) rfl q248 dX16_init_1042 h (fun r6 h => ?_)
  refine P_pfr FLX16_327 FPX16_327 (Or.inr ⟨_, rfl⟩) rfl dX16_init_1044 h (fun M6 h => ?_)
  refine S_aload_n (i := 0) dX16_init_1047 rfl rfl ?_
  refine S_sipush (z := 8800) dX16_init_1048 rfl ?_
  refine P_nar (k := 960) (t := 0) (at' := .int) (by decide) (by decide) rfl q248 dX16_init_1051 h (fun r7 h => ?_)
  refine P_pfr FLX16_330 FPX16_330 (Or.inr ⟨_, rfl⟩) rfl dX16_init_1053 h (fun M7 h => ?_)
  refine S_aload_n (i := 0) dX16_init_1056 rfl rfl ?_
  refine S_sipush (z := 8800) dX16_init_1057 rfl ?_
  refine P_nar (k := 978) (t := 0) (at' := .boolean) (by decide) (by decide) rfl q1869 dX16_init_1060 h (fun r8 h => ?_)
  refine P_pfr FLX16_333 FPX16_333 (Or.inr ⟨_, rfl⟩) rfl dX16_init_1062 h (fun M8 h => ?_)
  refine S_aload_n (i := 0) dX16_init_1065 rfl rfl ?_
  refine S_bipush (z := 44) dX16_init_1066 rfl ?_
  refine P_nar (k := 992) (t := 0) (at' := .int) (by decide) (by decide) rfl q248 dX16_init_1068 h (fun r9 h => ?_)
  refine P_pfr FLX16_336 FPX16_336 (Or.inr ⟨_, rfl⟩) rfl dX16_init_1070 h (fun M9 h => ?_)
  refine S_aload_n (i := 0) dX16_init_1073 rfl rfl ?_
  refine S_bipush (z := 44) dX16_init_1074 rfl ?_
  refine P_nar (k := 1008) (t := 0) (at' := .int) (by decide) (by decide) rfl q248 dX16_init_1076 h (fun r10 h => ?_)
  refine P_pfr FLX16_339 FPX16_339 (Or.inr ⟨_, rfl⟩) rfl dX16_init_1078 h (fun M10 h => ?_)
  refine S_aload_n (i := 0) dX16_init_1081 rfl rfl ?_
  refine S_sipush (z := 256) dX16_init_1082 rfl ?_
  refine P_nar (k := 1024) (t := 0) (at' := .int) (by decide) (by decide) rfl q248 dX16_init_1085 h (fun r11 h => ?_)
  refine P_pfr FLX16_342 FPX16_342 (Or.inr ⟨_, rfl⟩) rfl dX16_init_1087 h (fun M11 h => ?_)
  refine S_aload_n (i := 0) dX16_init_1090 rfl rfl ?_
  refine S_sipush (z := 256) dX16_init_1091 rfl ?_
  refine P_nar (k := 1040) (t := 0) (at' := .int) (by decide) (by decide) rfl q248 dX16_init_1094 h (fun r12 h => ?_)
  refine P_pfr FLX16_345 FPX16_345 (Or.inr ⟨_, rfl⟩) rfl dX16_init_1096 h (fun M12 h => ?_)
  refine S_aload_n (i := 0) dX16_init_1099 rfl rfl ?_
  refine S_sipush (z := 256) dX16_init_1100 rfl ?_
  refine P_nar (k := 1056) (t := 0) (at' := .int) (by decide) (by decide) rfl q248 dX16_init_1103 h (fun r13 h => ?_)
  refine P_pfr FLX16_348 FPX16_348 (Or.inr ⟨_, rfl⟩) rfl dX16_init_1105 h (fun M13 h => ?_)
  refine S_aload_n (i := 0) dX16_init_1108 rfl rfl ?_
  refine S_sipush (z := 256) dX16_init_1109 rfl ?_
  refine P_nar (k := 1072) (t := 0) (at' := .int) (by decide) (by decide) rfl q248 dX16_init_1112 h (fun r14 h => ?_)
  refine P_pfr FLX16_351 FPX16_351 (Or.inr ⟨_, rfl⟩) rfl dX16_init_1114 h (fun M14 h => ?_)
  refine S_aload_n (i := 0) dX16_init_1117 rfl rfl ?_
  refine S_sipush (z := 256) dX16_init_1118 rfl ?_
  refine P_nar (k := 1088) (t := 0) (at' := .int) (by decide) (by decide) rfl q248 dX16_init_1121 h (fun r15 h => ?_)
  refine P_pfr FLX16_354 FPX16_354 (Or.inr ⟨_, rfl⟩) rfl dX16_init_1123 h (fun M15 h => ?_)
  exact s_X16_init_1126 hD r0 h hz
theorem s_X16_init_871 {g : GG} {d : Nat} (hD : 1 ≤ d) {x0 x1 x2 : Int} {M : MM} {o : AV × MM} {P : (MM) → Prop} (r0 : ∀ r : MM, P r → o = ((9, 0), r)) {z : MM} (h : j_X16_init_871 x0 x1 x2 M = some z) (hz : P z) : Sem g d YX16_init 871 [(1, x0), (0, x1), (0, x2)] [] M o := by
  delta j_X16_init_871 at h
  refine S_aload_n (i := 0) dX16_init_871 rfl rfl ?_
  refine S_bipush (z := 21) dX16_init_872 rfl ?_
  refine P_nar (k := 1104) (t := 0) (at' := .int) (by decide) (by decide) rfl q248 dX16_init_874 h (fun r1 h => ?_)
  refine P_pfr FLX16_267 FPX16_267 (Or.inr ⟨_, rfl⟩) rfl dX16_init_876 h (fun M1 h => ?_)
  refine S_aload_n (i := 0) dX16_init_879 rfl rfl ?_
  refine S_bipush (z := 44) dX16_init_880 rfl ?_
  refine P_nar (k := 1120) (t := 0) (at' := .int) (by decide) (by decide) rfl q248 dX16_init_882 h (fun r2 h => ?_)
  refine P_pfr FLX16_270 FPX16_270 (Or.inr ⟨_, rfl⟩) rfl dX16_init_884 h (fun M2 h => ?_)
  refine S_aload_n (i := 0) dX16_init_887 rfl rfl ?_
  refine S_bipush (z := 44) dX16_init_888 rfl ?_
  refine P_nar (k := 1136) (t := 0) (at' := .int) (by decide) (by decide) rfl q248 dX16_init_890 h (fun r3 h => ?_)
  refine P_pfr FLX16_273 FPX16_273 (Or.inr ⟨_, rfl⟩) rfl dX16_init_892 h (fun M3 h => ?_)
  refine S_aload_n (i := 0) dX16_init_895 rfl rfl ?_
  refine S_bipush (z := 44) dX16_init_896 rfl ?_
  refine P_nar (k := 1152) (t := 0) (at' := .int) (by decide) (by decide) rfl q248 dX16_init_898 h (fun r4 h => ?_)
  refine P_pfr FLX16_276 FPX16_276 (Or.inr ⟨_, rfl⟩) rfl dX16_init_900 h (fun M4 h => ?_)
  refine S_aload_n (i := 0) dX16_init_903 rfl rfl ?_
  refine S_bipush (z := 44) dX16_init_904 rfl ?_
  refine P_nar (k := 1168) (t := 0) (at' := .int) (by decide) (by decide) rfl q248 dX16_init_906 h (fun r5 h => ?_)
  refine P_pfr FLX16_279 FPX16_279 (Or.inr ⟨_, rfl⟩) rfl dX16_init_908 h (fun M5 h => ?_)
  refine S_aload_n (i := 0) dX16_init_911 rfl rfl ?_
  refine S_bipush (z := 44) dX16_init_912 rfl ?_
  refine P_nar (k := 1184) (t := 0) (at' := .int) (by decide) (by decide) rfl q248 dX16_init_914 h (fun r6 h => ?_)
  refine P_pfr FLX16_282 FPX16_282 (Or.inr ⟨_, rfl⟩) rfl dX16_init_916 h (fun M6 h => ?_)
  refine S_aload_n (i := 0) dX16_init_919 rfl rfl ?_
  refine S_bipush (z := 44) dX16_init_920 rfl ?_
  refine P_nar (k := 1202) (t := 0) (at' := .boolean) (by decide) (by decide) rfl q1869 dX16_init_922 h (fun r7 h => ?_)
  refine P_pfr FLX16_285 FPX16_285 (Or.inr ⟨_, rfl⟩) rfl dX16_init_924 h (fun M7 h => ?_)
  refine S_aload_n (i := 0) dX16_init_927 rfl rfl ?_
  refine S_bipush (z := 44) dX16_init_928 rfl ?_
  refine P_nar (k := 1216) (t := 0) (at' := .int) (by decide) (by decide) rfl q248 dX16_init_930 h (fun r8 h => ?_)
  refine P_pfr FLX16_288 FPX16_288 (Or.inr ⟨_, rfl⟩) rfl dX16_init_932 h (fun M8 h => ?_)
  refine S_aload_n (i := 0) dX16_init_935 rfl rfl ?_
  refine S_bipush (z := 44) dX16_init_936 rfl ?_
  refine P_nar (k := 1232) (t := 0) (at' := .int) (by decide) (by decide) rfl q248 dX16_init_938 h (fun r9 h => ?_)
  refine P_pfr FLX16_291 FPX16_291 (Or.inr ⟨_, rfl⟩) rfl dX16_init_940 h (fun M9 h => ?_)
  refine S_aload_n (i := 0) dX16_init_943 rfl rfl ?_
  refine S_sipush (z := 660) dX16_init_944 rfl ?_
  refine P_nar (k := 1248) (t := 0) (at' := .int) (by decide) (by decide) rfl q248 dX16_init_947 h (fun r10 h => ?_)
  refine P_pfr FLX16_294 FPX16_294 (Or.inr ⟨_, rfl⟩) rfl dX16_init_949 h (fun M10 h => ?_)
  refine S_aload_n (i := 0) dX16_init_952 rfl rfl ?_
  refine S_sipush (z := 132) dX16_init_953 rfl ?_
  refine P_nar (k := 1264) (t := 0) (at' := .int) (by decide) (by decide) rfl q248 dX16_init_956 h (fun r11 h => ?_)
  refine P_pfr FLX16_297 FPX16_297 (Or.inr ⟨_, rfl⟩) rfl dX16_init_958 h (fun M11 h => ?_)
  refine S_aload_n (i := 0) dX16_init_961 rfl rfl ?_
  refine S_sipush (z := 660) dX16_init_962 rfl ?_
  refine P_nar (k := 1280) (t := 0) (at' := .int) (by decide) (by decide) rfl q248 dX16_init_965 h (fun r12 h => ?_)
  refine P_pfr FLX16_300 FPX16_300 (Or.inr ⟨_, rfl⟩) rfl dX16_init_967 h (fun M12 h => ?_)
  refine S_aload_n (i := 0) dX16_init_970 rfl rfl ?_
  refine S_sipush (z := 132) dX16_init_971 rfl ?_
  refine P_nar (k := 1296) (t := 0) (at' := .int) (by decide) (by decide) rfl q248 dX16_init_974 h (fun r13 h => ?_)
  refine P_pfr FLX16_303 FPX16_303 (Or.inr ⟨_, rfl⟩) rfl dX16_init_976 h (fun M13 h => ?_)
  refine S_aload_n (i := 0) dX16_init_979 rfl rfl ?_
  refine S_sipush (z := 132) dX16_init_980 rfl ?_
  refine P_nar (k := 1312) (t := 0) (at' := .int) (by decide) (by decide) rfl q248 dX16_init_983 h (fun r14 h => ?_)
  refine P_pfr FLX16_306 FPX16_306 (Or.inr ⟨_, rfl⟩) rfl dX16_init_985 h (fun M14 h => ?_)
  refine S_aload_n (i := 0) dX16_init_988 rfl rfl ?_
  refine S_bipush (z := 44) dX16_init_989 rfl ?_
  refine P_nar (k := 1328) (t := 0) (at' := .int) (by decide) (by decide) rfl q248 dX16_init_991 h (fun r15 h => ?_)
  refine P_pfr FLX16_309 FPX16_309 (Or.inr ⟨_, rfl⟩) rfl dX16_init_993 h (fun M15 h => ?_)
  exact s_X16_init_996 hD r0 h hz
theorem s_X16_init_746 {g : GG} {d : Nat} (hD : 1 ≤ d) {x0 x1 x2 : Int} {M : MM} {o : AV × MM} {P : (MM) → Prop} (r0 : ∀ r : MM, P r → o = ((9, 0), r)) {z : MM} (h : j_X16_init_746 x0 x1 x2 M = some z) (hz : P z) : Sem g d YX16_init 746 [(1, x0), (0, x1), (0, x2)] [] M o := by
  delta j_X16_init_746 at h
  refine S_aload_n (i := 0) dX16_init_746 rfl rfl ?_
  refine S_bipush (z := 30) dX16_init_747 rfl ?_
  refine P_nar (k := 1344) (t := 0) (at' := .int) (by decide) (by decide) rfl q248 dX16_init_749 h (fun r1 h => ?_)
  refine P_pfr FLX16_222 FPX16_222 (Or.inr ⟨_, rfl⟩) rfl dX16_init_751 h (fun M1 h => ?_)
  refine S_aload_n (i := 0) dX16_init_754 rfl rfl ?_
  refine S_bipush (z := 44) dX16_init_755 rfl ?_
  refine P_nar (k := 1362) (t := 0) (at' := .boolean) (by decide) (by decide) rfl q1869 dX16_init_757 h (fun r2 h => ?_)
  refine P_pfr FLX16_225 FPX16_225 (Or.inr ⟨_, rfl⟩) rfl dX16_init_759 h (fun M2 h => ?_)
  refine S_aload_n (i := 0) dX16_init_762 rfl rfl ?_
  refine S_bipush (z := 44) dX16_init_763 rfl ?_
  refine P_nar (k := 1376) (t := 0) (at' := .int) (by decide) (by decide) rfl q248 dX16_init_765 h (fun r3 h => ?_)
  refine P_pfr FLX16_228 FPX16_228 (Or.inr ⟨_, rfl⟩) rfl dX16_init_767 h (fun M3 h => ?_)
  refine S_aload_n (i := 0) dX16_init_770 rfl rfl ?_
  refine S_bipush (z := 44) dX16_init_771 rfl ?_
  refine P_nar (k := 1392) (t := 0) (at' := .int) (by decide) (by decide) rfl q248 dX16_init_773 h (fun r4 h => ?_)
  refine P_pfr FLX16_231 FPX16_231 (Or.inr ⟨_, rfl⟩) rfl dX16_init_775 h (fun M4 h => ?_)
  refine S_aload_n (i := 0) dX16_init_778 rfl rfl ?_
  refine S_bipush (z := 44) dX16_init_779 rfl ?_
  refine P_nar (k := 1408) (t := 0) (at' := .int) (by decide) (by decide) rfl q248 dX16_init_781 h (fun r5 h => ?_)
  refine P_pfr FLX16_234 FPX16_234 (Or.inr ⟨_, rfl⟩) rfl dX16_init_783 h (fun M5 h => ?_)
  refine S_aload_n (i := 0) dX16_init_786 rfl rfl ?_
  refine S_bipush (z := 44) dX16_init_787 rfl ?_
  refine P_nar (k := 1424) (t := 0) (at' := .int) (by decide) (by decide) rfl q248 dX16_init_789 h (fun r6 h => ?_)
  refine P_pfr FLX16_237 FPX16_237 (Or.inr ⟨_, rfl⟩) rfl dX16_init_791 h (fun M6 h => ?_)
  refine S_aload_n (i := 0) dX16_init_794 rfl rfl ?_
  refine S_bipush (z := 44) dX16_init_795 rfl ?_
  refine P_nar (k := 1440) (t := 0) (at' := .int) (by decide) (by decide) rfl q248 dX16_init_797 h (fun r7 h => ?_)
  refine P_pfr FLX16_240 FPX16_240 (Or.inr ⟨_, rfl⟩) rfl dX16_init_799 h (fun M7 h => ?_)
  refine S_aload_n (i := 0) dX16_init_802 rfl rfl ?_
  refine S_sipush (z := 220) dX16_init_803 rfl ?_
  refine P_nar (k := 1456) (t := 0) (at' := .int) (by decide) (by decide) rfl q248 dX16_init_806 h (fun r8 h => ?_)
  refine P_pfr FLX16_243 FPX16_243 (Or.inr ⟨_, rfl⟩) rfl dX16_init_808 h (fun M8 h => ?_)
  refine S_aload_n (i := 0) dX16_init_811 rfl rfl ?_
  refine S_bipush (z := 44) dX16_init_812 rfl ?_
  refine P_nar (k := 1474) (t := 0) (at' := .boolean) (by decide) (by decide) rfl q1869 dX16_init_814 h (fun r9 h => ?_)
  refine P_pfr FLX16_246 FPX16_246 (Or.inr ⟨_, rfl⟩) rfl dX16_init_816 h (fun M9 h => ?_)
  refine S_aload_n (i := 0) dX16_init_819 rfl rfl ?_
  refine S_bipush (z := 44) dX16_init_820 rfl ?_
  refine P_nar (k := 1488) (t := 0) (at' := .int) (by decide) (by decide) rfl q248 dX16_init_822 h (fun r10 h => ?_)
  refine P_pfr FLX16_249 FPX16_249 (Or.inr ⟨_, rfl⟩) rfl dX16_init_824 h (fun M10 h => ?_)
  refine S_aload_n (i := 0) dX16_init_827 rfl rfl ?_
  refine S_sipush (z := 14300) dX16_init_828 rfl ?_
  refine P_nar (k := 1504) (t := 0) (at' := .int) (by decide) (by decide) rfl q248 dX16_init_831 h (fun r11 h => ?_)
  refine P_pfr FLX16_252 FPX16_252 (Or.inr ⟨_, rfl⟩) rfl dX16_init_833 h (fun M11 h => ?_)
  refine S_aload_n (i := 0) dX16_init_836 rfl rfl ?_
  refine S_sipush (z := 2860) dX16_init_837 rfl ?_
  refine P_nar (k := 1520) (t := 0) (at' := .int) (by decide) (by decide) rfl q248 dX16_init_840 h (fun r12 h => ?_)
  refine P_pfr FLX16_255 FPX16_255 (Or.inr ⟨_, rfl⟩) rfl dX16_init_842 h (fun M12 h => ?_)
  refine S_aload_n (i := 0) dX16_init_845 rfl rfl ?_
  refine S_sipush (z := 2860) dX16_init_846 rfl ?_
  refine P_nar (k := 1536) (t := 0) (at' := .int) (by decide) (by decide) rfl q248 dX16_init_849 h (fun r13 h => ?_)
  refine P_pfr FLX16_258 FPX16_258 (Or.inr ⟨_, rfl⟩) rfl dX16_init_851 h (fun M13 h => ?_)
  refine S_aload_n (i := 0) dX16_init_854 rfl rfl ?_
  refine S_sipush (z := 2860) dX16_init_855 rfl ?_
  refine P_nar (k := 1552) (t := 0) (at' := .int) (by decide) (by decide) rfl q248 dX16_init_858 h (fun r14 h => ?_)
  refine P_pfr FLX16_261 FPX16_261 (Or.inr ⟨_, rfl⟩) rfl dX16_init_860 h (fun M14 h => ?_)
  refine S_aload_n (i := 0) dX16_init_863 rfl rfl ?_
  refine S_bipush (z := 44) dX16_init_864 rfl ?_
  refine P_nar (k := 1568) (t := 0) (at' := .int) (by decide) (by decide) rfl q248 dX16_init_866 h (fun r15 h => ?_)
  refine P_pfr FLX16_264 FPX16_264 (Or.inr ⟨_, rfl⟩) rfl dX16_init_868 h (fun M15 h => ?_)
  exact s_X16_init_871 hD r0 h hz
theorem s_X16_init_619 {g : GG} {d : Nat} (hD : 1 ≤ d) {x0 x1 x2 : Int} {M : MM} {o : AV × MM} {P : (MM) → Prop} (r0 : ∀ r : MM, P r → o = ((9, 0), r)) {z : MM} (h : j_X16_init_619 x0 x1 x2 M = some z) (hz : P z) : Sem g d YX16_init 619 [(1, x0), (0, x1), (0, x2)] [] M o := by
  delta j_X16_init_619 at h
  refine S_aload_n (i := 0) dX16_init_619 rfl rfl ?_
  refine S_bipush (z := 32) dX16_init_620 rfl ?_
  refine P_nar (k := 1584) (t := 0) (at' := .int) (by decide) (by decide) rfl q248 dX16_init_622 h (fun r1 h => ?_)
  refine P_pfr FLX16_177 FPX16_177 (Or.inr ⟨_, rfl⟩) rfl dX16_init_624 h (fun M1 h => ?_)
  refine S_aload_n (i := 0) dX16_init_627 rfl rfl ?_
  refine S_sipush (z := 32000) dX16_init_628 rfl ?_
  refine P_nar (k := 1600) (t := 0) (at' := .int) (by decide) (by decide) rfl q248 dX16_init_631 h (fun r2 h => ?_)
  refine P_pfr FLX16_180 FPX16_180 (Or.inr ⟨_, rfl⟩) rfl dX16_init_633 h (fun M2 h => ?_)
  refine S_aload_n (i := 0) dX16_init_636 rfl rfl ?_
  refine S_sipush (z := 6400) dX16_init_637 rfl ?_
  refine P_nar (k := 1616) (t := 0) (at' := .int) (by decide) (by decide) rfl q248 dX16_init_640 h (fun r3 h => ?_)
  refine P_pfr FLX16_183 FPX16_183 (Or.inr ⟨_, rfl⟩) rfl dX16_init_642 h (fun M3 h => ?_)
  refine S_aload_n (i := 0) dX16_init_645 rfl rfl ?_
  refine S_sipush (z := 6400) dX16_init_646 rfl ?_
  refine P_nar (k := 1632) (t := 0) (at' := .int) (by decide) (by decide) rfl q248 dX16_init_649 h (fun r4 h => ?_)
  refine P_pfr FLX16_186 FPX16_186 (Or.inr ⟨_, rfl⟩) rfl dX16_init_651 h (fun M4 h => ?_)
  refine S_aload_n (i := 0) dX16_init_654 rfl rfl ?_
  refine S_sipush (z := 6400) dX16_init_655 rfl ?_
  refine P_nar (k := 1648) (t := 0) (at' := .int) (by decide) (by decide) rfl q248 dX16_init_658 h (fun r5 h => ?_)
  refine P_pfr FLX16_189 FPX16_189 (Or.inr ⟨_, rfl⟩) rfl dX16_init_660 h (fun M5 h => ?_)
  refine S_aload_n (i := 0) dX16_init_663 rfl rfl ?_
  refine S_sipush (z := 6400) dX16_init_664 rfl ?_
  refine P_nar (k := 1664) (t := 0) (at' := .int) (by decide) (by decide) rfl q248 dX16_init_667 h (fun r6 h => ?_)
  refine P_pfr FLX16_192 FPX16_192 (Or.inr ⟨_, rfl⟩) rfl dX16_init_669 h (fun M6 h => ?_)
  refine S_aload_n (i := 0) dX16_init_672 rfl rfl ?_
  refine S_sipush (z := 200) dX16_init_673 rfl ?_
  refine P_nar (k := 1680) (t := 0) (at' := .int) (by decide) (by decide) rfl q248 dX16_init_676 h (fun r7 h => ?_)
  refine P_pfr FLX16_195 FPX16_195 (Or.inr ⟨_, rfl⟩) rfl dX16_init_678 h (fun M7 h => ?_)
  refine S_aload_n (i := 0) dX16_init_681 rfl rfl ?_
  refine S_bipush (z := 16) dX16_init_682 rfl ?_
  refine P_nar (k := 1696) (t := 0) (at' := .int) (by decide) (by decide) rfl q248 dX16_init_684 h (fun r8 h => ?_)
  refine P_pfr FLX16_198 FPX16_198 (Or.inr ⟨_, rfl⟩) rfl dX16_init_686 h (fun M8 h => ?_)
  refine S_aload_n (i := 0) dX16_init_689 rfl rfl ?_
  refine S_bipush (z := 16) dX16_init_690 rfl ?_
  refine P_nar (k := 1712) (t := 0) (at' := .int) (by decide) (by decide) rfl q248 dX16_init_692 h (fun r9 h => ?_)
  refine P_pfr FLX16_201 FPX16_201 (Or.inr ⟨_, rfl⟩) rfl dX16_init_694 h (fun M9 h => ?_)
  refine S_aload_n (i := 0) dX16_init_697 rfl rfl ?_
  refine S_bipush (z := 16) dX16_init_698 rfl ?_
  refine P_nar (k := 1728) (t := 0) (at' := .int) (by decide) (by decide) rfl q248 dX16_init_700 h (fun r10 h => ?_)
  refine P_pfr FLX16_204 FPX16_204 (Or.inr ⟨_, rfl⟩) rfl dX16_init_702 h (fun M10 h => ?_)
  refine S_aload_n (i := 0) dX16_init_705 rfl rfl ?_
  refine S_sipush (z := 290) dX16_init_706 rfl ?_
  refine P_nar (k := 1744) (t := 0) (at' := .int) (by decide) (by decide) rfl q248 dX16_init_709 h (fun r11 h => ?_)
  refine P_pfr FLX16_207 FPX16_207 (Or.inr ⟨_, rfl⟩) rfl dX16_init_711 h (fun M11 h => ?_)
  refine S_aload_n (i := 0) dX16_init_714 rfl rfl ?_
  refine S_bipush (z := 30) dX16_init_715 rfl ?_
  refine P_nar (k := 1760) (t := 0) (at' := .int) (by decide) (by decide) rfl q248 dX16_init_717 h (fun r12 h => ?_)
  refine P_pfr FLX16_210 FPX16_210 (Or.inr ⟨_, rfl⟩) rfl dX16_init_719 h (fun M12 h => ?_)
  refine S_aload_n (i := 0) dX16_init_722 rfl rfl ?_
  refine S_bipush (z := 30) dX16_init_723 rfl ?_
  refine P_nar (k := 1776) (t := 0) (at' := .int) (by decide) (by decide) rfl q248 dX16_init_725 h (fun r13 h => ?_)
  refine P_pfr FLX16_213 FPX16_213 (Or.inr ⟨_, rfl⟩) rfl dX16_init_727 h (fun M13 h => ?_)
  refine S_aload_n (i := 0) dX16_init_730 rfl rfl ?_
  refine S_bipush (z := 30) dX16_init_731 rfl ?_
  refine P_nar (k := 1792) (t := 0) (at' := .int) (by decide) (by decide) rfl q248 dX16_init_733 h (fun r14 h => ?_)
  refine P_pfr FLX16_216 FPX16_216 (Or.inr ⟨_, rfl⟩) rfl dX16_init_735 h (fun M14 h => ?_)
  refine S_aload_n (i := 0) dX16_init_738 rfl rfl ?_
  refine S_bipush (z := 30) dX16_init_739 rfl ?_
  refine P_nar (k := 1808) (t := 0) (at' := .int) (by decide) (by decide) rfl q248 dX16_init_741 h (fun r15 h => ?_)
  refine P_pfr FLX16_219 FPX16_219 (Or.inr ⟨_, rfl⟩) rfl dX16_init_743 h (fun M15 h => ?_)
  exact s_X16_init_746 hD r0 h hz
theorem s_X16_init_488 {g : GG} {d : Nat} (hD : 1 ≤ d) {x0 x1 x2 : Int} {M : MM} {o : AV × MM} {P : (MM) → Prop} (r0 : ∀ r : MM, P r → o = ((9, 0), r)) {z : MM} (h : j_X16_init_488 x0 x1 x2 M = some z) (hz : P z) : Sem g d YX16_init 488 [(1, x0), (0, x1), (0, x2)] [] M o := by
  delta j_X16_init_488 at h
  refine S_aload_n (i := 0) dX16_init_488 rfl rfl ?_
  refine S_iconst dX16_init_489 rfl ?_
  refine P_nar (k := 1824) (t := 0) (at' := .int) (by decide) (by decide) rfl q248 dX16_init_490 h (fun r1 h => ?_)
  refine P_pfr FLX16_131 FPX16_131 (Or.inr ⟨_, rfl⟩) rfl dX16_init_492 h (fun M1 h => ?_)
  refine S_aload_n (i := 0) dX16_init_495 rfl rfl ?_
  refine S_bipush (z := 21) dX16_init_496 rfl ?_
  refine P_nar (k := 1840) (t := 0) (at' := .int) (by decide) (by decide) rfl q248 dX16_init_498 h (fun r2 h => ?_)
  refine P_pfr FLX16_134 FPX16_134 (Or.inr ⟨_, rfl⟩) rfl dX16_init_500 h (fun M2 h => ?_)
  refine S_aload_n (i := 0) dX16_init_503 rfl rfl ?_
  refine S_sipush (z := 1280) dX16_init_504 rfl ?_
  refine P_nar (k := 1858) (t := 0) (at' := .boolean) (by decide) (by decide) rfl q1869 dX16_init_507 h (fun r3 h => ?_)
  refine P_pfr FLX16_137 FPX16_137 (Or.inr ⟨_, rfl⟩) rfl dX16_init_509 h (fun M3 h => ?_)
  refine S_aload_n (i := 0) dX16_init_512 rfl rfl ?_
  refine S_sipush (z := 1280) dX16_init_513 rfl ?_
  refine P_nar (k := 1872) (t := 0) (at' := .int) (by decide) (by decide) rfl q248 dX16_init_516 h (fun r4 h => ?_)
  refine P_pfr FLX16_140 FPX16_140 (Or.inr ⟨_, rfl⟩) rfl dX16_init_518 h (fun M4 h => ?_)
  refine S_aload_n (i := 0) dX16_init_521 rfl rfl ?_
  refine S_sipush (z := 1280) dX16_init_522 rfl ?_
  refine P_nar (k := 1888) (t := 0) (at' := .int) (by decide) (by decide) rfl q248 dX16_init_525 h (fun r5 h => ?_)
  refine P_pfr FLX16_143 FPX16_143 (Or.inr ⟨_, rfl⟩) rfl dX16_init_527 h (fun M5 h => ?_)
  refine S_aload_n (i := 0) dX16_init_530 rfl rfl ?_
  refine S_sipush (z := 6400) dX16_init_531 rfl ?_
  refine P_nar (k := 1904) (t := 0) (at' := .int) (by decide) (by decide) rfl q248 dX16_init_534 h (fun r6 h => ?_)
  refine P_pfr FLX16_146 FPX16_146 (Or.inr ⟨_, rfl⟩) rfl dX16_init_536 h (fun M6 h => ?_)
  refine S_aload_n (i := 0) dX16_init_539 rfl rfl ?_
  refine S_sipush (z := 1280) dX16_init_540 rfl ?_
  refine P_nar (k := 1920) (t := 0) (at' := .int) (by decide) (by decide) rfl q248 dX16_init_543 h (fun r7 h => ?_)
  refine P_pfr FLX16_149 FPX16_149 (Or.inr ⟨_, rfl⟩) rfl dX16_init_545 h (fun M7 h => ?_)
  refine S_aload_n (i := 0) dX16_init_548 rfl rfl ?_
  refine S_sipush (z := 1280) dX16_init_549 rfl ?_
  refine P_nar (k := 1936) (t := 0) (at' := .int) (by decide) (by decide) rfl q248 dX16_init_552 h (fun r8 h => ?_)
  refine P_pfr FLX16_152 FPX16_152 (Or.inr ⟨_, rfl⟩) rfl dX16_init_554 h (fun M8 h => ?_)
  refine S_aload_n (i := 0) dX16_init_557 rfl rfl ?_
  refine S_sipush (z := 1280) dX16_init_558 rfl ?_
  refine P_nar (k := 1952) (t := 0) (at' := .int) (by decide) (by decide) rfl q248 dX16_init_561 h (fun r9 h => ?_)
  refine P_pfr FLX16_155 FPX16_155 (Or.inr ⟨_, rfl⟩) rfl dX16_init_563 h (fun M9 h => ?_)
  refine S_aload_n (i := 0) dX16_init_566 rfl rfl ?_
  refine S_sipush (z := 1280) dX16_init_567 rfl ?_
  refine P_nar (k := 1968) (t := 0) (at' := .int) (by decide) (by decide) rfl q248 dX16_init_570 h (fun r10 h => ?_)
  refine P_pfr FLX16_158 FPX16_158 (Or.inr ⟨_, rfl⟩) rfl dX16_init_572 h (fun M10 h => ?_)
  refine S_aload_n (i := 0) dX16_init_575 rfl rfl ?_
  refine S_sipush (z := 1280) dX16_init_576 rfl ?_
  refine P_nar (k := 1984) (t := 0) (at' := .int) (by decide) (by decide) rfl q248 dX16_init_579 h (fun r11 h => ?_)
  refine P_pfr FLX16_161 FPX16_161 (Or.inr ⟨_, rfl⟩) rfl dX16_init_581 h (fun M11 h => ?_)
  refine S_aload_n (i := 0) dX16_init_584 rfl rfl ?_
  refine S_sipush (z := 1280) dX16_init_585 rfl ?_
  refine P_nar (k := 2000) (t := 0) (at' := .int) (by decide) (by decide) rfl q248 dX16_init_588 h (fun r12 h => ?_)
  refine P_pfr FLX16_164 FPX16_164 (Or.inr ⟨_, rfl⟩) rfl dX16_init_590 h (fun M12 h => ?_)
  refine S_aload_n (i := 0) dX16_init_593 rfl rfl ?_
  refine S_sipush (z := 1280) dX16_init_594 rfl ?_
  refine P_nar (k := 2016) (t := 0) (at' := .int) (by decide) (by decide) rfl q248 dX16_init_597 h (fun r13 h => ?_)
  refine P_pfr FLX16_167 FPX16_167 (Or.inr ⟨_, rfl⟩) rfl dX16_init_599 h (fun M13 h => ?_)
  refine S_aload_n (i := 0) dX16_init_602 rfl rfl ?_
  refine S_ldc (z := 448000) kX16_170 dX16_init_603 ?_
  refine P_nar (k := 2032) (t := 0) (at' := .int) (by decide) (by decide) rfl q248 dX16_init_605 h (fun r14 h => ?_)
  refine P_pfr FLX16_171 FPX16_171 (Or.inr ⟨_, rfl⟩) rfl dX16_init_607 h (fun M14 h => ?_)
  refine S_aload_n (i := 0) dX16_init_610 rfl rfl ?_
  refine S_sipush (z := 325) dX16_init_611 rfl ?_
  refine P_nar (k := 2048) (t := 0) (at' := .int) (by decide) (by decide) rfl q248 dX16_init_614 h (fun r15 h => ?_)
  refine P_pfr FLX16_174 FPX16_174 (Or.inr ⟨_, rfl⟩) rfl dX16_init_616 h (fun M15 h => ?_)
  exact s_X16_init_619 hD r0 h hz
theorem s_X16_init_360 {g : GG} {d : Nat} (hD : 1 ≤ d) {x0 x1 x2 : Int} {M : MM} {o : AV × MM} {P : (MM) → Prop} (r0 : ∀ r : MM, P r → o = ((9, 0), r)) {z : MM} (h : j_X16_init_360 x0 x1 x2 M = some z) (hz : P z) : Sem g d YX16_init 360 [(1, x0), (0, x1), (0, x2)] [] M o := by
  delta j_X16_init_360 at h
  refine S_aload_n (i := 0) dX16_init_360 rfl rfl ?_
  refine S_sipush (z := 250) dX16_init_361 rfl ?_
  refine P_nar (k := 2064) (t := 0) (at' := .int) (by decide) (by decide) rfl q248 dX16_init_364 h (fun r1 h => ?_)
  refine P_pfr FLX16_82 FPX16_82 (Or.inr ⟨_, rfl⟩) rfl dX16_init_366 h (fun M1 h => ?_)
  refine S_aload_n (i := 0) dX16_init_369 rfl rfl ?_
  refine S_sipush (z := 250) dX16_init_370 rfl ?_
  refine P_nar (k := 2080) (t := 0) (at' := .int) (by decide) (by decide) rfl q248 dX16_init_373 h (fun r2 h => ?_)
  refine P_pfr FLX16_85 FPX16_85 (Or.inr ⟨_, rfl⟩) rfl dX16_init_375 h (fun M2 h => ?_)
  refine S_aload_n (i := 0) dX16_init_378 rfl rfl ?_
  refine S_sipush (z := 400) dX16_init_379 rfl ?_
  refine P_nar (k := 2096) (t := 0) (at' := .int) (by decide) (by decide) rfl q248 dX16_init_382 h (fun r3 h => ?_)
  refine P_pfr FLX16_88 FPX16_88 (Or.inr ⟨_, rfl⟩) rfl dX16_init_384 h (fun M3 h => ?_)
  refine S_aload_n (i := 0) dX16_init_387 rfl rfl ?_
  refine S_sipush (z := 400) dX16_init_388 rfl ?_
  refine P_nar (k := 2112) (t := 0) (at' := .int) (by decide) (by decide) rfl q248 dX16_init_391 h (fun r4 h => ?_)
  refine P_pfr FLX16_91 FPX16_91 (Or.inr ⟨_, rfl⟩) rfl dX16_init_393 h (fun M4 h => ?_)
  refine S_aload_n (i := 0) dX16_init_396 rfl rfl ?_
  refine S_sipush (z := 400) dX16_init_397 rfl ?_
  refine P_nar (k := 2128) (t := 0) (at' := .int) (by decide) (by decide) rfl q248 dX16_init_400 h (fun r5 h => ?_)
  refine P_pfr FLX16_94 FPX16_94 (Or.inr ⟨_, rfl⟩) rfl dX16_init_402 h (fun M5 h => ?_)
  refine S_aload_n (i := 0) dX16_init_405 rfl rfl ?_
  refine S_sipush (z := 400) dX16_init_406 rfl ?_
  refine P_nar (k := 2144) (t := 0) (at' := .int) (by decide) (by decide) rfl q248 dX16_init_409 h (fun r6 h => ?_)
  refine P_pfr FLX16_97 FPX16_97 (Or.inr ⟨_, rfl⟩) rfl dX16_init_411 h (fun M6 h => ?_)
  refine S_aload_n (i := 0) dX16_init_414 rfl rfl ?_
  refine S_sipush (z := 400) dX16_init_415 rfl ?_
  refine P_nar (k := 2160) (t := 0) (at' := .int) (by decide) (by decide) rfl q248 dX16_init_418 h (fun r7 h => ?_)
  refine P_pfr FLX16_100 FPX16_100 (Or.inr ⟨_, rfl⟩) rfl dX16_init_420 h (fun M7 h => ?_)
  refine S_aload_n (i := 0) dX16_init_423 rfl rfl ?_
  refine S_ldc (z := 184000) kX16_103 dX16_init_424 ?_
  refine P_nar (k := 2176) (t := 0) (at' := .int) (by decide) (by decide) rfl q248 dX16_init_426 h (fun r8 h => ?_)
  refine P_pfr FLX16_104 FPX16_104 (Or.inr ⟨_, rfl⟩) rfl dX16_init_428 h (fun M8 h => ?_)
  refine S_aload_n (i := 0) dX16_init_431 rfl rfl ?_
  refine S_sipush (z := 460) dX16_init_432 rfl ?_
  refine P_nar (k := 2192) (t := 0) (at' := .int) (by decide) (by decide) rfl q248 dX16_init_435 h (fun r9 h => ?_)
  refine P_pfr FLX16_107 FPX16_107 (Or.inr ⟨_, rfl⟩) rfl dX16_init_437 h (fun M9 h => ?_)
  refine S_aload_n (i := 0) dX16_init_440 rfl rfl ?_
  refine S_bipush (z := 32) dX16_init_441 rfl ?_
  refine P_nar (k := 2208) (t := 0) (at' := .int) (by decide) (by decide) rfl q248 dX16_init_443 h (fun r10 h => ?_)
  refine P_pfr FLX16_110 FPX16_110 (Or.inr ⟨_, rfl⟩) rfl dX16_init_445 h (fun M10 h => ?_)
  refine S_aload_n (i := 0) dX16_init_448 rfl rfl ?_
  refine S_ldc (z := 176000) kX16_113 dX16_init_449 ?_
  refine P_nar (k := 2224) (t := 0) (at' := .int) (by decide) (by decide) rfl q248 dX16_init_451 h (fun r11 h => ?_)
  refine P_pfr FLX16_114 FPX16_114 (Or.inr ⟨_, rfl⟩) rfl dX16_init_453 h (fun M11 h => ?_)
  refine S_aload_n (i := 0) dX16_init_456 rfl rfl ?_
  refine S_ldc (z := 35200) kX16_117 dX16_init_457 ?_
  refine P_nar (k := 2240) (t := 0) (at' := .int) (by decide) (by decide) rfl q248 dX16_init_459 h (fun r12 h => ?_)
  refine P_pfr FLX16_118 FPX16_118 (Or.inr ⟨_, rfl⟩) rfl dX16_init_461 h (fun M12 h => ?_)
  refine S_aload_n (i := 0) dX16_init_464 rfl rfl ?_
  refine S_ldc (z := 35200) kX16_117 dX16_init_465 ?_
  refine P_nar (k := 2256) (t := 0) (at' := .int) (by decide) (by decide) rfl q248 dX16_init_467 h (fun r13 h => ?_)
  refine P_pfr FLX16_121 FPX16_121 (Or.inr ⟨_, rfl⟩) rfl dX16_init_469 h (fun M13 h => ?_)
  refine S_aload_n (i := 0) dX16_init_472 rfl rfl ?_
  refine S_ldc (z := 35200) kX16_117 dX16_init_473 ?_
  refine P_nar (k := 2274) (t := 0) (at' := .boolean) (by decide) (by decide) rfl q1869 dX16_init_475 h (fun r14 h => ?_)
  refine P_pfr FLX16_124 FPX16_124 (Or.inr ⟨_, rfl⟩) rfl dX16_init_477 h (fun M14 h => ?_)
  refine S_aload_n (i := 0) dX16_init_480 rfl rfl ?_
  refine S_ldc (z := 35200) kX16_117 dX16_init_481 ?_
  refine P_nar (k := 2288) (t := 0) (at' := .int) (by decide) (by decide) rfl q248 dX16_init_483 h (fun r15 h => ?_)
  refine P_pfr FLX16_128 FPX16_128 (Or.inr ⟨_, rfl⟩) rfl dX16_init_485 h (fun M15 h => ?_)
  exact s_X16_init_488 hD r0 h hz
theorem s_X16_init_234 {g : GG} {d : Nat} (hD : 1 ≤ d) {x0 x1 x2 : Int} {M : MM} {o : AV × MM} {P : (MM) → Prop} (r0 : ∀ r : MM, P r → o = ((9, 0), r)) {z : MM} (h : j_X16_init_234 x0 x1 x2 M = some z) (hz : P z) : Sem g d YX16_init 234 [(1, x0), (0, x1), (0, x2)] [] M o := by
  delta j_X16_init_234 at h
  refine S_aload_n (i := 0) dX16_init_234 rfl rfl ?_
  refine S_sipush (z := 160) dX16_init_235 rfl ?_
  refine P_nar (k := 2304) (t := 0) (at' := .int) (by decide) (by decide) rfl q248 dX16_init_238 h (fun r1 h => ?_)
  refine P_pfr FLX16_36 FPX16_36 (Or.inr ⟨_, rfl⟩) rfl dX16_init_240 h (fun M1 h => ?_)
  refine S_aload_n (i := 0) dX16_init_243 rfl rfl ?_
  refine S_bipush (z := 32) dX16_init_244 rfl ?_
  refine P_nar (k := 2320) (t := 0) (at' := .int) (by decide) (by decide) rfl q248 dX16_init_246 h (fun r2 h => ?_)
  refine P_pfr FLX16_39 FPX16_39 (Or.inr ⟨_, rfl⟩) rfl dX16_init_248 h (fun M2 h => ?_)
  refine S_aload_n (i := 0) dX16_init_251 rfl rfl ?_
  refine S_bipush (z := 32) dX16_init_252 rfl ?_
  refine P_nar (k := 2336) (t := 0) (at' := .int) (by decide) (by decide) rfl q248 dX16_init_254 h (fun r3 h => ?_)
  refine P_pfr FLX16_42 FPX16_42 (Or.inr ⟨_, rfl⟩) rfl dX16_init_256 h (fun M3 h => ?_)
  refine S_aload_n (i := 0) dX16_init_259 rfl rfl ?_
  refine S_bipush (z := 32) dX16_init_260 rfl ?_
  refine P_nar (k := 2352) (t := 0) (at' := .int) (by decide) (by decide) rfl q248 dX16_init_262 h (fun r4 h => ?_)
  refine P_pfr FLX16_45 FPX16_45 (Or.inr ⟨_, rfl⟩) rfl dX16_init_264 h (fun M4 h => ?_)
  refine S_aload_n (i := 0) dX16_init_267 rfl rfl ?_
  refine S_bipush (z := 32) dX16_init_268 rfl ?_
  refine P_nar (k := 2368) (t := 0) (at' := .int) (by decide) (by decide) rfl q248 dX16_init_270 h (fun r5 h => ?_)
  refine P_pfr FLX16_48 FPX16_48 (Or.inr ⟨_, rfl⟩) rfl dX16_init_272 h (fun M5 h => ?_)
  refine S_aload_n (i := 0) dX16_init_275 rfl rfl ?_
  refine S_bipush (z := 32) dX16_init_276 rfl ?_
  refine P_nar (k := 2384) (t := 0) (at' := .int) (by decide) (by decide) rfl q248 dX16_init_278 h (fun r6 h => ?_)
  refine P_pfr FLX16_51 FPX16_51 (Or.inr ⟨_, rfl⟩) rfl dX16_init_280 h (fun M6 h => ?_)
  refine S_aload_n (i := 0) dX16_init_283 rfl rfl ?_
  refine S_bipush (z := 32) dX16_init_284 rfl ?_
  refine P_nar (k := 2400) (t := 0) (at' := .int) (by decide) (by decide) rfl q248 dX16_init_286 h (fun r7 h => ?_)
  refine P_pfr FLX16_54 FPX16_54 (Or.inr ⟨_, rfl⟩) rfl dX16_init_288 h (fun M7 h => ?_)
  refine S_aload_n (i := 0) dX16_init_291 rfl rfl ?_
  refine S_sipush (z := 160) dX16_init_292 rfl ?_
  refine P_nar (k := 2416) (t := 0) (at' := .int) (by decide) (by decide) rfl q248 dX16_init_295 h (fun r8 h => ?_)
  refine P_pfr FLX16_57 FPX16_57 (Or.inr ⟨_, rfl⟩) rfl dX16_init_297 h (fun M8 h => ?_)
  refine S_aload_n (i := 0) dX16_init_300 rfl rfl ?_
  refine S_bipush (z := 32) dX16_init_301 rfl ?_
  refine P_nar (k := 2432) (t := 0) (at' := .int) (by decide) (by decide) rfl q248 dX16_init_303 h (fun r9 h => ?_)
  refine P_pfr FLX16_60 FPX16_60 (Or.inr ⟨_, rfl⟩) rfl dX16_init_305 h (fun M9 h => ?_)
  refine S_aload_n (i := 0) dX16_init_308 rfl rfl ?_
  refine S_bipush (z := 32) dX16_init_309 rfl ?_
  refine P_nar (k := 2448) (t := 0) (at' := .int) (by decide) (by decide) rfl q248 dX16_init_311 h (fun r10 h => ?_)
  refine P_pfr FLX16_63 FPX16_63 (Or.inr ⟨_, rfl⟩) rfl dX16_init_313 h (fun M10 h => ?_)
  refine S_aload_n (i := 0) dX16_init_316 rfl rfl ?_
  refine S_sipush (z := 24576) dX16_init_317 rfl ?_
  refine P_nar (k := 2464) (t := 0) (at' := .int) (by decide) (by decide) rfl q248 dX16_init_320 h (fun r11 h => ?_)
  refine P_pfr FLX16_66 FPX16_66 (Or.inr ⟨_, rfl⟩) rfl dX16_init_322 h (fun M11 h => ?_)
  refine S_aload_n (i := 0) dX16_init_325 rfl rfl ?_
  refine S_sipush (z := 2048) dX16_init_326 rfl ?_
  refine P_nar (k := 2480) (t := 0) (at' := .int) (by decide) (by decide) rfl q248 dX16_init_329 h (fun r12 h => ?_)
  refine P_pfr FLX16_69 FPX16_69 (Or.inr ⟨_, rfl⟩) rfl dX16_init_331 h (fun M12 h => ?_)
  refine S_aload_n (i := 0) dX16_init_334 rfl rfl ?_
  refine S_sipush (z := 10240) dX16_init_335 rfl ?_
  refine P_nar (k := 2496) (t := 0) (at' := .int) (by decide) (by decide) rfl q248 dX16_init_338 h (fun r13 h => ?_)
  refine P_pfr FLX16_72 FPX16_72 (Or.inr ⟨_, rfl⟩) rfl dX16_init_340 h (fun M13 h => ?_)
  refine S_aload_n (i := 0) dX16_init_343 rfl rfl ?_
  refine S_ldc (z := 32768) kX16_75 dX16_init_344 ?_
  refine P_nar (k := 2512) (t := 0) (at' := .int) (by decide) (by decide) rfl q248 dX16_init_346 h (fun r14 h => ?_)
  refine P_pfr FLX16_76 FPX16_76 (Or.inr ⟨_, rfl⟩) rfl dX16_init_348 h (fun M14 h => ?_)
  refine S_aload_n (i := 0) dX16_init_351 rfl rfl ?_
  refine S_sipush (z := 3000) dX16_init_352 rfl ?_
  refine P_nar (k := 2528) (t := 0) (at' := .int) (by decide) (by decide) rfl q248 dX16_init_355 h (fun r15 h => ?_)
  refine P_pfr FLX16_79 FPX16_79 (Or.inr ⟨_, rfl⟩) rfl dX16_init_357 h (fun M15 h => ?_)
  exact s_X16_init_360 hD r0 h hz
theorem s_X16_init_105 {g : GG} {d : Nat} (hD : 1 ≤ d) {x0 x1 x2 : Int} {M : MM} {o : AV × MM} {P : (MM) → Prop} (r0 : ∀ r : MM, P r → o = ((9, 0), r)) {z : MM} (h : j_X16_init_105 x0 x1 x2 M = some z) (hz : P z) : Sem g d YX16_init 105 [(1, x0), (0, x1), (0, x2)] [] M o := by
  delta j_X16_init_105 at h
  refine S_aload_n (i := 0) dX16_init_105 rfl rfl ?_
  refine S_bipush (z := 11) dX16_init_106 rfl ?_
  refine P_nar (k := 2544) (t := 0) (at' := .int) (by decide) (by decide) rfl q248 dX16_init_108 h (fun r1 h => ?_)
  refine S_dup dX16_init_110 (Nat.le_of_ble_eq_true rfl) ?_
  refine S_iconst dX16_init_111 rfl ?_
  refine S_iconst dX16_init_112 rfl ?_
  refine P_sai dX16_init_113 h (fun M1 h => ?_)
  refine S_dup dX16_init_114 (Nat.le_of_ble_eq_true rfl) ?_
  refine S_iconst dX16_init_115 rfl ?_
  refine S_iconst dX16_init_116 rfl ?_
  refine P_sai dX16_init_117 h (fun M2 h => ?_)
  refine S_dup dX16_init_118 (Nat.le_of_ble_eq_true rfl) ?_
  refine S_iconst dX16_init_119 rfl ?_
  refine S_iconst dX16_init_120 rfl ?_
  refine P_sai dX16_init_121 h (fun M3 h => ?_)
  refine S_dup dX16_init_122 (Nat.le_of_ble_eq_true rfl) ?_
  refine S_iconst dX16_init_123 rfl ?_
  refine S_iconst dX16_init_124 rfl ?_
  refine P_sai dX16_init_125 h (fun M4 h => ?_)
  refine S_dup dX16_init_126 (Nat.le_of_ble_eq_true rfl) ?_
  refine S_iconst dX16_init_127 rfl ?_
  refine S_iconst dX16_init_128 rfl ?_
  refine P_sai dX16_init_129 h (fun M5 h => ?_)
  refine S_dup dX16_init_130 (Nat.le_of_ble_eq_true rfl) ?_
  refine S_iconst dX16_init_131 rfl ?_
  refine S_iconst dX16_init_132 rfl ?_
  refine P_sai dX16_init_133 h (fun M6 h => ?_)
  refine S_dup dX16_init_134 (Nat.le_of_ble_eq_true rfl) ?_
  refine S_bipush (z := 6) dX16_init_135 rfl ?_
  refine S_iconst dX16_init_137 rfl ?_
  refine P_sai dX16_init_138 h (fun M7 h => ?_)
  refine S_dup dX16_init_139 (Nat.le_of_ble_eq_true rfl) ?_
  refine S_bipush (z := 7) dX16_init_140 rfl ?_
  refine S_iconst dX16_init_142 rfl ?_
  refine P_sai dX16_init_143 h (fun M8 h => ?_)
  refine S_dup dX16_init_144 (Nat.le_of_ble_eq_true rfl) ?_
  refine S_bipush (z := 8) dX16_init_145 rfl ?_
  refine S_iconst dX16_init_147 rfl ?_
  refine P_sai dX16_init_148 h (fun M9 h => ?_)
  refine S_dup dX16_init_149 (Nat.le_of_ble_eq_true rfl) ?_
  refine S_bipush (z := 9) dX16_init_150 rfl ?_
  refine S_iconst dX16_init_152 rfl ?_
  refine P_sai dX16_init_153 h (fun M10 h => ?_)
  refine S_dup dX16_init_154 (Nat.le_of_ble_eq_true rfl) ?_
  refine S_bipush (z := 10) dX16_init_155 rfl ?_
  refine S_iconst dX16_init_157 rfl ?_
  refine P_sai dX16_init_158 h (fun M11 h => ?_)
  refine P_pfr FLX16_28 FPX16_28 (Or.inr ⟨_, rfl⟩) rfl dX16_init_159 h (fun M12 h => ?_)
  refine S_aload_n (i := 0) dX16_init_162 rfl rfl ?_
  refine S_bipush (z := 11) dX16_init_163 rfl ?_
  refine P_nar (k := 2560) (t := 0) (at' := .int) (by decide) (by decide) rfl q248 dX16_init_165 h (fun r2 h => ?_)
  refine S_dup dX16_init_167 (Nat.le_of_ble_eq_true rfl) ?_
  refine S_iconst dX16_init_168 rfl ?_
  refine S_sipush (z := 1000) dX16_init_169 rfl ?_
  refine P_sai dX16_init_172 h (fun M13 h => ?_)
  refine S_dup dX16_init_173 (Nat.le_of_ble_eq_true rfl) ?_
  refine S_iconst dX16_init_174 rfl ?_
  refine S_bipush (z := 50) dX16_init_175 rfl ?_
  refine P_sai dX16_init_177 h (fun M14 h => ?_)
  refine S_dup dX16_init_178 (Nat.le_of_ble_eq_true rfl) ?_
  refine S_iconst dX16_init_179 rfl ?_
  refine S_bipush (z := 50) dX16_init_180 rfl ?_
  refine P_sai dX16_init_182 h (fun M15 h => ?_)
  refine S_dup dX16_init_183 (Nat.le_of_ble_eq_true rfl) ?_
  refine S_iconst dX16_init_184 rfl ?_
  refine S_sipush (z := 1000) dX16_init_185 rfl ?_
  refine P_sai dX16_init_188 h (fun M16 h => ?_)
  refine S_dup dX16_init_189 (Nat.le_of_ble_eq_true rfl) ?_
  refine S_iconst dX16_init_190 rfl ?_
  refine S_sipush (z := 500) dX16_init_191 rfl ?_
  refine P_sai dX16_init_194 h (fun M17 h => ?_)
  refine S_dup dX16_init_195 (Nat.le_of_ble_eq_true rfl) ?_
  refine S_iconst dX16_init_196 rfl ?_
  refine S_iconst dX16_init_197 rfl ?_
  refine P_sai dX16_init_198 h (fun M18 h => ?_)
  refine S_dup dX16_init_199 (Nat.le_of_ble_eq_true rfl) ?_
  refine S_bipush (z := 6) dX16_init_200 rfl ?_
  refine S_sipush (z := 10000) dX16_init_202 rfl ?_
  refine P_sai dX16_init_205 h (fun M19 h => ?_)
  refine S_dup dX16_init_206 (Nat.le_of_ble_eq_true rfl) ?_
  refine S_bipush (z := 7) dX16_init_207 rfl ?_
  refine S_ldc (z := 100000) kX16_31 dX16_init_209 ?_
  refine P_sai dX16_init_211 h (fun M20 h => ?_)
  refine S_dup dX16_init_212 (Nat.le_of_ble_eq_true rfl) ?_
  refine S_bipush (z := 8) dX16_init_213 rfl ?_
  refine S_sipush (z := 10000) dX16_init_215 rfl ?_
  refine P_sai dX16_init_218 h (fun M21 h => ?_)
  refine S_dup dX16_init_219 (Nat.le_of_ble_eq_true rfl) ?_
  refine S_bipush (z := 9) dX16_init_220 rfl ?_
  refine S_bipush (z := 8) dX16_init_222 rfl ?_
  refine P_sai dX16_init_224 h (fun M22 h => ?_)
  refine S_dup dX16_init_225 (Nat.le_of_ble_eq_true rfl) ?_
  refine S_bipush (z := 10) dX16_init_226 rfl ?_
  refine S_ldc (z := 2147483647) kX16_32 dX16_init_228 ?_
  refine P_sai dX16_init_230 h (fun M23 h => ?_)
  refine P_pfr FLX16_33 FPX16_33 (Or.inr ⟨_, rfl⟩) rfl dX16_init_231 h (fun M24 h => ?_)
  exact s_X16_init_234 hD r0 h hz
theorem s_X16_init_0 {g : GG} {d : Nat} (hD : 1 ≤ d) {x0 x1 x2 : Int} {M : MM} {o : AV × MM} {P : (MM) → Prop} (r0 : ∀ r : MM, P r → o = ((9, 0), r)) {z : MM} (h : f_X16_init x0 x1 x2 M = some z) (hz : P z) : Sem g d YX16_init 0 [(1, x0), (0, x1), (0, x2)] [] M o := by
  delta f_X16_init at h
  refine S_aload_n (i := 0) dX16_init_0 rfl rfl ?_
  refine P_obj q2108 dX16_init_1 rfl (by omega) h (fun h => ?_)
  refine S_aload_n (i := 0) dX16_init_4 rfl rfl ?_
  refine S_bipush (z := 20) dX16_init_5 rfl ?_
  refine P_nar (k := 2576) (t := 0) (at' := .int) (by decide) (by decide) rfl q248 dX16_init_7 h (fun r1 h => ?_)
  refine P_pfr FLX16_7 FPX16_7 (Or.inr ⟨_, rfl⟩) rfl dX16_init_9 h (fun M1 h => ?_)
  refine S_aload_n (i := 0) dX16_init_12 rfl rfl ?_
  refine S_sipush (z := 500) dX16_init_13 rfl ?_
  refine P_nar (k := 2592) (t := 0) (at' := .int) (by decide) (by decide) rfl q248 dX16_init_16 h (fun r2 h => ?_)
  refine P_pfr FLX16_13 FPX16_13 (Or.inr ⟨_, rfl⟩) rfl dX16_init_18 h (fun M2 h => ?_)
  refine S_aload_n (i := 0) dX16_init_21 rfl rfl ?_
  refine S_sipush (z := 576) dX16_init_22 rfl ?_
  refine P_nar (k := 2608) (t := 0) (at' := .int) (by decide) (by decide) rfl q248 dX16_init_25 h (fun r3 h => ?_)
  refine P_pfr FLX16_16 FPX16_16 (Or.inr ⟨_, rfl⟩) rfl dX16_init_27 h (fun M3 h => ?_)
  refine S_aload_n (i := 0) dX16_init_30 rfl rfl ?_
  refine S_bipush (z := 80) dX16_init_31 rfl ?_
  refine P_nar (k := 2624) (t := 0) (at' := .int) (by decide) (by decide) rfl q248 dX16_init_33 h (fun r4 h => ?_)
  refine P_pfr FLX16_19 FPX16_19 (Or.inr ⟨_, rfl⟩) rfl dX16_init_35 h (fun M4 h => ?_)
  refine S_aload_n (i := 0) dX16_init_38 rfl rfl ?_
  refine S_iconst dX16_init_39 rfl ?_
  refine P_nar (k := 2640) (t := 0) (at' := .int) (by decide) (by decide) rfl q248 dX16_init_40 h (fun r5 h => ?_)
  refine P_pfr FLX16_22 FPX16_22 (Or.inr ⟨_, rfl⟩) rfl dX16_init_42 h (fun M5 h => ?_)
  refine S_aload_n (i := 0) dX16_init_45 rfl rfl ?_
  refine S_bipush (z := 11) dX16_init_46 rfl ?_
  refine P_nar (k := 2656) (t := 0) (at' := .int) (by decide) (by decide) rfl q248 dX16_init_48 h (fun r6 h => ?_)
  refine S_dup dX16_init_50 (Nat.le_of_ble_eq_true rfl) ?_
  refine S_iconst dX16_init_51 rfl ?_
  refine S_iconst dX16_init_52 rfl ?_
  refine P_sai dX16_init_53 h (fun M6 h => ?_)
  refine S_dup dX16_init_54 (Nat.le_of_ble_eq_true rfl) ?_
  refine S_iconst dX16_init_55 rfl ?_
  refine S_iconst dX16_init_56 rfl ?_
  refine P_sai dX16_init_57 h (fun M7 h => ?_)
  refine S_dup dX16_init_58 (Nat.le_of_ble_eq_true rfl) ?_
  refine S_iconst dX16_init_59 rfl ?_
  refine S_iconst dX16_init_60 rfl ?_
  refine P_sai dX16_init_61 h (fun M8 h => ?_)
  refine S_dup dX16_init_62 (Nat.le_of_ble_eq_true rfl) ?_
  refine S_iconst dX16_init_63 rfl ?_
  refine S_iconst dX16_init_64 rfl ?_
  refine P_sai dX16_init_65 h (fun M9 h => ?_)
  refine S_dup dX16_init_66 (Nat.le_of_ble_eq_true rfl) ?_
  refine S_iconst dX16_init_67 rfl ?_
  refine S_bipush (z := 20) dX16_init_68 rfl ?_
  refine P_sai dX16_init_70 h (fun M10 h => ?_)
  refine S_dup dX16_init_71 (Nat.le_of_ble_eq_true rfl) ?_
  refine S_iconst dX16_init_72 rfl ?_
  refine S_iconst dX16_init_73 rfl ?_
  refine P_sai dX16_init_74 h (fun M11 h => ?_)
  refine S_dup dX16_init_75 (Nat.le_of_ble_eq_true rfl) ?_
  refine S_bipush (z := 6) dX16_init_76 rfl ?_
  refine S_iconst dX16_init_78 rfl ?_
  refine P_sai dX16_init_79 h (fun M12 h => ?_)
  refine S_dup dX16_init_80 (Nat.le_of_ble_eq_true rfl) ?_
  refine S_bipush (z := 7) dX16_init_81 rfl ?_
  refine S_sipush (z := 10000) dX16_init_83 rfl ?_
  refine P_sai dX16_init_86 h (fun M13 h => ?_)
  refine S_dup dX16_init_87 (Nat.le_of_ble_eq_true rfl) ?_
  refine S_bipush (z := 8) dX16_init_88 rfl ?_
  refine S_iconst dX16_init_90 rfl ?_
  refine P_sai dX16_init_91 h (fun M14 h => ?_)
  refine S_dup dX16_init_92 (Nat.le_of_ble_eq_true rfl) ?_
  refine S_bipush (z := 9) dX16_init_93 rfl ?_
  refine S_iconst dX16_init_95 rfl ?_
  refine P_sai dX16_init_96 h (fun M15 h => ?_)
  refine S_dup dX16_init_97 (Nat.le_of_ble_eq_true rfl) ?_
  refine S_bipush (z := 10) dX16_init_98 rfl ?_
  refine S_iconst dX16_init_100 rfl ?_
  refine P_sai dX16_init_101 h (fun M16 h => ?_)
  refine P_pfr FLX16_25 FPX16_25 (Or.inr ⟨_, rfl⟩) rfl dX16_init_102 h (fun M17 h => ?_)
  exact s_X16_init_105 hD r0 h hz
theorem F_X16_init {g : GG} {d : Nat} (hD : 1 ≤ d) {x0 x1 x2 : Int} {M : MM} {r : MM} (h : f_X16_init x0 x1 x2 M = some r) : Sem g d YX16_init 0 (ini YX16_init [(1, x0), (0, x1), (0, x2)]) [] M ((9, 0), r) := by
  change Sem g d YX16_init 0 [(1, x0), (0, x1), (0, x2)] [] M ((9, 0), r)
  exact s_X16_init_0 hD (P := fun x => x = r) (fun q e => by rw [e]) h rfl
/-! PeerSearchModel.isPeer(I)Z -/
theorem dX16_isPeer_0 : decode cX16_isPeer 0 = .ok (.iload_n 1, 1) := by decide +kernel
theorem dX16_isPeer_1 : decode cX16_isPeer 1 = .ok (.ifCond .lt 15, 3) := by decide +kernel
theorem dX16_isPeer_4 : decode cX16_isPeer 4 = .ok (.iload_n 1, 1) := by decide +kernel
theorem dX16_isPeer_5 : decode cX16_isPeer 5 = .ok (.aload_n 0, 1) := by decide +kernel
theorem dX16_isPeer_6 : decode cX16_isPeer 6 = .ok (.getfield 424, 3) := by decide +kernel
theorem dX16_isPeer_9 : decode cX16_isPeer 9 = .ok (.if_icmp .ge 7, 3) := by decide +kernel
theorem dX16_isPeer_12 : decode cX16_isPeer 12 = .ok (.iconst 1, 1) := by decide +kernel
theorem dX16_isPeer_13 : decode cX16_isPeer 13 = .ok (.goto 4, 3) := by decide +kernel
theorem dX16_isPeer_16 : decode cX16_isPeer 16 = .ok (.iconst 0, 1) := by decide +kernel
theorem dX16_isPeer_17 : decode cX16_isPeer 17 = .ok (.ireturn, 1) := by decide +kernel
def j_X16_isPeer_17 (y0 : Int) (V : VV) : Option (Int) :=
  bz y0 (some y0)
def j_X16_isPeer_16 (V : VV) : Option (Int) :=
  j_X16_isPeer_17 0 V
def f_X16_isPeer (x1 : Int) (V : VV) : Option (Int) :=
  if w32 x1 < 0 then
    j_X16_isPeer_16 V
  else
    if w32 x1 < w32 (w32 (V 156 13)) then
      j_X16_isPeer_17 1 V
    else
      j_X16_isPeer_16 V
theorem s_X16_isPeer_17 {g : GG} {d : Nat} (hD : 0 ≤ d) {y0 : Int} {M : MM} (hM : LM M) {V : VV} {o : AV × MM} {P : (Int) → Prop} (r0 : ∀ r : Int, P r → o = ((0, r), (wr M V))) {z : Int} (h : j_X16_isPeer_17 y0 V = some z) (hz : P z) : Sem g d YX16_isPeer 17 [(9, 0), (9, 0)] [(0, y0)] (wr M V) o := by
  delta j_X16_isPeer_17 at h
  obtain ⟨hb, h⟩ := bz_some h
  obtain rfl := r0 _ (some_P (P := fun r => P r) h hz)
  exact P_ret dX16_isPeer_17 rfl (Or.inr ⟨rfl, hb⟩)
theorem s_X16_isPeer_16 {g : GG} {d : Nat} (hD : 0 ≤ d) {M : MM} (hM : LM M) {V : VV} {o : AV × MM} {P : (Int) → Prop} (r0 : ∀ r : Int, P r → o = ((0, r), (wr M V))) {z : Int} (h : j_X16_isPeer_16 V = some z) (hz : P z) : Sem g d YX16_isPeer 16 [(9, 0), (9, 0)] [] (wr M V) o := by
  delta j_X16_isPeer_16 at h
  refine S_iconst dX16_isPeer_16 rfl ?_
  exact s_X16_isPeer_17 hD hM r0 h hz
theorem s_X16_isPeer_0 {g : GG} {d : Nat} (hD : 0 ≤ d) {x1 : Int} {M : MM} (hM : LM M) {V : VV} {o : AV × MM} {P : (Int) → Prop} (r0 : ∀ r : Int, P r → o = ((0, r), (wr M V))) {z : Int} (h : f_X16_isPeer x1 V = some z) (hz : P z) : Sem g d YX16_isPeer 0 [(1, 156), (0, x1)] [] (wr M V) o := by
  delta f_X16_isPeer at h
  refine S_iload_n (i := 1) dX16_isPeer_0 rfl rfl ?_
  refine P_if_lt (tgt := 16) dX16_isPeer_1 rfl h (fun h => ?_) (fun h => ?_)
  · refine S_weak (ls' := [(9, 0), (9, 0)]) ⟨Or.inl rfl, ⟨Or.inl rfl, trivial⟩⟩ ?_
    exact s_X16_isPeer_16 hD hM r0 h hz
  · refine S_iload_n (i := 1) dX16_isPeer_4 rfl rfl ?_
    refine S_aload_n (i := 0) dX16_isPeer_5 rfl rfl ?_
    refine P2_gfi hM FLX16_424 rfl dX16_isPeer_6 ?_
    refine P_icmp_ge (tgt := 16) dX16_isPeer_9 rfl h (fun h => ?_) (fun h => ?_)
    · refine S_weak (ls' := [(9, 0), (9, 0)]) ⟨Or.inl rfl, ⟨Or.inl rfl, trivial⟩⟩ ?_
      exact s_X16_isPeer_16 hD hM r0 h hz
    · refine S_iconst dX16_isPeer_12 rfl ?_
      refine S_goto (tgt := 17) dX16_isPeer_13 rfl ?_
      refine S_weak (ls' := [(9, 0), (9, 0)]) ⟨Or.inl rfl, ⟨Or.inl rfl, trivial⟩⟩ ?_
      exact s_X16_isPeer_17 hD hM r0 h hz
theorem F_X16_isPeer {g : GG} {d : Nat} (hD : 0 ≤ d) {x1 : Int} {M : MM} (hM : LM M) {V : VV} {r : Int} (h : f_X16_isPeer x1 V = some r) : Sem g d YX16_isPeer 0 (ini YX16_isPeer [(1, 156), (0, x1)]) [] (wr M V) ((0, r), (wr M V)) := by
  change Sem g d YX16_isPeer 0 [(1, 156), (0, x1)] [] (wr M V) ((0, r), (wr M V))
  exact s_X16_isPeer_0 hD hM (P := fun x => x = r) (fun q e => by rw [e]) h rfl
/-! PeerSearchModel.rowAt(IZI)I -/
theorem dX16_rowAt_0 : decode cX16_rowAt 0 = .ok (.iconst (-1), 1) := by decide +kernel
theorem dX16_rowAt_1 : decode cX16_rowAt 1 = .ok (.istore 4, 2) := by decide +kernel
theorem dX16_rowAt_3 : decode cX16_rowAt 3 = .ok (.iconst 0, 1) := by decide +kernel
theorem dX16_rowAt_4 : decode cX16_rowAt 4 = .ok (.istore 5, 2) := by decide +kernel
theorem dX16_rowAt_6 : decode cX16_rowAt 6 = .ok (.iload 5, 2) := by decide +kernel
theorem dX16_rowAt_8 : decode cX16_rowAt 8 = .ok (.iload_n 3, 1) := by decide +kernel
theorem dX16_rowAt_9 : decode cX16_rowAt 9 = .ok (.if_icmp .gt 209, 3) := by decide +kernel
theorem dX16_rowAt_12 : decode cX16_rowAt 12 = .ok (.iconst (-1), 1) := by decide +kernel
theorem dX16_rowAt_13 : decode cX16_rowAt 13 = .ok (.istore 6, 2) := by decide +kernel
theorem dX16_rowAt_15 : decode cX16_rowAt 15 = .ok (.sipush 1100, 3) := by decide +kernel
theorem dX16_rowAt_18 : decode cX16_rowAt 18 = .ok (.iload_n 1, 1) := by decide +kernel
theorem dX16_rowAt_19 : decode cX16_rowAt 19 = .ok (.imul, 1) := by decide +kernel
theorem dX16_rowAt_20 : decode cX16_rowAt 20 = .ok (.istore 7, 2) := by decide +kernel
theorem dX16_rowAt_22 : decode cX16_rowAt 22 = .ok (.iload 7, 2) := by decide +kernel
theorem dX16_rowAt_24 : decode cX16_rowAt 24 = .ok (.sipush 1100, 3) := by decide +kernel
theorem dX16_rowAt_27 : decode cX16_rowAt 27 = .ok (.iload_n 1, 1) := by decide +kernel
theorem dX16_rowAt_28 : decode cX16_rowAt 28 = .ok (.imul, 1) := by decide +kernel
theorem dX16_rowAt_29 : decode cX16_rowAt 29 = .ok (.aload_n 0, 1) := by decide +kernel
theorem dX16_rowAt_30 : decode cX16_rowAt 30 = .ok (.getfield 110, 3) := by decide +kernel
theorem dX16_rowAt_33 : decode cX16_rowAt 33 = .ok (.iload_n 1, 1) := by decide +kernel
theorem dX16_rowAt_34 : decode cX16_rowAt 34 = .ok (.iaload, 1) := by decide +kernel
theorem dX16_rowAt_35 : decode cX16_rowAt 35 = .ok (.iadd, 1) := by decide +kernel
theorem dX16_rowAt_36 : decode cX16_rowAt 36 = .ok (.if_icmp .ge 165, 3) := by decide +kernel
theorem dX16_rowAt_39 : decode cX16_rowAt 39 = .ok (.iload 4, 2) := by decide +kernel
theorem dX16_rowAt_41 : decode cX16_rowAt 41 = .ok (.ifCond .lt 54, 3) := by decide +kernel
theorem dX16_rowAt_44 : decode cX16_rowAt 44 = .ok (.aload_n 0, 1) := by decide +kernel
theorem dX16_rowAt_45 : decode cX16_rowAt 45 = .ok (.getfield 121, 3) := by decide +kernel
theorem dX16_rowAt_48 : decode cX16_rowAt 48 = .ok (.iload 7, 2) := by decide +kernel
theorem dX16_rowAt_50 : decode cX16_rowAt 50 = .ok (.iaload, 1) := by decide +kernel
theorem dX16_rowAt_51 : decode cX16_rowAt 51 = .ok (.aload_n 0, 1) := by decide +kernel
theorem dX16_rowAt_52 : decode cX16_rowAt 52 = .ok (.getfield 121, 3) := by decide +kernel
theorem dX16_rowAt_55 : decode cX16_rowAt 55 = .ok (.iload 4, 2) := by decide +kernel
theorem dX16_rowAt_57 : decode cX16_rowAt 57 = .ok (.iaload, 1) := by decide +kernel
theorem dX16_rowAt_58 : decode cX16_rowAt 58 = .ok (.if_icmp .gt 37, 3) := by decide +kernel
theorem dX16_rowAt_61 : decode cX16_rowAt 61 = .ok (.aload_n 0, 1) := by decide +kernel
theorem dX16_rowAt_62 : decode cX16_rowAt 62 = .ok (.getfield 121, 3) := by decide +kernel
theorem dX16_rowAt_65 : decode cX16_rowAt 65 = .ok (.iload 7, 2) := by decide +kernel
theorem dX16_rowAt_67 : decode cX16_rowAt 67 = .ok (.iaload, 1) := by decide +kernel
theorem dX16_rowAt_68 : decode cX16_rowAt 68 = .ok (.aload_n 0, 1) := by decide +kernel
theorem dX16_rowAt_69 : decode cX16_rowAt 69 = .ok (.getfield 121, 3) := by decide +kernel
theorem dX16_rowAt_72 : decode cX16_rowAt 72 = .ok (.iload 4, 2) := by decide +kernel
theorem dX16_rowAt_74 : decode cX16_rowAt 74 = .ok (.iaload, 1) := by decide +kernel
theorem dX16_rowAt_75 : decode cX16_rowAt 75 = .ok (.if_icmp .ne 24, 3) := by decide +kernel
theorem dX16_rowAt_78 : decode cX16_rowAt 78 = .ok (.aload_n 0, 1) := by decide +kernel
theorem dX16_rowAt_79 : decode cX16_rowAt 79 = .ok (.getfield 128, 3) := by decide +kernel
theorem dX16_rowAt_82 : decode cX16_rowAt 82 = .ok (.iload 7, 2) := by decide +kernel
theorem dX16_rowAt_84 : decode cX16_rowAt 84 = .ok (.iaload, 1) := by decide +kernel
theorem dX16_rowAt_85 : decode cX16_rowAt 85 = .ok (.aload_n 0, 1) := by decide +kernel
theorem dX16_rowAt_86 : decode cX16_rowAt 86 = .ok (.getfield 128, 3) := by decide +kernel
theorem dX16_rowAt_89 : decode cX16_rowAt 89 = .ok (.iload 4, 2) := by decide +kernel
theorem dX16_rowAt_91 : decode cX16_rowAt 91 = .ok (.iaload, 1) := by decide +kernel
theorem dX16_rowAt_92 : decode cX16_rowAt 92 = .ok (.if_icmp .le 7, 3) := by decide +kernel
theorem dX16_rowAt_95 : decode cX16_rowAt 95 = .ok (.iconst 1, 1) := by decide +kernel
theorem dX16_rowAt_96 : decode cX16_rowAt 96 = .ok (.goto 4, 3) := by decide +kernel
theorem dX16_rowAt_99 : decode cX16_rowAt 99 = .ok (.iconst 0, 1) := by decide +kernel
theorem dX16_rowAt_100 : decode cX16_rowAt 100 = .ok (.istore 8, 2) := by decide +kernel
theorem dX16_rowAt_102 : decode cX16_rowAt 102 = .ok (.iload 6, 2) := by decide +kernel
theorem dX16_rowAt_104 : decode cX16_rowAt 104 = .ok (.ifCond .lt 54, 3) := by decide +kernel
theorem dX16_rowAt_107 : decode cX16_rowAt 107 = .ok (.aload_n 0, 1) := by decide +kernel
theorem dX16_rowAt_108 : decode cX16_rowAt 108 = .ok (.getfield 121, 3) := by decide +kernel
theorem dX16_rowAt_111 : decode cX16_rowAt 111 = .ok (.iload 7, 2) := by decide +kernel
theorem dX16_rowAt_113 : decode cX16_rowAt 113 = .ok (.iaload, 1) := by decide +kernel
theorem dX16_rowAt_114 : decode cX16_rowAt 114 = .ok (.aload_n 0, 1) := by decide +kernel
theorem dX16_rowAt_115 : decode cX16_rowAt 115 = .ok (.getfield 121, 3) := by decide +kernel
theorem dX16_rowAt_118 : decode cX16_rowAt 118 = .ok (.iload 6, 2) := by decide +kernel
theorem dX16_rowAt_120 : decode cX16_rowAt 120 = .ok (.iaload, 1) := by decide +kernel
theorem dX16_rowAt_121 : decode cX16_rowAt 121 = .ok (.if_icmp .lt 37, 3) := by decide +kernel
theorem dX16_rowAt_124 : decode cX16_rowAt 124 = .ok (.aload_n 0, 1) := by decide +kernel
theorem dX16_rowAt_125 : decode cX16_rowAt 125 = .ok (.getfield 121, 3) := by decide +kernel
theorem dX16_rowAt_128 : decode cX16_rowAt 128 = .ok (.iload 7, 2) := by decide +kernel
theorem dX16_rowAt_130 : decode cX16_rowAt 130 = .ok (.iaload, 1) := by decide +kernel
theorem dX16_rowAt_131 : decode cX16_rowAt 131 = .ok (.aload_n 0, 1) := by decide +kernel
theorem dX16_rowAt_132 : decode cX16_rowAt 132 = .ok (.getfield 121, 3) := by decide +kernel
theorem dX16_rowAt_135 : decode cX16_rowAt 135 = .ok (.iload 6, 2) := by decide +kernel
theorem dX16_rowAt_137 : decode cX16_rowAt 137 = .ok (.iaload, 1) := by decide +kernel
theorem dX16_rowAt_138 : decode cX16_rowAt 138 = .ok (.if_icmp .ne 24, 3) := by decide +kernel
theorem dX16_rowAt_141 : decode cX16_rowAt 141 = .ok (.aload_n 0, 1) := by decide +kernel
theorem dX16_rowAt_142 : decode cX16_rowAt 142 = .ok (.getfield 128, 3) := by decide +kernel
theorem dX16_rowAt_145 : decode cX16_rowAt 145 = .ok (.iload 7, 2) := by decide +kernel
theorem dX16_rowAt_147 : decode cX16_rowAt 147 = .ok (.iaload, 1) := by decide +kernel
theorem dX16_rowAt_148 : decode cX16_rowAt 148 = .ok (.aload_n 0, 1) := by decide +kernel
theorem dX16_rowAt_149 : decode cX16_rowAt 149 = .ok (.getfield 128, 3) := by decide +kernel
theorem dX16_rowAt_152 : decode cX16_rowAt 152 = .ok (.iload 6, 2) := by decide +kernel
theorem dX16_rowAt_154 : decode cX16_rowAt 154 = .ok (.iaload, 1) := by decide +kernel
theorem dX16_rowAt_155 : decode cX16_rowAt 155 = .ok (.if_icmp .ge 7, 3) := by decide +kernel
theorem dX16_rowAt_158 : decode cX16_rowAt 158 = .ok (.iconst 1, 1) := by decide +kernel
theorem dX16_rowAt_159 : decode cX16_rowAt 159 = .ok (.goto 4, 3) := by decide +kernel
theorem dX16_rowAt_162 : decode cX16_rowAt 162 = .ok (.iconst 0, 1) := by decide +kernel
theorem dX16_rowAt_163 : decode cX16_rowAt 163 = .ok (.istore 9, 2) := by decide +kernel
theorem dX16_rowAt_165 : decode cX16_rowAt 165 = .ok (.aload_n 0, 1) := by decide +kernel
theorem dX16_rowAt_166 : decode cX16_rowAt 166 = .ok (.getfield 124, 3) := by decide +kernel
theorem dX16_rowAt_169 : decode cX16_rowAt 169 = .ok (.iload 7, 2) := by decide +kernel
theorem dX16_rowAt_171 : decode cX16_rowAt 171 = .ok (.baload, 1) := by decide +kernel
theorem dX16_rowAt_172 : decode cX16_rowAt 172 = .ok (.iload_n 2, 1) := by decide +kernel
theorem dX16_rowAt_173 : decode cX16_rowAt 173 = .ok (.if_icmp .ne 18, 3) := by decide +kernel
theorem dX16_rowAt_176 : decode cX16_rowAt 176 = .ok (.iload 8, 2) := by decide +kernel
theorem dX16_rowAt_178 : decode cX16_rowAt 178 = .ok (.ifCond .eq 13, 3) := by decide +kernel
theorem dX16_rowAt_181 : decode cX16_rowAt 181 = .ok (.iload 9, 2) := by decide +kernel
theorem dX16_rowAt_183 : decode cX16_rowAt 183 = .ok (.ifCond .eq 8, 3) := by decide +kernel
theorem dX16_rowAt_186 : decode cX16_rowAt 186 = .ok (.iload 7, 2) := by decide +kernel
theorem dX16_rowAt_188 : decode cX16_rowAt 188 = .ok (.goto 5, 3) := by decide +kernel
theorem dX16_rowAt_191 : decode cX16_rowAt 191 = .ok (.iload 6, 2) := by decide +kernel
theorem dX16_rowAt_193 : decode cX16_rowAt 193 = .ok (.istore 6, 2) := by decide +kernel
theorem dX16_rowAt_195 : decode cX16_rowAt 195 = .ok (.iinc 7 1, 3) := by decide +kernel
theorem dX16_rowAt_198 : decode cX16_rowAt 198 = .ok (.goto (-176), 3) := by decide +kernel
theorem dX16_rowAt_201 : decode cX16_rowAt 201 = .ok (.iload 6, 2) := by decide +kernel
theorem dX16_rowAt_203 : decode cX16_rowAt 203 = .ok (.ifCond .ge 5, 3) := by decide +kernel
theorem dX16_rowAt_206 : decode cX16_rowAt 206 = .ok (.iconst (-1), 1) := by decide +kernel
theorem dX16_rowAt_207 : decode cX16_rowAt 207 = .ok (.ireturn, 1) := by decide +kernel
theorem dX16_rowAt_208 : decode cX16_rowAt 208 = .ok (.iload 6, 2) := by decide +kernel
theorem dX16_rowAt_210 : decode cX16_rowAt 210 = .ok (.istore 4, 2) := by decide +kernel
theorem dX16_rowAt_212 : decode cX16_rowAt 212 = .ok (.iinc 5 1, 3) := by decide +kernel
theorem dX16_rowAt_215 : decode cX16_rowAt 215 = .ok (.goto (-209), 3) := by decide +kernel
theorem dX16_rowAt_218 : decode cX16_rowAt 218 = .ok (.iload 4, 2) := by decide +kernel
theorem dX16_rowAt_220 : decode cX16_rowAt 220 = .ok (.ireturn, 1) := by decide +kernel
def j_X16_rowAt_201 (x1 x2 x3 x5 x6 : Int) (V : VV) : Option ((Int × Int) ⊕ (Int)) :=
  if w32 x6 < 0 then
    xit (some (-1))
  else
    cnt (x6, x5 + 1)
def j_X16_rowAt_193 (x1 x2 x3 x4 x5 x7 y0 : Int) (V : VV) : Option ((Int × Int) ⊕ ((Int × Int) ⊕ (Int))) :=
  cnt (y0, x7 + 1)
def j_X16_rowAt_191 (x1 x2 x3 x4 x5 x6 x7 : Int) (V : VV) : Option ((Int × Int) ⊕ ((Int × Int) ⊕ (Int))) :=
  j_X16_rowAt_193 x1 x2 x3 x4 x5 x7 x6 V
def j_X16_rowAt_163 (x1 x2 x3 x4 x5 x6 x7 x8 y0 : Int) (V : VV) : Option ((Int × Int) ⊕ ((Int × Int) ⊕ (Int))) :=
  (l2 193 35200 x7 V).bind fun v1 =>
  if w32 v1 = w32 x2 then
    if w32 x8 = 0 then
      j_X16_rowAt_191 x1 x2 x3 x4 x5 x6 x7 V
    else
      if w32 y0 = 0 then
        j_X16_rowAt_191 x1 x2 x3 x4 x5 x6 x7 V
      else
        j_X16_rowAt_193 x1 x2 x3 x4 x5 x7 x7 V
  else
    j_X16_rowAt_191 x1 x2 x3 x4 x5 x6 x7 V
def j_X16_rowAt_162 (x1 x2 x3 x4 x5 x6 x7 x8 : Int) (V : VV) : Option ((Int × Int) ⊕ ((Int × Int) ⊕ (Int))) :=
  j_X16_rowAt_163 x1 x2 x3 x4 x5 x6 x7 x8 0 V
def j_X16_rowAt_158 (x1 x2 x3 x4 x5 x6 x7 x8 : Int) (V : VV) : Option ((Int × Int) ⊕ ((Int × Int) ⊕ (Int))) :=
  j_X16_rowAt_163 x1 x2 x3 x4 x5 x6 x7 x8 1 V
def j_X16_rowAt_100 (x1 x2 x3 x4 x5 x6 x7 y0 : Int) (V : VV) : Option ((Int × Int) ⊕ ((Int × Int) ⊕ (Int))) :=
  if w32 x6 < 0 then
    j_X16_rowAt_158 x1 x2 x3 x4 x5 x6 x7 y0 V
  else
    (l2 192 35200 x7 V).bind fun v1 =>
    (l2 192 35200 x6 V).bind fun v2 =>
    if w32 v1 < w32 v2 then
      j_X16_rowAt_158 x1 x2 x3 x4 x5 x6 x7 y0 V
    else
      (l2 192 35200 x7 V).bind fun v3 =>
      (l2 192 35200 x6 V).bind fun v4 =>
      if w32 v3 = w32 v4 then
        (l2 194 35200 x7 V).bind fun v5 =>
        (l2 194 35200 x6 V).bind fun v6 =>
        if w32 v5 < w32 v6 then
          j_X16_rowAt_158 x1 x2 x3 x4 x5 x6 x7 y0 V
        else
          j_X16_rowAt_162 x1 x2 x3 x4 x5 x6 x7 y0 V
      else
        j_X16_rowAt_162 x1 x2 x3 x4 x5 x6 x7 y0 V
def j_X16_rowAt_99 (x1 x2 x3 x4 x5 x6 x7 : Int) (V : VV) : Option ((Int × Int) ⊕ ((Int × Int) ⊕ (Int))) :=
  j_X16_rowAt_100 x1 x2 x3 x4 x5 x6 x7 0 V
def j_X16_rowAt_95 (x1 x2 x3 x4 x5 x6 x7 : Int) (V : VV) : Option ((Int × Int) ⊕ ((Int × Int) ⊕ (Int))) :=
  j_X16_rowAt_100 x1 x2 x3 x4 x5 x6 x7 1 V
def b_X16_rowAt_22 (x1 x2 x3 x4 x5 x6 x7 : Int) (V : VV) : Option ((Int × Int) ⊕ ((Int × Int) ⊕ (Int))) :=
  (l2 189 32 x1 V).bind fun v1 =>
  if w32 x7 < w32 ((1100 * x1) + v1) then
    if w32 x4 < 0 then
      j_X16_rowAt_95 x1 x2 x3 x4 x5 x6 x7 V
    else
      (l2 192 35200 x7 V).bind fun v2 =>
      (l2 192 35200 x4 V).bind fun v3 =>
      if w32 v3 < w32 v2 then
        j_X16_rowAt_95 x1 x2 x3 x4 x5 x6 x7 V
      else
        (l2 192 35200 x7 V).bind fun v4 =>
        (l2 192 35200 x4 V).bind fun v5 =>
        if w32 v4 = w32 v5 then
          (l2 194 35200 x7 V).bind fun v6 =>
          (l2 194 35200 x4 V).bind fun v7 =>
          if w32 v7 < w32 v6 then
            j_X16_rowAt_95 x1 x2 x3 x4 x5 x6 x7 V
          else
            j_X16_rowAt_99 x1 x2 x3 x4 x5 x6 x7 V
        else
          j_X16_rowAt_99 x1 x2 x3 x4 x5 x6 x7 V
  else
    xit (j_X16_rowAt_201 x1 x2 x3 x5 x6 V)
def l_X16_rowAt_22 (x1 x2 x3 x4 x5 x6 x7 : Int) (V : VV) : Option ((Int × Int) ⊕ (Int)) := lpN (fun s : Int × Int => b_X16_rowAt_22 x1 x2 x3 x4 x5 s.1 s.2 V) FU (x6, x7)
def b_X16_rowAt_6 (x1 x2 x3 x4 x5 : Int) (V : VV) : Option ((Int × Int) ⊕ (Int)) :=
  if w32 x3 < w32 x5 then
    xit (some x4)
  else
    l_X16_rowAt_22 x1 x2 x3 x4 x5 (-1) (1100 * x1) V
def l_X16_rowAt_6 (x1 x2 x3 x4 x5 : Int) (V : VV) : Option (Int) := lpN (fun s : Int × Int => b_X16_rowAt_6 x1 x2 x3 s.1 s.2 V) FU (x4, x5)
def f_X16_rowAt (x1 x2 x3 : Int) (V : VV) : Option (Int) :=
  l_X16_rowAt_6 x1 x2 x3 (-1) 0 V
theorem s_X16_rowAt_201 {g : GG} {d : Nat} (hD : 0 ≤ d) {x1 x2 x3 x5 x6 : Int} {M : MM} (hM : LM M) {V : VV} {o : AV × MM} {P : ((Int × Int) ⊕ (Int)) → Prop} (c0 : ∀ s : Int × Int, P (.inl s) → Sem g d YX16_rowAt 6 [(1, 156), (0, x1), (0, x2), (0, x3), (0, s.1), (0, s.2), (9, 0), (9, 0), (9, 0), (9, 0)] [] (wr M V) o) (r0 : ∀ r : Int, P (.inr r) → o = ((0, r), (wr M V))) {z : (Int × Int) ⊕ (Int)} (h : j_X16_rowAt_201 x1 x2 x3 x5 x6 V = some z) (hz : P z) : Sem g d YX16_rowAt 201 [(1, 156), (0, x1), (0, x2), (0, x3), (9, 0), (0, x5), (0, x6), (9, 0), (9, 0), (9, 0)] [] (wr M V) o := by
  delta j_X16_rowAt_201 at h
  refine S_iload dX16_rowAt_201 rfl ?_
  refine P_if_ge (tgt := 208) dX16_rowAt_203 rfl h (fun h => ?_) (fun h => ?_)
  · refine S_iload dX16_rowAt_208 rfl ?_
    refine S_istore dX16_rowAt_210 (Nat.le_of_ble_eq_true rfl) rfl rfl ?_
    change Sem g d YX16_rowAt 212 [(1, 156), (0, x1), (0, x2), (0, x3), (0, x6), (0, x5), (0, x6), (9, 0), (9, 0), (9, 0)] [] (wr M V) o
    refine S_iinc dX16_rowAt_212 rfl rfl rfl ?_
    change Sem g d YX16_rowAt 215 [(1, 156), (0, x1), (0, x2), (0, x3), (0, x6), (0, x5 + 1), (0, x6), (9, 0), (9, 0), (9, 0)] [] (wr M V) o
    refine S_goto (tgt := 6) dX16_rowAt_215 rfl ?_
    refine S_weak (ls' := [(1, 156), (0, x1), (0, x2), (0, x3), (0, x6), (0, x5 + 1), (9, 0), (9, 0), (9, 0), (9, 0)]) ⟨Or.inr rfl, ⟨Or.inr rfl, ⟨Or.inr rfl, ⟨Or.inr rfl, ⟨Or.inr rfl, ⟨Or.inr rfl, ⟨Or.inl rfl, ⟨Or.inl rfl, ⟨Or.inl rfl, ⟨Or.inl rfl, trivial⟩⟩⟩⟩⟩⟩⟩⟩⟩⟩ ?_
    exact c0 (x6, x5 + 1) (some_P (P := fun r => P r) h hz)
  · obtain ⟨z0, h, hz⟩ := xit_some' (P := fun r => P r) h hz
    refine S_iconst dX16_rowAt_206 rfl ?_
    obtain rfl := r0 _ (some_P (P := fun r => P (.inr r)) h hz)
    exact P_ret dX16_rowAt_207 rfl (Or.inl rfl)
theorem s_X16_rowAt_193 {g : GG} {d : Nat} (hD : 0 ≤ d) {x1 x2 x3 x4 x5 x7 y0 : Int} {M : MM} (hM : LM M) {V : VV} {o : AV × MM} {P : ((Int × Int) ⊕ ((Int × Int) ⊕ (Int))) → Prop} (c1 : ∀ s : Int × Int, P (.inl s) → Sem g d YX16_rowAt 22 [(1, 156), (0, x1), (0, x2), (0, x3), (0, x4), (0, x5), (0, s.1), (0, s.2), (9, 0), (9, 0)] [] (wr M V) o) (c0 : ∀ s : Int × Int, P (.inr (.inl s)) → Sem g d YX16_rowAt 6 [(1, 156), (0, x1), (0, x2), (0, x3), (0, s.1), (0, s.2), (9, 0), (9, 0), (9, 0), (9, 0)] [] (wr M V) o) (r0 : ∀ r : Int, P (.inr (.inr r)) → o = ((0, r), (wr M V))) {z : (Int × Int) ⊕ ((Int × Int) ⊕ (Int))} (h : j_X16_rowAt_193 x1 x2 x3 x4 x5 x7 y0 V = some z) (hz : P z) : Sem g d YX16_rowAt 193 [(1, 156), (0, x1), (0, x2), (0, x3), (0, x4), (0, x5), (9, 0), (0, x7), (9, 0), (9, 0)] [(0, y0)] (wr M V) o := by
  delta j_X16_rowAt_193 at h
  refine S_istore dX16_rowAt_193 (Nat.le_of_ble_eq_true rfl) rfl rfl ?_
  change Sem g d YX16_rowAt 195 [(1, 156), (0, x1), (0, x2), (0, x3), (0, x4), (0, x5), (0, y0), (0, x7), (9, 0), (9, 0)] [] (wr M V) o
  refine S_iinc dX16_rowAt_195 rfl rfl rfl ?_
  change Sem g d YX16_rowAt 198 [(1, 156), (0, x1), (0, x2), (0, x3), (0, x4), (0, x5), (0, y0), (0, x7 + 1), (9, 0), (9, 0)] [] (wr M V) o
  refine S_goto (tgt := 22) dX16_rowAt_198 rfl ?_
  exact c1 (y0, x7 + 1) (some_P (P := fun r => P r) h hz)
theorem s_X16_rowAt_191 {g : GG} {d : Nat} (hD : 0 ≤ d) {x1 x2 x3 x4 x5 x6 x7 : Int} {M : MM} (hM : LM M) {V : VV} {o : AV × MM} {P : ((Int × Int) ⊕ ((Int × Int) ⊕ (Int))) → Prop} (c1 : ∀ s : Int × Int, P (.inl s) → Sem g d YX16_rowAt 22 [(1, 156), (0, x1), (0, x2), (0, x3), (0, x4), (0, x5), (0, s.1), (0, s.2), (9, 0), (9, 0)] [] (wr M V) o) (c0 : ∀ s : Int × Int, P (.inr (.inl s)) → Sem g d YX16_rowAt 6 [(1, 156), (0, x1), (0, x2), (0, x3), (0, s.1), (0, s.2), (9, 0), (9, 0), (9, 0), (9, 0)] [] (wr M V) o) (r0 : ∀ r : Int, P (.inr (.inr r)) → o = ((0, r), (wr M V))) {z : (Int × Int) ⊕ ((Int × Int) ⊕ (Int))} (h : j_X16_rowAt_191 x1 x2 x3 x4 x5 x6 x7 V = some z) (hz : P z) : Sem g d YX16_rowAt 191 [(1, 156), (0, x1), (0, x2), (0, x3), (0, x4), (0, x5), (0, x6), (0, x7), (9, 0), (9, 0)] [] (wr M V) o := by
  delta j_X16_rowAt_191 at h
  refine S_iload dX16_rowAt_191 rfl ?_
  refine S_weak (ls' := [(1, 156), (0, x1), (0, x2), (0, x3), (0, x4), (0, x5), (9, 0), (0, x7), (9, 0), (9, 0)]) ⟨Or.inr rfl, ⟨Or.inr rfl, ⟨Or.inr rfl, ⟨Or.inr rfl, ⟨Or.inr rfl, ⟨Or.inr rfl, ⟨Or.inl rfl, ⟨Or.inr rfl, ⟨Or.inl rfl, ⟨Or.inl rfl, trivial⟩⟩⟩⟩⟩⟩⟩⟩⟩⟩ ?_
  exact s_X16_rowAt_193 hD hM c1 c0 r0 h hz
theorem s_X16_rowAt_163 {g : GG} {d : Nat} (hD : 0 ≤ d) {x1 x2 x3 x4 x5 x6 x7 x8 y0 : Int} {M : MM} (hM : LM M) {V : VV} {o : AV × MM} {P : ((Int × Int) ⊕ ((Int × Int) ⊕ (Int))) → Prop} (c1 : ∀ s : Int × Int, P (.inl s) → Sem g d YX16_rowAt 22 [(1, 156), (0, x1), (0, x2), (0, x3), (0, x4), (0, x5), (0, s.1), (0, s.2), (9, 0), (9, 0)] [] (wr M V) o) (c0 : ∀ s : Int × Int, P (.inr (.inl s)) → Sem g d YX16_rowAt 6 [(1, 156), (0, x1), (0, x2), (0, x3), (0, s.1), (0, s.2), (9, 0), (9, 0), (9, 0), (9, 0)] [] (wr M V) o) (r0 : ∀ r : Int, P (.inr (.inr r)) → o = ((0, r), (wr M V))) {z : (Int × Int) ⊕ ((Int × Int) ⊕ (Int))} (h : j_X16_rowAt_163 x1 x2 x3 x4 x5 x6 x7 x8 y0 V = some z) (hz : P z) : Sem g d YX16_rowAt 163 [(1, 156), (0, x1), (0, x2), (0, x3), (0, x4), (0, x5), (0, x6), (0, x7), (0, x8), (9, 0)] [(0, y0)] (wr M V) o := by
  delta j_X16_rowAt_163 at h
  refine S_istore dX16_rowAt_163 (Nat.le_of_ble_eq_true rfl) rfl rfl ?_
  change Sem g d YX16_rowAt 165 [(1, 156), (0, x1), (0, x2), (0, x3), (0, x4), (0, x5), (0, x6), (0, x7), (0, x8), (0, y0)] [] (wr M V) o
  refine S_aload_n (i := 0) dX16_rowAt_165 rfl rfl ?_
  refine P2_gfr hM (a := 193) FLX16_124 rfl ⟨rfl, rfl⟩ dX16_rowAt_166 ?_
  refine S_iload dX16_rowAt_169 rfl ?_
  refine P2_laz hM (a := 193) (n := 35200) rfl dX16_rowAt_171 h (fun v1 h => ?_)
  refine S_iload_n (i := 2) dX16_rowAt_172 rfl rfl ?_
  refine P_icmp_ne (tgt := 191) dX16_rowAt_173 rfl h (fun h => ?_) (fun h => ?_)
  · refine S_weak (ls' := [(1, 156), (0, x1), (0, x2), (0, x3), (0, x4), (0, x5), (0, x6), (0, x7), (9, 0), (9, 0)]) ⟨Or.inr rfl, ⟨Or.inr rfl, ⟨Or.inr rfl, ⟨Or.inr rfl, ⟨Or.inr rfl, ⟨Or.inr rfl, ⟨Or.inr rfl, ⟨Or.inr rfl, ⟨Or.inl rfl, ⟨Or.inl rfl, trivial⟩⟩⟩⟩⟩⟩⟩⟩⟩⟩ ?_
    exact s_X16_rowAt_191 hD hM c1 c0 r0 h hz
  · refine S_iload dX16_rowAt_176 rfl ?_
    refine P_if_eq (tgt := 191) dX16_rowAt_178 rfl h (fun h => ?_) (fun h => ?_)
    · refine S_weak (ls' := [(1, 156), (0, x1), (0, x2), (0, x3), (0, x4), (0, x5), (0, x6), (0, x7), (9, 0), (9, 0)]) ⟨Or.inr rfl, ⟨Or.inr rfl, ⟨Or.inr rfl, ⟨Or.inr rfl, ⟨Or.inr rfl, ⟨Or.inr rfl, ⟨Or.inr rfl, ⟨Or.inr rfl, ⟨Or.inl rfl, ⟨Or.inl rfl, trivial⟩⟩⟩⟩⟩⟩⟩⟩⟩⟩ ?_
      exact s_X16_rowAt_191 hD hM c1 c0 r0 h hz
    · refine S_iload dX16_rowAt_181 rfl ?_
      refine P_if_eq (tgt := 191) dX16_rowAt_183 rfl h (fun h => ?_) (fun h => ?_)
      · refine S_weak (ls' := [(1, 156), (0, x1), (0, x2), (0, x3), (0, x4), (0, x5), (0, x6), (0, x7), (9, 0), (9, 0)]) ⟨Or.inr rfl, ⟨Or.inr rfl, ⟨Or.inr rfl, ⟨Or.inr rfl, ⟨Or.inr rfl, ⟨Or.inr rfl, ⟨Or.inr rfl, ⟨Or.inr rfl, ⟨Or.inl rfl, ⟨Or.inl rfl, trivial⟩⟩⟩⟩⟩⟩⟩⟩⟩⟩ ?_
        exact s_X16_rowAt_191 hD hM c1 c0 r0 h hz
      · refine S_iload dX16_rowAt_186 rfl ?_
        refine S_goto (tgt := 193) dX16_rowAt_188 rfl ?_
        refine S_weak (ls' := [(1, 156), (0, x1), (0, x2), (0, x3), (0, x4), (0, x5), (9, 0), (0, x7), (9, 0), (9, 0)]) ⟨Or.inr rfl, ⟨Or.inr rfl, ⟨Or.inr rfl, ⟨Or.inr rfl, ⟨Or.inr rfl, ⟨Or.inr rfl, ⟨Or.inl rfl, ⟨Or.inr rfl, ⟨Or.inl rfl, ⟨Or.inl rfl, trivial⟩⟩⟩⟩⟩⟩⟩⟩⟩⟩ ?_
        exact s_X16_rowAt_193 hD hM c1 c0 r0 h hz
theorem s_X16_rowAt_162 {g : GG} {d : Nat} (hD : 0 ≤ d) {x1 x2 x3 x4 x5 x6 x7 x8 : Int} {M : MM} (hM : LM M) {V : VV} {o : AV × MM} {P : ((Int × Int) ⊕ ((Int × Int) ⊕ (Int))) → Prop} (c1 : ∀ s : Int × Int, P (.inl s) → Sem g d YX16_rowAt 22 [(1, 156), (0, x1), (0, x2), (0, x3), (0, x4), (0, x5), (0, s.1), (0, s.2), (9, 0), (9, 0)] [] (wr M V) o) (c0 : ∀ s : Int × Int, P (.inr (.inl s)) → Sem g d YX16_rowAt 6 [(1, 156), (0, x1), (0, x2), (0, x3), (0, s.1), (0, s.2), (9, 0), (9, 0), (9, 0), (9, 0)] [] (wr M V) o) (r0 : ∀ r : Int, P (.inr (.inr r)) → o = ((0, r), (wr M V))) {z : (Int × Int) ⊕ ((Int × Int) ⊕ (Int))} (h : j_X16_rowAt_162 x1 x2 x3 x4 x5 x6 x7 x8 V = some z) (hz : P z) : Sem g d YX16_rowAt 162 [(1, 156), (0, x1), (0, x2), (0, x3), (0, x4), (0, x5), (0, x6), (0, x7), (0, x8), (9, 0)] [] (wr M V) o := by
  delta j_X16_rowAt_162 at h
  refine S_iconst dX16_rowAt_162 rfl ?_
  exact s_X16_rowAt_163 hD hM c1 c0 r0 h hz
theorem s_X16_rowAt_158 {g : GG} {d : Nat} (hD : 0 ≤ d) {x1 x2 x3 x4 x5 x6 x7 x8 : Int} {M : MM} (hM : LM M) {V : VV} {o : AV × MM} {P : ((Int × Int) ⊕ ((Int × Int) ⊕ (Int))) → Prop} (c1 : ∀ s : Int × Int, P (.inl s) → Sem g d YX16_rowAt 22 [(1, 156), (0, x1), (0, x2), (0, x3), (0, x4), (0, x5), (0, s.1), (0, s.2), (9, 0), (9, 0)] [] (wr M V) o) (c0 : ∀ s : Int × Int, P (.inr (.inl s)) → Sem g d YX16_rowAt 6 [(1, 156), (0, x1), (0, x2), (0, x3), (0, s.1), (0, s.2), (9, 0), (9, 0), (9, 0), (9, 0)] [] (wr M V) o) (r0 : ∀ r : Int, P (.inr (.inr r)) → o = ((0, r), (wr M V))) {z : (Int × Int) ⊕ ((Int × Int) ⊕ (Int))} (h : j_X16_rowAt_158 x1 x2 x3 x4 x5 x6 x7 x8 V = some z) (hz : P z) : Sem g d YX16_rowAt 158 [(1, 156), (0, x1), (0, x2), (0, x3), (0, x4), (0, x5), (0, x6), (0, x7), (0, x8), (9, 0)] [] (wr M V) o := by
  delta j_X16_rowAt_158 at h
  refine S_iconst dX16_rowAt_158 rfl ?_
  refine S_goto (tgt := 163) dX16_rowAt_159 rfl ?_
  exact s_X16_rowAt_163 hD hM c1 c0 r0 h hz
theorem s_X16_rowAt_100 {g : GG} {d : Nat} (hD : 0 ≤ d) {x1 x2 x3 x4 x5 x6 x7 y0 : Int} {M : MM} (hM : LM M) {V : VV} {o : AV × MM} {P : ((Int × Int) ⊕ ((Int × Int) ⊕ (Int))) → Prop} (c1 : ∀ s : Int × Int, P (.inl s) → Sem g d YX16_rowAt 22 [(1, 156), (0, x1), (0, x2), (0, x3), (0, x4), (0, x5), (0, s.1), (0, s.2), (9, 0), (9, 0)] [] (wr M V) o) (c0 : ∀ s : Int × Int, P (.inr (.inl s)) → Sem g d YX16_rowAt 6 [(1, 156), (0, x1), (0, x2), (0, x3), (0, s.1), (0, s.2), (9, 0), (9, 0), (9, 0), (9, 0)] [] (wr M V) o) (r0 : ∀ r : Int, P (.inr (.inr r)) → o = ((0, r), (wr M V))) {z : (Int × Int) ⊕ ((Int × Int) ⊕ (Int))} (h : j_X16_rowAt_100 x1 x2 x3 x4 x5 x6 x7 y0 V = some z) (hz : P z) : Sem g d YX16_rowAt 100 [(1, 156), (0, x1), (0, x2), (0, x3), (0, x4), (0, x5), (0, x6), (0, x7), (9, 0), (9, 0)] [(0, y0)] (wr M V) o := by
  delta j_X16_rowAt_100 at h
  refine S_istore dX16_rowAt_100 (Nat.le_of_ble_eq_true rfl) rfl rfl ?_
  change Sem g d YX16_rowAt 102 [(1, 156), (0, x1), (0, x2), (0, x3), (0, x4), (0, x5), (0, x6), (0, x7), (0, y0), (9, 0)] [] (wr M V) o
  refine S_iload dX16_rowAt_102 rfl ?_
  refine P_if_lt (tgt := 158) dX16_rowAt_104 rfl h (fun h => ?_) (fun h => ?_)
  · exact s_X16_rowAt_158 hD hM c1 c0 r0 h hz
  · refine S_aload_n (i := 0) dX16_rowAt_107 rfl rfl ?_
    refine P2_gfr hM (a := 192) FLX16_121 rfl ⟨rfl, rfl⟩ dX16_rowAt_108 ?_
    refine S_iload dX16_rowAt_111 rfl ?_
    refine P2_lai hM (a := 192) (n := 35200) rfl dX16_rowAt_113 h (fun v1 h => ?_)
    refine S_aload_n (i := 0) dX16_rowAt_114 rfl rfl ?_
    refine P2_gfr hM (a := 192) FLX16_121 rfl ⟨rfl, rfl⟩ dX16_rowAt_115 ?_
    refine S_iload dX16_rowAt_118 rfl ?_
    refine P2_lai hM (a := 192) (n := 35200) rfl dX16_rowAt_120 h (fun v2 h => ?_)
    refine P_icmp_lt (tgt := 158) dX16_rowAt_121 rfl h (fun h => ?_) (fun h => ?_)
    · exact s_X16_rowAt_158 hD hM c1 c0 r0 h hz
    · refine S_aload_n (i := 0) dX16_rowAt_124 rfl rfl ?_
      refine P2_gfr hM (a := 192) FLX16_121 rfl ⟨rfl, rfl⟩ dX16_rowAt_125 ?_
      refine S_iload dX16_rowAt_128 rfl ?_
      refine P2_lai hM (a := 192) (n := 35200) rfl dX16_rowAt_130 h (fun v3 h => ?_)
      refine S_aload_n (i := 0) dX16_rowAt_131 rfl rfl ?_
      refine P2_gfr hM (a := 192) FLX16_121 rfl ⟨rfl, rfl⟩ dX16_rowAt_132 ?_
      refine S_iload dX16_rowAt_135 rfl ?_
      refine P2_lai hM (a := 192) (n := 35200) rfl dX16_rowAt_137 h (fun v4 h => ?_)
      refine P_icmp_ne (tgt := 162) dX16_rowAt_138 rfl h (fun h => ?_) (fun h => ?_)
      · exact s_X16_rowAt_162 hD hM c1 c0 r0 h hz
      · refine S_aload_n (i := 0) dX16_rowAt_141 rfl rfl ?_
        refine P2_gfr hM (a := 194) FLX16_128 rfl ⟨rfl, rfl⟩ dX16_rowAt_142 ?_
        refine S_iload dX16_rowAt_145 rfl ?_
        refine P2_lai hM (a := 194) (n := 35200) rfl dX16_rowAt_147 h (fun v5 h => ?_)
        refine S_aload_n (i := 0) dX16_rowAt_148 rfl rfl ?_
        refine P2_gfr hM (a := 194) FLX16_128 rfl ⟨rfl, rfl⟩ dX16_rowAt_149 ?_
        refine S_iload dX16_rowAt_152 rfl ?_
        refine P2_lai hM (a := 194) (n := 35200) rfl dX16_rowAt_154 h (fun v6 h => ?_)
        refine P_icmp_ge (tgt := 162) dX16_rowAt_155 rfl h (fun h => ?_) (fun h => ?_)
        · exact s_X16_rowAt_162 hD hM c1 c0 r0 h hz
        · exact s_X16_rowAt_158 hD hM c1 c0 r0 h hz
theorem s_X16_rowAt_99 {g : GG} {d : Nat} (hD : 0 ≤ d) {x1 x2 x3 x4 x5 x6 x7 : Int} {M : MM} (hM : LM M) {V : VV} {o : AV × MM} {P : ((Int × Int) ⊕ ((Int × Int) ⊕ (Int))) → Prop} (c1 : ∀ s : Int × Int, P (.inl s) → Sem g d YX16_rowAt 22 [(1, 156), (0, x1), (0, x2), (0, x3), (0, x4), (0, x5), (0, s.1), (0, s.2), (9, 0), (9, 0)] [] (wr M V) o) (c0 : ∀ s : Int × Int, P (.inr (.inl s)) → Sem g d YX16_rowAt 6 [(1, 156), (0, x1), (0, x2), (0, x3), (0, s.1), (0, s.2), (9, 0), (9, 0), (9, 0), (9, 0)] [] (wr M V) o) (r0 : ∀ r : Int, P (.inr (.inr r)) → o = ((0, r), (wr M V))) {z : (Int × Int) ⊕ ((Int × Int) ⊕ (Int))} (h : j_X16_rowAt_99 x1 x2 x3 x4 x5 x6 x7 V = some z) (hz : P z) : Sem g d YX16_rowAt 99 [(1, 156), (0, x1), (0, x2), (0, x3), (0, x4), (0, x5), (0, x6), (0, x7), (9, 0), (9, 0)] [] (wr M V) o := by
  delta j_X16_rowAt_99 at h
  refine S_iconst dX16_rowAt_99 rfl ?_
  exact s_X16_rowAt_100 hD hM c1 c0 r0 h hz
theorem s_X16_rowAt_95 {g : GG} {d : Nat} (hD : 0 ≤ d) {x1 x2 x3 x4 x5 x6 x7 : Int} {M : MM} (hM : LM M) {V : VV} {o : AV × MM} {P : ((Int × Int) ⊕ ((Int × Int) ⊕ (Int))) → Prop} (c1 : ∀ s : Int × Int, P (.inl s) → Sem g d YX16_rowAt 22 [(1, 156), (0, x1), (0, x2), (0, x3), (0, x4), (0, x5), (0, s.1), (0, s.2), (9, 0), (9, 0)] [] (wr M V) o) (c0 : ∀ s : Int × Int, P (.inr (.inl s)) → Sem g d YX16_rowAt 6 [(1, 156), (0, x1), (0, x2), (0, x3), (0, s.1), (0, s.2), (9, 0), (9, 0), (9, 0), (9, 0)] [] (wr M V) o) (r0 : ∀ r : Int, P (.inr (.inr r)) → o = ((0, r), (wr M V))) {z : (Int × Int) ⊕ ((Int × Int) ⊕ (Int))} (h : j_X16_rowAt_95 x1 x2 x3 x4 x5 x6 x7 V = some z) (hz : P z) : Sem g d YX16_rowAt 95 [(1, 156), (0, x1), (0, x2), (0, x3), (0, x4), (0, x5), (0, x6), (0, x7), (9, 0), (9, 0)] [] (wr M V) o := by
  delta j_X16_rowAt_95 at h
  refine S_iconst dX16_rowAt_95 rfl ?_
  refine S_goto (tgt := 100) dX16_rowAt_96 rfl ?_
  exact s_X16_rowAt_100 hD hM c1 c0 r0 h hz
theorem s_X16_rowAt_22 {g : GG} {d : Nat} (hD : 0 ≤ d) {x1 x2 x3 x4 x5 x6 x7 : Int} {M : MM} (hM : LM M) {V : VV} {o : AV × MM} {P : ((Int × Int) ⊕ ((Int × Int) ⊕ (Int))) → Prop} (c1 : ∀ s : Int × Int, P (.inl s) → Sem g d YX16_rowAt 22 [(1, 156), (0, x1), (0, x2), (0, x3), (0, x4), (0, x5), (0, s.1), (0, s.2), (9, 0), (9, 0)] [] (wr M V) o) (c0 : ∀ s : Int × Int, P (.inr (.inl s)) → Sem g d YX16_rowAt 6 [(1, 156), (0, x1), (0, x2), (0, x3), (0, s.1), (0, s.2), (9, 0), (9, 0), (9, 0), (9, 0)] [] (wr M V) o) (r0 : ∀ r : Int, P (.inr (.inr r)) → o = ((0, r), (wr M V))) {z : (Int × Int) ⊕ ((Int × Int) ⊕ (Int))} (h : b_X16_rowAt_22 x1 x2 x3 x4 x5 x6 x7 V = some z) (hz : P z) : Sem g d YX16_rowAt 22 [(1, 156), (0, x1), (0, x2), (0, x3), (0, x4), (0, x5), (0, x6), (0, x7), (9, 0), (9, 0)] [] (wr M V) o := by
  delta b_X16_rowAt_22 at h
  refine S_iload dX16_rowAt_22 rfl ?_
  refine S_sipush (z := 1100) dX16_rowAt_24 rfl ?_
  refine S_iload_n (i := 1) dX16_rowAt_27 rfl rfl ?_
  refine S_imul dX16_rowAt_28 ?_
  refine S_aload_n (i := 0) dX16_rowAt_29 rfl rfl ?_
  refine P2_gfr hM (a := 189) FLX16_110 rfl ⟨rfl, rfl⟩ dX16_rowAt_30 ?_
  refine S_iload_n (i := 1) dX16_rowAt_33 rfl rfl ?_
  refine P2_lai hM (a := 189) (n := 32) rfl dX16_rowAt_34 h (fun v1 h => ?_)
  refine S_iadd dX16_rowAt_35 ?_
  refine P_icmp_ge (tgt := 201) dX16_rowAt_36 rfl h (fun h => ?_) (fun h => ?_)
  · refine S_weak (ls' := [(1, 156), (0, x1), (0, x2), (0, x3), (9, 0), (0, x5), (0, x6), (9, 0), (9, 0), (9, 0)]) ⟨Or.inr rfl, ⟨Or.inr rfl, ⟨Or.inr rfl, ⟨Or.inr rfl, ⟨Or.inl rfl, ⟨Or.inr rfl, ⟨Or.inr rfl, ⟨Or.inl rfl, ⟨Or.inl rfl, ⟨Or.inl rfl, trivial⟩⟩⟩⟩⟩⟩⟩⟩⟩⟩ ?_
    obtain ⟨z0, h, hz⟩ := xit_some' (P := fun r => P r) h hz
    exact s_X16_rowAt_201 hD hM (P := fun r => P (.inr r)) c0 r0 h hz
  · refine S_iload dX16_rowAt_39 rfl ?_
    refine P_if_lt (tgt := 95) dX16_rowAt_41 rfl h (fun h => ?_) (fun h => ?_)
    · exact s_X16_rowAt_95 hD hM c1 c0 r0 h hz
    · refine S_aload_n (i := 0) dX16_rowAt_44 rfl rfl ?_
      refine P2_gfr hM (a := 192) FLX16_121 rfl ⟨rfl, rfl⟩ dX16_rowAt_45 ?_
      refine S_iload dX16_rowAt_48 rfl ?_
      refine P2_lai hM (a := 192) (n := 35200) rfl dX16_rowAt_50 h (fun v2 h => ?_)
      refine S_aload_n (i := 0) dX16_rowAt_51 rfl rfl ?_
      refine P2_gfr hM (a := 192) FLX16_121 rfl ⟨rfl, rfl⟩ dX16_rowAt_52 ?_
      refine S_iload dX16_rowAt_55 rfl ?_
      refine P2_lai hM (a := 192) (n := 35200) rfl dX16_rowAt_57 h (fun v3 h => ?_)
      refine P_icmp_gt (tgt := 95) dX16_rowAt_58 rfl h (fun h => ?_) (fun h => ?_)
      · exact s_X16_rowAt_95 hD hM c1 c0 r0 h hz
      · refine S_aload_n (i := 0) dX16_rowAt_61 rfl rfl ?_
        refine P2_gfr hM (a := 192) FLX16_121 rfl ⟨rfl, rfl⟩ dX16_rowAt_62 ?_
        refine S_iload dX16_rowAt_65 rfl ?_
        refine P2_lai hM (a := 192) (n := 35200) rfl dX16_rowAt_67 h (fun v4 h => ?_)
        refine S_aload_n (i := 0) dX16_rowAt_68 rfl rfl ?_
        refine P2_gfr hM (a := 192) FLX16_121 rfl ⟨rfl, rfl⟩ dX16_rowAt_69 ?_
        refine S_iload dX16_rowAt_72 rfl ?_
        refine P2_lai hM (a := 192) (n := 35200) rfl dX16_rowAt_74 h (fun v5 h => ?_)
        refine P_icmp_ne (tgt := 99) dX16_rowAt_75 rfl h (fun h => ?_) (fun h => ?_)
        · exact s_X16_rowAt_99 hD hM c1 c0 r0 h hz
        · refine S_aload_n (i := 0) dX16_rowAt_78 rfl rfl ?_
          refine P2_gfr hM (a := 194) FLX16_128 rfl ⟨rfl, rfl⟩ dX16_rowAt_79 ?_
          refine S_iload dX16_rowAt_82 rfl ?_
          refine P2_lai hM (a := 194) (n := 35200) rfl dX16_rowAt_84 h (fun v6 h => ?_)
          refine S_aload_n (i := 0) dX16_rowAt_85 rfl rfl ?_
          refine P2_gfr hM (a := 194) FLX16_128 rfl ⟨rfl, rfl⟩ dX16_rowAt_86 ?_
          refine S_iload dX16_rowAt_89 rfl ?_
          refine P2_lai hM (a := 194) (n := 35200) rfl dX16_rowAt_91 h (fun v7 h => ?_)
          refine P_icmp_le (tgt := 99) dX16_rowAt_92 rfl h (fun h => ?_) (fun h => ?_)
          · exact s_X16_rowAt_99 hD hM c1 c0 r0 h hz
          · exact s_X16_rowAt_95 hD hM c1 c0 r0 h hz
theorem sl_X16_rowAt_22 {g : GG} {d : Nat} (hD : 0 ≤ d) {x1 x2 x3 x4 x5 x6 x7 : Int} {M : MM} (hM : LM M) {V : VV} {o : AV × MM} {P : ((Int × Int) ⊕ (Int)) → Prop} (c0 : ∀ s : Int × Int, P (.inl s) → Sem g d YX16_rowAt 6 [(1, 156), (0, x1), (0, x2), (0, x3), (0, s.1), (0, s.2), (9, 0), (9, 0), (9, 0), (9, 0)] [] (wr M V) o) (r0 : ∀ r : Int, P (.inr r) → o = ((0, r), (wr M V))) {z : (Int × Int) ⊕ (Int)} (h : l_X16_rowAt_22 x1 x2 x3 x4 x5 x6 x7 V = some z) (hz : P z) : Sem g d YX16_rowAt 22 [(1, 156), (0, x1), (0, x2), (0, x3), (0, x4), (0, x5), (0, x6), (0, x7), (9, 0), (9, 0)] [] (wr M V) o := by
  refine lp_sound (S := fun s : Int × Int => Sem g d YX16_rowAt 22 [(1, 156), (0, x1), (0, x2), (0, x3), (0, x4), (0, x5), (0, s.1), (0, s.2), (9, 0), (9, 0)] [] (wr M V) o) (P := P) ?_ FU (x6, x7) z h hz
  intro s x hx hP
  exact s_X16_rowAt_22 hD hM (P := Sum.elim (fun s : Int × Int => Sem g d YX16_rowAt 22 [(1, 156), (0, x1), (0, x2), (0, x3), (0, x4), (0, x5), (0, s.1), (0, s.2), (9, 0), (9, 0)] [] (wr M V) o) P) (fun s h => h) (fun s h => c0 s h) (fun s h => r0 s h) hx hP
theorem s_X16_rowAt_6 {g : GG} {d : Nat} (hD : 0 ≤ d) {x1 x2 x3 x4 x5 : Int} {M : MM} (hM : LM M) {V : VV} {o : AV × MM} {P : ((Int × Int) ⊕ (Int)) → Prop} (c0 : ∀ s : Int × Int, P (.inl s) → Sem g d YX16_rowAt 6 [(1, 156), (0, x1), (0, x2), (0, x3), (0, s.1), (0, s.2), (9, 0), (9, 0), (9, 0), (9, 0)] [] (wr M V) o) (r0 : ∀ r : Int, P (.inr r) → o = ((0, r), (wr M V))) {z : (Int × Int) ⊕ (Int)} (h : b_X16_rowAt_6 x1 x2 x3 x4 x5 V = some z) (hz : P z) : Sem g d YX16_rowAt 6 [(1, 156), (0, x1), (0, x2), (0, x3), (0, x4), (0, x5), (9, 0), (9, 0), (9, 0), (9, 0)] [] (wr M V) o := by
  delta b_X16_rowAt_6 at h
  refine S_iload dX16_rowAt_6 rfl ?_
  refine S_iload_n (i := 3) dX16_rowAt_8 rfl rfl ?_
  refine P_icmp_gt (tgt := 218) dX16_rowAt_9 rfl h (fun h => ?_) (fun h => ?_)
  · obtain ⟨z0, h, hz⟩ := xit_some' (P := fun r => P r) h hz
    refine S_iload dX16_rowAt_218 rfl ?_
    obtain rfl := r0 _ (some_P (P := fun r => P (.inr r)) h hz)
    exact P_ret dX16_rowAt_220 rfl (Or.inl rfl)
  · refine S_iconst dX16_rowAt_12 rfl ?_
    refine S_istore dX16_rowAt_13 (Nat.le_of_ble_eq_true rfl) rfl rfl ?_
    change Sem g d YX16_rowAt 15 [(1, 156), (0, x1), (0, x2), (0, x3), (0, x4), (0, x5), (0, (-1)), (9, 0), (9, 0), (9, 0)] [] (wr M V) o
    refine S_sipush (z := 1100) dX16_rowAt_15 rfl ?_
    refine S_iload_n (i := 1) dX16_rowAt_18 rfl rfl ?_
    refine S_imul dX16_rowAt_19 ?_
    refine S_istore dX16_rowAt_20 (Nat.le_of_ble_eq_true rfl) rfl rfl ?_
    change Sem g d YX16_rowAt 22 [(1, 156), (0, x1), (0, x2), (0, x3), (0, x4), (0, x5), (0, (-1)), (0, 1100 * x1), (9, 0), (9, 0)] [] (wr M V) o
    exact sl_X16_rowAt_22 hD hM c0 r0 h hz
theorem sl_X16_rowAt_6 {g : GG} {d : Nat} (hD : 0 ≤ d) {x1 x2 x3 x4 x5 : Int} {M : MM} (hM : LM M) {V : VV} {o : AV × MM} {P : (Int) → Prop} (r0 : ∀ r : Int, P r → o = ((0, r), (wr M V))) {z : Int} (h : l_X16_rowAt_6 x1 x2 x3 x4 x5 V = some z) (hz : P z) : Sem g d YX16_rowAt 6 [(1, 156), (0, x1), (0, x2), (0, x3), (0, x4), (0, x5), (9, 0), (9, 0), (9, 0), (9, 0)] [] (wr M V) o := by
  refine lp_sound (S := fun s : Int × Int => Sem g d YX16_rowAt 6 [(1, 156), (0, x1), (0, x2), (0, x3), (0, s.1), (0, s.2), (9, 0), (9, 0), (9, 0), (9, 0)] [] (wr M V) o) (P := P) ?_ FU (x4, x5) z h hz
  intro s x hx hP
  exact s_X16_rowAt_6 hD hM (P := Sum.elim (fun s : Int × Int => Sem g d YX16_rowAt 6 [(1, 156), (0, x1), (0, x2), (0, x3), (0, s.1), (0, s.2), (9, 0), (9, 0), (9, 0), (9, 0)] [] (wr M V) o) P) (fun s h => h) (fun s h => r0 s h) hx hP
theorem s_X16_rowAt_0 {g : GG} {d : Nat} (hD : 0 ≤ d) {x1 x2 x3 : Int} {M : MM} (hM : LM M) {V : VV} {o : AV × MM} {P : (Int) → Prop} (r0 : ∀ r : Int, P r → o = ((0, r), (wr M V))) {z : Int} (h : f_X16_rowAt x1 x2 x3 V = some z) (hz : P z) : Sem g d YX16_rowAt 0 [(1, 156), (0, x1), (0, x2), (0, x3), (9, 0), (9, 0), (9, 0), (9, 0), (9, 0), (9, 0)] [] (wr M V) o := by
  delta f_X16_rowAt at h
  refine S_iconst dX16_rowAt_0 rfl ?_
  refine S_istore dX16_rowAt_1 (Nat.le_of_ble_eq_true rfl) rfl rfl ?_
  change Sem g d YX16_rowAt 3 [(1, 156), (0, x1), (0, x2), (0, x3), (0, (-1)), (9, 0), (9, 0), (9, 0), (9, 0), (9, 0)] [] (wr M V) o
  refine S_iconst dX16_rowAt_3 rfl ?_
  refine S_istore dX16_rowAt_4 (Nat.le_of_ble_eq_true rfl) rfl rfl ?_
  change Sem g d YX16_rowAt 6 [(1, 156), (0, x1), (0, x2), (0, x3), (0, (-1)), (0, 0), (9, 0), (9, 0), (9, 0), (9, 0)] [] (wr M V) o
  exact sl_X16_rowAt_6 hD hM r0 h hz
theorem F_X16_rowAt {g : GG} {d : Nat} (hD : 0 ≤ d) {x1 x2 x3 : Int} {M : MM} (hM : LM M) {V : VV} {r : Int} (h : f_X16_rowAt x1 x2 x3 V = some r) : Sem g d YX16_rowAt 0 (ini YX16_rowAt [(1, 156), (0, x1), (0, x2), (0, x3)]) [] (wr M V) ((0, r), (wr M V)) := by
  change Sem g d YX16_rowAt 0 [(1, 156), (0, x1), (0, x2), (0, x3), (9, 0), (9, 0), (9, 0), (9, 0), (9, 0), (9, 0)] [] (wr M V) ((0, r), (wr M V))
  exact s_X16_rowAt_0 hD hM (P := fun x => x = r) (fun q e => by rw [e]) h rfl
