set_option maxRecDepth 100000
/-! PeerSearchModel.contact(IZII)I -/
theorem dX16_contact_0 : decode cX16_contact 0 = .ok (.aload_n 0, 1) := by decide +kernel
theorem dX16_contact_1 : decode cX16_contact 1 = .ok (.iload_n 1, 1) := by decide +kernel
theorem dX16_contact_2 : decode cX16_contact 2 = .ok (.invokevirtual 427, 3) := by decide +kernel
theorem dX16_contact_5 : decode cX16_contact 5 = .ok (.ifCond .eq 19, 3) := by decide +kernel
theorem dX16_contact_8 : decode cX16_contact 8 = .ok (.iload_n 3, 1) := by decide +kernel
theorem dX16_contact_9 : decode cX16_contact 9 = .ok (.ifCond .lt 15, 3) := by decide +kernel
theorem dX16_contact_12 : decode cX16_contact 12 = .ok (.iload 4, 2) := by decide +kernel
theorem dX16_contact_14 : decode cX16_contact 14 = .ok (.ifCond .lt 10, 3) := by decide +kernel
theorem dX16_contact_17 : decode cX16_contact 17 = .ok (.iload 4, 2) := by decide +kernel
theorem dX16_contact_19 : decode cX16_contact 19 = .ok (.bipush 6, 2) := by decide +kernel
theorem dX16_contact_21 : decode cX16_contact 21 = .ok (.if_icmp .le 5, 3) := by decide +kernel
theorem dX16_contact_24 : decode cX16_contact 24 = .ok (.iconst (-1), 1) := by decide +kernel
theorem dX16_contact_25 : decode cX16_contact 25 = .ok (.ireturn, 1) := by decide +kernel
theorem dX16_contact_26 : decode cX16_contact 26 = .ok (.aload_n 0, 1) := by decide +kernel
theorem dX16_contact_27 : decode cX16_contact 27 = .ok (.iload_n 1, 1) := by decide +kernel
theorem dX16_contact_28 : decode cX16_contact 28 = .ok (.iload_n 2, 1) := by decide +kernel
theorem dX16_contact_29 : decode cX16_contact 29 = .ok (.iload_n 3, 1) := by decide +kernel
theorem dX16_contact_30 : decode cX16_contact 30 = .ok (.invokevirtual 735, 3) := by decide +kernel
theorem dX16_contact_33 : decode cX16_contact 33 = .ok (.istore 5, 2) := by decide +kernel
theorem dX16_contact_35 : decode cX16_contact 35 = .ok (.iload 5, 2) := by decide +kernel
theorem dX16_contact_37 : decode cX16_contact 37 = .ok (.ifCond .ge 5, 3) := by decide +kernel
theorem dX16_contact_40 : decode cX16_contact 40 = .ok (.iconst (-1), 1) := by decide +kernel
theorem dX16_contact_41 : decode cX16_contact 41 = .ok (.ireturn, 1) := by decide +kernel
theorem dX16_contact_42 : decode cX16_contact 42 = .ok (.iload 4, 2) := by decide +kernel
theorem dX16_contact_44 : decode cX16_contact 44 = .ok (.ifCond .ne 13, 3) := by decide +kernel
theorem dX16_contact_47 : decode cX16_contact 47 = .ok (.aload_n 0, 1) := by decide +kernel
theorem dX16_contact_48 : decode cX16_contact 48 = .ok (.getfield 118, 3) := by decide +kernel
theorem dX16_contact_51 : decode cX16_contact 51 = .ok (.iload 5, 2) := by decide +kernel
theorem dX16_contact_53 : decode cX16_contact 53 = .ok (.iaload, 1) := by decide +kernel
theorem dX16_contact_54 : decode cX16_contact 54 = .ok (.goto 34, 3) := by decide +kernel
theorem dX16_contact_57 : decode cX16_contact 57 = .ok (.iload 4, 2) := by decide +kernel
theorem dX16_contact_59 : decode cX16_contact 59 = .ok (.bipush 6, 2) := by decide +kernel
theorem dX16_contact_61 : decode cX16_contact 61 = .ok (.if_icmp .ne 13, 3) := by decide +kernel
theorem dX16_contact_64 : decode cX16_contact 64 = .ok (.aload_n 0, 1) := by decide +kernel
theorem dX16_contact_65 : decode cX16_contact 65 = .ok (.getfield 121, 3) := by decide +kernel
theorem dX16_contact_68 : decode cX16_contact 68 = .ok (.iload 5, 2) := by decide +kernel
theorem dX16_contact_70 : decode cX16_contact 70 = .ok (.iaload, 1) := by decide +kernel
theorem dX16_contact_71 : decode cX16_contact 71 = .ok (.goto 17, 3) := by decide +kernel
theorem dX16_contact_74 : decode cX16_contact 74 = .ok (.aload_n 0, 1) := by decide +kernel
theorem dX16_contact_75 : decode cX16_contact 75 = .ok (.getfield 114, 3) := by decide +kernel
theorem dX16_contact_78 : decode cX16_contact 78 = .ok (.iconst 5, 1) := by decide +kernel
theorem dX16_contact_79 : decode cX16_contact 79 = .ok (.iload 5, 2) := by decide +kernel
theorem dX16_contact_81 : decode cX16_contact 81 = .ok (.imul, 1) := by decide +kernel
theorem dX16_contact_82 : decode cX16_contact 82 = .ok (.iload 4, 2) := by decide +kernel
theorem dX16_contact_84 : decode cX16_contact 84 = .ok (.iadd, 1) := by decide +kernel
theorem dX16_contact_85 : decode cX16_contact 85 = .ok (.iconst 1, 1) := by decide +kernel
theorem dX16_contact_86 : decode cX16_contact 86 = .ok (.isub, 1) := by decide +kernel
theorem dX16_contact_87 : decode cX16_contact 87 = .ok (.iaload, 1) := by decide +kernel
theorem dX16_contact_88 : decode cX16_contact 88 = .ok (.ireturn, 1) := by decide +kernel
def j_X16_contact_88 (y0 : Int) (V : VV) : Option (Int) :=
  some y0
def j_X16_contact_24 (V : VV) : Option (Int) :=
  some (-1)
def f_X16_contact (x1 x2 x3 x4 : Int) (V : VV) : Option (Int) :=
  (f_X16_isPeer x1 V).bind fun v1 =>
  if w32 v1 = 0 then
    j_X16_contact_24 V
  else
    if w32 x3 < 0 then
      j_X16_contact_24 V
    else
      if w32 x4 < 0 then
        j_X16_contact_24 V
      else
        if w32 6 < w32 x4 then
          j_X16_contact_24 V
        else
          (f_X16_rowAt x1 x2 x3 V).bind fun v2 =>
          if w32 v2 < 0 then
            some (-1)
          else
            if w32 x4 = 0 then
              (l2 191 35200 v2 V).bind fun v5 =>
              j_X16_contact_88 v5 V
            else
              if w32 x4 = w32 6 then
                (l2 192 35200 v2 V).bind fun v4 =>
                j_X16_contact_88 v4 V
              else
                (l2 190 176000 (((5 * v2) + x4) - 1) V).bind fun v3 =>
                j_X16_contact_88 v3 V
theorem s_X16_contact_88 {g : GG} {d : Nat} (hD : 1 ≤ d) {y0 : Int} {M : MM} (hM : LM M) {V : VV} {o : AV × MM} {P : (Int) → Prop} (r0 : ∀ r : Int, P r → o = ((0, r), (wr M V))) {z : Int} (h : j_X16_contact_88 y0 V = some z) (hz : P z) : Sem g d YX16_contact 88 [(9, 0), (9, 0), (9, 0), (9, 0), (9, 0), (9, 0)] [(0, y0)] (wr M V) o := by
  delta j_X16_contact_88 at h
  obtain rfl := r0 _ (some_P (P := fun r => P r) h hz)
  exact P_ret dX16_contact_88 rfl (Or.inl rfl)
theorem s_X16_contact_24 {g : GG} {d : Nat} (hD : 1 ≤ d) {M : MM} (hM : LM M) {V : VV} {o : AV × MM} {P : (Int) → Prop} (r0 : ∀ r : Int, P r → o = ((0, r), (wr M V))) {z : Int} (h : j_X16_contact_24 V = some z) (hz : P z) : Sem g d YX16_contact 24 [(9, 0), (9, 0), (9, 0), (9, 0), (9, 0), (9, 0)] [] (wr M V) o := by
  delta j_X16_contact_24 at h
  refine S_iconst dX16_contact_24 rfl ?_
  obtain rfl := r0 _ (some_P (P := fun r => P r) h hz)
  exact P_ret dX16_contact_25 rfl (Or.inl rfl)
theorem s_X16_contact_0 {g : GG} {d : Nat} (hD : 1 ≤ d) {x1 x2 x3 x4 : Int} {M : MM} (hM : LM M) {V : VV} {o : AV × MM} {P : (Int) → Prop} (r0 : ∀ r : Int, P r → o = ((0, r), (wr M V))) {z : Int} (h : f_X16_contact x1 x2 x3 x4 V = some z) (hz : P z) : Sem g d YX16_contact 0 [(1, 156), (0, x1), (0, x2), (0, x3), (0, x4), (9, 0)] [] (wr M V) o := by
  delta f_X16_contact at h
  refine S_aload_n (i := 0) dX16_contact_0 rfl rfl ?_
  refine S_iload_n (i := 1) dX16_contact_1 rfl rfl ?_
  refine P2_invVp hM 0 [(0, x1)] [] CVX16_isPeer MLX16_427 dX16_contact_2 rfl rfl rfl rfl rfl (by omega) h (fun r h => F_X16_isPeer (by omega) hM h) (fun v1 h => ?_)
  refine P_if_eq (tgt := 24) dX16_contact_5 rfl h (fun h => ?_) (fun h => ?_)
  · refine S_weak (ls' := [(9, 0), (9, 0), (9, 0), (9, 0), (9, 0), (9, 0)]) ⟨Or.inl rfl, ⟨Or.inl rfl, ⟨Or.inl rfl, ⟨Or.inl rfl, ⟨Or.inl rfl, ⟨Or.inl rfl, trivial⟩⟩⟩⟩⟩⟩ ?_
    exact s_X16_contact_24 hD hM r0 h hz
  · refine S_iload_n (i := 3) dX16_contact_8 rfl rfl ?_
    refine P_if_lt (tgt := 24) dX16_contact_9 rfl h (fun h => ?_) (fun h => ?_)
    · refine S_weak (ls' := [(9, 0), (9, 0), (9, 0), (9, 0), (9, 0), (9, 0)]) ⟨Or.inl rfl, ⟨Or.inl rfl, ⟨Or.inl rfl, ⟨Or.inl rfl, ⟨Or.inl rfl, ⟨Or.inl rfl, trivial⟩⟩⟩⟩⟩⟩ ?_
      exact s_X16_contact_24 hD hM r0 h hz
    · refine S_iload dX16_contact_12 rfl ?_
      refine P_if_lt (tgt := 24) dX16_contact_14 rfl h (fun h => ?_) (fun h => ?_)
      · refine S_weak (ls' := [(9, 0), (9, 0), (9, 0), (9, 0), (9, 0), (9, 0)]) ⟨Or.inl rfl, ⟨Or.inl rfl, ⟨Or.inl rfl, ⟨Or.inl rfl, ⟨Or.inl rfl, ⟨Or.inl rfl, trivial⟩⟩⟩⟩⟩⟩ ?_
        exact s_X16_contact_24 hD hM r0 h hz
      · refine S_iload dX16_contact_17 rfl ?_
        refine S_bipush (z := 6) dX16_contact_19 rfl ?_
        refine P_icmp_le (tgt := 26) dX16_contact_21 rfl h (fun h => ?_) (fun h => ?_)
        · refine S_aload_n (i := 0) dX16_contact_26 rfl rfl ?_
          refine S_iload_n (i := 1) dX16_contact_27 rfl rfl ?_
          refine S_iload_n (i := 2) dX16_contact_28 rfl rfl ?_
          refine S_iload_n (i := 3) dX16_contact_29 rfl rfl ?_
          refine P2_invVp hM 0 [(0, x1), (0, x2), (0, x3)] [] CVX16_rowAt MLX16_735 dX16_contact_30 rfl rfl rfl rfl rfl (by omega) h (fun r h => F_X16_rowAt (by omega) hM h) (fun v2 h => ?_)
          refine S_istore dX16_contact_33 (Nat.le_of_ble_eq_true rfl) rfl rfl ?_
          change Sem g d YX16_contact 35 [(1, 156), (0, x1), (0, x2), (0, x3), (0, x4), (0, v2)] [] (wr M V) o
          refine S_iload dX16_contact_35 rfl ?_
          refine P_if_ge (tgt := 42) dX16_contact_37 rfl h (fun h => ?_) (fun h => ?_)
          · refine S_iload dX16_contact_42 rfl ?_
            refine P_if_ne (tgt := 57) dX16_contact_44 rfl h (fun h => ?_) (fun h => ?_)
            · refine S_iload dX16_contact_57 rfl ?_
              refine S_bipush (z := 6) dX16_contact_59 rfl ?_
              refine P_icmp_ne (tgt := 74) dX16_contact_61 rfl h (fun h => ?_) (fun h => ?_)
              · refine S_aload_n (i := 0) dX16_contact_74 rfl rfl ?_
                refine P2_gfr hM (a := 190) FLX16_114 rfl ⟨rfl, rfl⟩ dX16_contact_75 ?_
                refine S_iconst dX16_contact_78 rfl ?_
                refine S_iload dX16_contact_79 rfl ?_
                refine S_imul dX16_contact_81 ?_
                refine S_iload dX16_contact_82 rfl ?_
                refine S_iadd dX16_contact_84 ?_
                refine S_iconst dX16_contact_85 rfl ?_
                refine S_isub dX16_contact_86 ?_
                refine P2_lai hM (a := 190) (n := 176000) rfl dX16_contact_87 h (fun v3 h => ?_)
                refine S_weak (ls' := [(9, 0), (9, 0), (9, 0), (9, 0), (9, 0), (9, 0)]) ⟨Or.inl rfl, ⟨Or.inl rfl, ⟨Or.inl rfl, ⟨Or.inl rfl, ⟨Or.inl rfl, ⟨Or.inl rfl, trivial⟩⟩⟩⟩⟩⟩ ?_
                exact s_X16_contact_88 hD hM r0 h hz
              · refine S_aload_n (i := 0) dX16_contact_64 rfl rfl ?_
                refine P2_gfr hM (a := 192) FLX16_121 rfl ⟨rfl, rfl⟩ dX16_contact_65 ?_
                refine S_iload dX16_contact_68 rfl ?_
                refine P2_lai hM (a := 192) (n := 35200) rfl dX16_contact_70 h (fun v4 h => ?_)
                refine S_goto (tgt := 88) dX16_contact_71 rfl ?_
                refine S_weak (ls' := [(9, 0), (9, 0), (9, 0), (9, 0), (9, 0), (9, 0)]) ⟨Or.inl rfl, ⟨Or.inl rfl, ⟨Or.inl rfl, ⟨Or.inl rfl, ⟨Or.inl rfl, ⟨Or.inl rfl, trivial⟩⟩⟩⟩⟩⟩ ?_
                exact s_X16_contact_88 hD hM r0 h hz
            · refine S_aload_n (i := 0) dX16_contact_47 rfl rfl ?_
              refine P2_gfr hM (a := 191) FLX16_118 rfl ⟨rfl, rfl⟩ dX16_contact_48 ?_
              refine S_iload dX16_contact_51 rfl ?_
              refine P2_lai hM (a := 191) (n := 35200) rfl dX16_contact_53 h (fun v5 h => ?_)
              refine S_goto (tgt := 88) dX16_contact_54 rfl ?_
              refine S_weak (ls' := [(9, 0), (9, 0), (9, 0), (9, 0), (9, 0), (9, 0)]) ⟨Or.inl rfl, ⟨Or.inl rfl, ⟨Or.inl rfl, ⟨Or.inl rfl, ⟨Or.inl rfl, ⟨Or.inl rfl, trivial⟩⟩⟩⟩⟩⟩ ?_
              exact s_X16_contact_88 hD hM r0 h hz
          · refine S_iconst dX16_contact_40 rfl ?_
            obtain rfl := r0 _ (some_P (P := fun r => P r) h hz)
            exact P_ret dX16_contact_41 rfl (Or.inl rfl)
        · refine S_weak (ls' := [(9, 0), (9, 0), (9, 0), (9, 0), (9, 0), (9, 0)]) ⟨Or.inl rfl, ⟨Or.inl rfl, ⟨Or.inl rfl, ⟨Or.inl rfl, ⟨Or.inl rfl, ⟨Or.inl rfl, trivial⟩⟩⟩⟩⟩⟩ ?_
          exact s_X16_contact_24 hD hM r0 h hz
theorem F_X16_contact {g : GG} {d : Nat} (hD : 1 ≤ d) {x1 x2 x3 x4 : Int} {M : MM} (hM : LM M) {V : VV} {r : Int} (h : f_X16_contact x1 x2 x3 x4 V = some r) : Sem g d YX16_contact 0 (ini YX16_contact [(1, 156), (0, x1), (0, x2), (0, x3), (0, x4)]) [] (wr M V) ((0, r), (wr M V)) := by
  change Sem g d YX16_contact 0 [(1, 156), (0, x1), (0, x2), (0, x3), (0, x4), (9, 0)] [] (wr M V) ((0, r), (wr M V))
  exact s_X16_contact_0 hD hM (P := fun x => x = r) (fun q e => by rw [e]) h rfl
/-! PeerSearchModel.contacts(IZ)I -/
theorem dX16_contacts_0 : decode cX16_contacts 0 = .ok (.iconst 0, 1) := by decide +kernel
theorem dX16_contacts_1 : decode cX16_contacts 1 = .ok (.istore_n 3, 1) := by decide +kernel
theorem dX16_contacts_2 : decode cX16_contacts 2 = .ok (.sipush 1100, 3) := by decide +kernel
theorem dX16_contacts_5 : decode cX16_contacts 5 = .ok (.iload_n 1, 1) := by decide +kernel
theorem dX16_contacts_6 : decode cX16_contacts 6 = .ok (.imul, 1) := by decide +kernel
theorem dX16_contacts_7 : decode cX16_contacts 7 = .ok (.istore 4, 2) := by decide +kernel
theorem dX16_contacts_9 : decode cX16_contacts 9 = .ok (.iload 4, 2) := by decide +kernel
theorem dX16_contacts_11 : decode cX16_contacts 11 = .ok (.sipush 1100, 3) := by decide +kernel
theorem dX16_contacts_14 : decode cX16_contacts 14 = .ok (.iload_n 1, 1) := by decide +kernel
theorem dX16_contacts_15 : decode cX16_contacts 15 = .ok (.imul, 1) := by decide +kernel
theorem dX16_contacts_16 : decode cX16_contacts 16 = .ok (.aload_n 0, 1) := by decide +kernel
theorem dX16_contacts_17 : decode cX16_contacts 17 = .ok (.getfield 110, 3) := by decide +kernel
theorem dX16_contacts_20 : decode cX16_contacts 20 = .ok (.iload_n 1, 1) := by decide +kernel
theorem dX16_contacts_21 : decode cX16_contacts 21 = .ok (.iaload, 1) := by decide +kernel
theorem dX16_contacts_22 : decode cX16_contacts 22 = .ok (.iadd, 1) := by decide +kernel
theorem dX16_contacts_23 : decode cX16_contacts 23 = .ok (.if_icmp .ge 28, 3) := by decide +kernel
theorem dX16_contacts_26 : decode cX16_contacts 26 = .ok (.iload_n 3, 1) := by decide +kernel
theorem dX16_contacts_27 : decode cX16_contacts 27 = .ok (.aload_n 0, 1) := by decide +kernel
theorem dX16_contacts_28 : decode cX16_contacts 28 = .ok (.getfield 124, 3) := by decide +kernel
theorem dX16_contacts_31 : decode cX16_contacts 31 = .ok (.iload 4, 2) := by decide +kernel
theorem dX16_contacts_33 : decode cX16_contacts 33 = .ok (.baload, 1) := by decide +kernel
theorem dX16_contacts_34 : decode cX16_contacts 34 = .ok (.iload_n 2, 1) := by decide +kernel
theorem dX16_contacts_35 : decode cX16_contacts 35 = .ok (.if_icmp .ne 7, 3) := by decide +kernel
theorem dX16_contacts_38 : decode cX16_contacts 38 = .ok (.iconst 1, 1) := by decide +kernel
theorem dX16_contacts_39 : decode cX16_contacts 39 = .ok (.goto 4, 3) := by decide +kernel
theorem dX16_contacts_42 : decode cX16_contacts 42 = .ok (.iconst 0, 1) := by decide +kernel
theorem dX16_contacts_43 : decode cX16_contacts 43 = .ok (.iadd, 1) := by decide +kernel
theorem dX16_contacts_44 : decode cX16_contacts 44 = .ok (.istore_n 3, 1) := by decide +kernel
theorem dX16_contacts_45 : decode cX16_contacts 45 = .ok (.iinc 4 1, 3) := by decide +kernel
theorem dX16_contacts_48 : decode cX16_contacts 48 = .ok (.goto (-39), 3) := by decide +kernel
theorem dX16_contacts_51 : decode cX16_contacts 51 = .ok (.iload_n 3, 1) := by decide +kernel
theorem dX16_contacts_52 : decode cX16_contacts 52 = .ok (.ireturn, 1) := by decide +kernel
def j_X16_contacts_43 (x1 x2 x4 y0 y1 : Int) (V : VV) : Option ((Int × Int) ⊕ (Int)) :=
  cnt (y0 + y1, x4 + 1)
def b_X16_contacts_9 (x1 x2 x3 x4 : Int) (V : VV) : Option ((Int × Int) ⊕ (Int)) :=
  (l2 189 32 x1 V).bind fun v1 =>
  if w32 x4 < w32 ((1100 * x1) + v1) then
    (l2 193 35200 x4 V).bind fun v2 =>
    if w32 v2 = w32 x2 then
      j_X16_contacts_43 x1 x2 x4 x3 1 V
    else
      j_X16_contacts_43 x1 x2 x4 x3 0 V
  else
    xit (some x3)
def l_X16_contacts_9 (x1 x2 x3 x4 : Int) (V : VV) : Option (Int) := lpN (fun s : Int × Int => b_X16_contacts_9 x1 x2 s.1 s.2 V) FU (x3, x4)
def f_X16_contacts (x1 x2 : Int) (V : VV) : Option (Int) :=
  l_X16_contacts_9 x1 x2 0 (1100 * x1) V
theorem s_X16_contacts_43 {g : GG} {d : Nat} (hD : 0 ≤ d) {x1 x2 x4 y0 y1 : Int} {M : MM} (hM : LM M) {V : VV} {o : AV × MM} {P : ((Int × Int) ⊕ (Int)) → Prop} (c0 : ∀ s : Int × Int, P (.inl s) → Sem g d YX16_contacts 9 [(1, 156), (0, x1), (0, x2), (0, s.1), (0, s.2)] [] (wr M V) o) (r0 : ∀ r : Int, P (.inr r) → o = ((0, r), (wr M V))) {z : (Int × Int) ⊕ (Int)} (h : j_X16_contacts_43 x1 x2 x4 y0 y1 V = some z) (hz : P z) : Sem g d YX16_contacts 43 [(1, 156), (0, x1), (0, x2), (9, 0), (0, x4)] [(0, y1), (0, y0)] (wr M V) o := by
  delta j_X16_contacts_43 at h
  refine S_iadd dX16_contacts_43 ?_
  refine S_istore_n (i := 3) dX16_contacts_44 rfl (Nat.le_of_ble_eq_true rfl) rfl rfl ?_
  change Sem g d YX16_contacts 45 [(1, 156), (0, x1), (0, x2), (0, y0 + y1), (0, x4)] [] (wr M V) o
  refine S_iinc dX16_contacts_45 rfl rfl rfl ?_
  change Sem g d YX16_contacts 48 [(1, 156), (0, x1), (0, x2), (0, y0 + y1), (0, x4 + 1)] [] (wr M V) o
  refine S_goto (tgt := 9) dX16_contacts_48 rfl ?_
  exact c0 (y0 + y1, x4 + 1) (some_P (P := fun r => P r) h hz)
theorem s_X16_contacts_9 {g : GG} {d : Nat} (hD : 0 ≤ d) {x1 x2 x3 x4 : Int} {M : MM} (hM : LM M) {V : VV} {o : AV × MM} {P : ((Int × Int) ⊕ (Int)) → Prop} (c0 : ∀ s : Int × Int, P (.inl s) → Sem g d YX16_contacts 9 [(1, 156), (0, x1), (0, x2), (0, s.1), (0, s.2)] [] (wr M V) o) (r0 : ∀ r : Int, P (.inr r) → o = ((0, r), (wr M V))) {z : (Int × Int) ⊕ (Int)} (h : b_X16_contacts_9 x1 x2 x3 x4 V = some z) (hz : P z) : Sem g d YX16_contacts 9 [(1, 156), (0, x1), (0, x2), (0, x3), (0, x4)] [] (wr M V) o := by
  delta b_X16_contacts_9 at h
  refine S_iload dX16_contacts_9 rfl ?_
  refine S_sipush (z := 1100) dX16_contacts_11 rfl ?_
  refine S_iload_n (i := 1) dX16_contacts_14 rfl rfl ?_
  refine S_imul dX16_contacts_15 ?_
  refine S_aload_n (i := 0) dX16_contacts_16 rfl rfl ?_
  refine P2_gfr hM (a := 189) FLX16_110 rfl ⟨rfl, rfl⟩ dX16_contacts_17 ?_
  refine S_iload_n (i := 1) dX16_contacts_20 rfl rfl ?_
  refine P2_lai hM (a := 189) (n := 32) rfl dX16_contacts_21 h (fun v1 h => ?_)
  refine S_iadd dX16_contacts_22 ?_
  refine P_icmp_ge (tgt := 51) dX16_contacts_23 rfl h (fun h => ?_) (fun h => ?_)
  · obtain ⟨z0, h, hz⟩ := xit_some' (P := fun r => P r) h hz
    refine S_iload_n (i := 3) dX16_contacts_51 rfl rfl ?_
    obtain rfl := r0 _ (some_P (P := fun r => P (.inr r)) h hz)
    exact P_ret dX16_contacts_52 rfl (Or.inl rfl)
  · refine S_iload_n (i := 3) dX16_contacts_26 rfl rfl ?_
    refine S_aload_n (i := 0) dX16_contacts_27 rfl rfl ?_
    refine P2_gfr hM (a := 193) FLX16_124 rfl ⟨rfl, rfl⟩ dX16_contacts_28 ?_
    refine S_iload dX16_contacts_31 rfl ?_
    refine P2_laz hM (a := 193) (n := 35200) rfl dX16_contacts_33 h (fun v2 h => ?_)
    refine S_iload_n (i := 2) dX16_contacts_34 rfl rfl ?_
    refine P_icmp_ne (tgt := 42) dX16_contacts_35 rfl h (fun h => ?_) (fun h => ?_)
    · refine S_iconst dX16_contacts_42 rfl ?_
      refine S_weak (ls' := [(1, 156), (0, x1), (0, x2), (9, 0), (0, x4)]) ⟨Or.inr rfl, ⟨Or.inr rfl, ⟨Or.inr rfl, ⟨Or.inl rfl, ⟨Or.inr rfl, trivial⟩⟩⟩⟩⟩ ?_
      exact s_X16_contacts_43 hD hM c0 r0 h hz
    · refine S_iconst dX16_contacts_38 rfl ?_
      refine S_goto (tgt := 43) dX16_contacts_39 rfl ?_
      refine S_weak (ls' := [(1, 156), (0, x1), (0, x2), (9, 0), (0, x4)]) ⟨Or.inr rfl, ⟨Or.inr rfl, ⟨Or.inr rfl, ⟨Or.inl rfl, ⟨Or.inr rfl, trivial⟩⟩⟩⟩⟩ ?_
      exact s_X16_contacts_43 hD hM c0 r0 h hz
theorem sl_X16_contacts_9 {g : GG} {d : Nat} (hD : 0 ≤ d) {x1 x2 x3 x4 : Int} {M : MM} (hM : LM M) {V : VV} {o : AV × MM} {P : (Int) → Prop} (r0 : ∀ r : Int, P r → o = ((0, r), (wr M V))) {z : Int} (h : l_X16_contacts_9 x1 x2 x3 x4 V = some z) (hz : P z) : Sem g d YX16_contacts 9 [(1, 156), (0, x1), (0, x2), (0, x3), (0, x4)] [] (wr M V) o := by
  refine lp_sound (S := fun s : Int × Int => Sem g d YX16_contacts 9 [(1, 156), (0, x1), (0, x2), (0, s.1), (0, s.2)] [] (wr M V) o) (P := P) ?_ FU (x3, x4) z h hz
  intro s x hx hP
  exact s_X16_contacts_9 hD hM (P := Sum.elim (fun s : Int × Int => Sem g d YX16_contacts 9 [(1, 156), (0, x1), (0, x2), (0, s.1), (0, s.2)] [] (wr M V) o) P) (fun s h => h) (fun s h => r0 s h) hx hP
theorem s_X16_contacts_0 {g : GG} {d : Nat} (hD : 0 ≤ d) {x1 x2 : Int} {M : MM} (hM : LM M) {V : VV} {o : AV × MM} {P : (Int) → Prop} (r0 : ∀ r : Int, P r → o = ((0, r), (wr M V))) {z : Int} (h : f_X16_contacts x1 x2 V = some z) (hz : P z) : Sem g d YX16_contacts 0 [(1, 156), (0, x1), (0, x2), (9, 0), (9, 0)] [] (wr M V) o := by
  delta f_X16_contacts at h
  refine S_iconst dX16_contacts_0 rfl ?_
  refine S_istore_n (i := 3) dX16_contacts_1 rfl (Nat.le_of_ble_eq_true rfl) rfl rfl ?_
  change Sem g d YX16_contacts 2 [(1, 156), (0, x1), (0, x2), (0, 0), (9, 0)] [] (wr M V) o
  refine S_sipush (z := 1100) dX16_contacts_2 rfl ?_
  refine S_iload_n (i := 1) dX16_contacts_5 rfl rfl ?_
  refine S_imul dX16_contacts_6 ?_
  refine S_istore dX16_contacts_7 (Nat.le_of_ble_eq_true rfl) rfl rfl ?_
  change Sem g d YX16_contacts 9 [(1, 156), (0, x1), (0, x2), (0, 0), (0, 1100 * x1)] [] (wr M V) o
  exact sl_X16_contacts_9 hD hM r0 h hz
theorem F_X16_contacts {g : GG} {d : Nat} (hD : 0 ≤ d) {x1 x2 : Int} {M : MM} (hM : LM M) {V : VV} {r : Int} (h : f_X16_contacts x1 x2 V = some r) : Sem g d YX16_contacts 0 (ini YX16_contacts [(1, 156), (0, x1), (0, x2)]) [] (wr M V) ((0, r), (wr M V)) := by
  change Sem g d YX16_contacts 0 [(1, 156), (0, x1), (0, x2), (9, 0), (9, 0)] [] (wr M V) ((0, r), (wr M V))
  exact s_X16_contacts_0 hD hM (P := fun x => x = r) (fun q e => by rw [e]) h rfl
/-! PeerSearchModel.waiting(I)I -/
theorem dX16_waiting_0 : decode cX16_waiting 0 = .ok (.iconst 0, 1) := by decide +kernel
theorem dX16_waiting_1 : decode cX16_waiting 1 = .ok (.istore_n 2, 1) := by decide +kernel
theorem dX16_waiting_2 : decode cX16_waiting 2 = .ok (.bipush 40, 2) := by decide +kernel
theorem dX16_waiting_4 : decode cX16_waiting 4 = .ok (.iload_n 1, 1) := by decide +kernel
theorem dX16_waiting_5 : decode cX16_waiting 5 = .ok (.imul, 1) := by decide +kernel
theorem dX16_waiting_6 : decode cX16_waiting 6 = .ok (.istore_n 3, 1) := by decide +kernel
theorem dX16_waiting_7 : decode cX16_waiting 7 = .ok (.iload_n 3, 1) := by decide +kernel
theorem dX16_waiting_8 : decode cX16_waiting 8 = .ok (.bipush 40, 2) := by decide +kernel
theorem dX16_waiting_10 : decode cX16_waiting 10 = .ok (.iload_n 1, 1) := by decide +kernel
theorem dX16_waiting_11 : decode cX16_waiting 11 = .ok (.imul, 1) := by decide +kernel
theorem dX16_waiting_12 : decode cX16_waiting 12 = .ok (.bipush 40, 2) := by decide +kernel
theorem dX16_waiting_14 : decode cX16_waiting 14 = .ok (.iadd, 1) := by decide +kernel
theorem dX16_waiting_15 : decode cX16_waiting 15 = .ok (.if_icmp .ge 26, 3) := by decide +kernel
theorem dX16_waiting_18 : decode cX16_waiting 18 = .ok (.iload_n 2, 1) := by decide +kernel
theorem dX16_waiting_19 : decode cX16_waiting 19 = .ok (.aload_n 0, 1) := by decide +kernel
theorem dX16_waiting_20 : decode cX16_waiting 20 = .ok (.getfield 137, 3) := by decide +kernel
theorem dX16_waiting_23 : decode cX16_waiting 23 = .ok (.iload_n 3, 1) := by decide +kernel
theorem dX16_waiting_24 : decode cX16_waiting 24 = .ok (.baload, 1) := by decide +kernel
theorem dX16_waiting_25 : decode cX16_waiting 25 = .ok (.ifCond .eq 7, 3) := by decide +kernel
theorem dX16_waiting_28 : decode cX16_waiting 28 = .ok (.iconst 1, 1) := by decide +kernel
theorem dX16_waiting_29 : decode cX16_waiting 29 = .ok (.goto 4, 3) := by decide +kernel
theorem dX16_waiting_32 : decode cX16_waiting 32 = .ok (.iconst 0, 1) := by decide +kernel
theorem dX16_waiting_33 : decode cX16_waiting 33 = .ok (.iadd, 1) := by decide +kernel
theorem dX16_waiting_34 : decode cX16_waiting 34 = .ok (.istore_n 2, 1) := by decide +kernel
theorem dX16_waiting_35 : decode cX16_waiting 35 = .ok (.iinc 3 1, 3) := by decide +kernel
theorem dX16_waiting_38 : decode cX16_waiting 38 = .ok (.goto (-31), 3) := by decide +kernel
theorem dX16_waiting_41 : decode cX16_waiting 41 = .ok (.iload_n 2, 1) := by decide +kernel
theorem dX16_waiting_42 : decode cX16_waiting 42 = .ok (.ireturn, 1) := by decide +kernel
def j_X16_waiting_33 (x1 x3 y0 y1 : Int) (V : VV) : Option ((Int × Int) ⊕ (Int)) :=
  cnt (y0 + y1, x3 + 1)
def b_X16_waiting_7 (x1 x2 x3 : Int) (V : VV) : Option ((Int × Int) ⊕ (Int)) :=
  if w32 x3 < w32 ((40 * x1) + 40) then
    (l2 197 1280 x3 V).bind fun v1 =>
    if w32 v1 = 0 then
      j_X16_waiting_33 x1 x3 x2 0 V
    else
      j_X16_waiting_33 x1 x3 x2 1 V
  else
    xit (some x2)
def l_X16_waiting_7 (x1 x2 x3 : Int) (V : VV) : Option (Int) := lpN (fun s : Int × Int => b_X16_waiting_7 x1 s.1 s.2 V) FU (x2, x3)
def f_X16_waiting (x1 : Int) (V : VV) : Option (Int) :=
  l_X16_waiting_7 x1 0 (40 * x1) V
theorem s_X16_waiting_33 {g : GG} {d : Nat} (hD : 0 ≤ d) {x1 x3 y0 y1 : Int} {M : MM} (hM : LM M) {V : VV} {o : AV × MM} {P : ((Int × Int) ⊕ (Int)) → Prop} (c0 : ∀ s : Int × Int, P (.inl s) → Sem g d YX16_waiting 7 [(1, 156), (0, x1), (0, s.1), (0, s.2)] [] (wr M V) o) (r0 : ∀ r : Int, P (.inr r) → o = ((0, r), (wr M V))) {z : (Int × Int) ⊕ (Int)} (h : j_X16_waiting_33 x1 x3 y0 y1 V = some z) (hz : P z) : Sem g d YX16_waiting 33 [(1, 156), (0, x1), (9, 0), (0, x3)] [(0, y1), (0, y0)] (wr M V) o := by
  delta j_X16_waiting_33 at h
  refine S_iadd dX16_waiting_33 ?_
  refine S_istore_n (i := 2) dX16_waiting_34 rfl (Nat.le_of_ble_eq_true rfl) rfl rfl ?_
  change Sem g d YX16_waiting 35 [(1, 156), (0, x1), (0, y0 + y1), (0, x3)] [] (wr M V) o
  refine S_iinc dX16_waiting_35 rfl rfl rfl ?_
  change Sem g d YX16_waiting 38 [(1, 156), (0, x1), (0, y0 + y1), (0, x3 + 1)] [] (wr M V) o
  refine S_goto (tgt := 7) dX16_waiting_38 rfl ?_
  exact c0 (y0 + y1, x3 + 1) (some_P (P := fun r => P r) h hz)
theorem s_X16_waiting_7 {g : GG} {d : Nat} (hD : 0 ≤ d) {x1 x2 x3 : Int} {M : MM} (hM : LM M) {V : VV} {o : AV × MM} {P : ((Int × Int) ⊕ (Int)) → Prop} (c0 : ∀ s : Int × Int, P (.inl s) → Sem g d YX16_waiting 7 [(1, 156), (0, x1), (0, s.1), (0, s.2)] [] (wr M V) o) (r0 : ∀ r : Int, P (.inr r) → o = ((0, r), (wr M V))) {z : (Int × Int) ⊕ (Int)} (h : b_X16_waiting_7 x1 x2 x3 V = some z) (hz : P z) : Sem g d YX16_waiting 7 [(1, 156), (0, x1), (0, x2), (0, x3)] [] (wr M V) o := by
  delta b_X16_waiting_7 at h
  refine S_iload_n (i := 3) dX16_waiting_7 rfl rfl ?_
  refine S_bipush (z := 40) dX16_waiting_8 rfl ?_
  refine S_iload_n (i := 1) dX16_waiting_10 rfl rfl ?_
  refine S_imul dX16_waiting_11 ?_
  refine S_bipush (z := 40) dX16_waiting_12 rfl ?_
  refine S_iadd dX16_waiting_14 ?_
  refine P_icmp_ge (tgt := 41) dX16_waiting_15 rfl h (fun h => ?_) (fun h => ?_)
  · obtain ⟨z0, h, hz⟩ := xit_some' (P := fun r => P r) h hz
    refine S_iload_n (i := 2) dX16_waiting_41 rfl rfl ?_
    obtain rfl := r0 _ (some_P (P := fun r => P (.inr r)) h hz)
    exact P_ret dX16_waiting_42 rfl (Or.inl rfl)
  · refine S_iload_n (i := 2) dX16_waiting_18 rfl rfl ?_
    refine S_aload_n (i := 0) dX16_waiting_19 rfl rfl ?_
    refine P2_gfr hM (a := 197) FLX16_137 rfl ⟨rfl, rfl⟩ dX16_waiting_20 ?_
    refine S_iload_n (i := 3) dX16_waiting_23 rfl rfl ?_
    refine P2_laz hM (a := 197) (n := 1280) rfl dX16_waiting_24 h (fun v1 h => ?_)
    refine P_if_eq (tgt := 32) dX16_waiting_25 rfl h (fun h => ?_) (fun h => ?_)
    · refine S_iconst dX16_waiting_32 rfl ?_
      refine S_weak (ls' := [(1, 156), (0, x1), (9, 0), (0, x3)]) ⟨Or.inr rfl, ⟨Or.inr rfl, ⟨Or.inl rfl, ⟨Or.inr rfl, trivial⟩⟩⟩⟩ ?_
      exact s_X16_waiting_33 hD hM c0 r0 h hz
    · refine S_iconst dX16_waiting_28 rfl ?_
      refine S_goto (tgt := 33) dX16_waiting_29 rfl ?_
      refine S_weak (ls' := [(1, 156), (0, x1), (9, 0), (0, x3)]) ⟨Or.inr rfl, ⟨Or.inr rfl, ⟨Or.inl rfl, ⟨Or.inr rfl, trivial⟩⟩⟩⟩ ?_
      exact s_X16_waiting_33 hD hM c0 r0 h hz
theorem sl_X16_waiting_7 {g : GG} {d : Nat} (hD : 0 ≤ d) {x1 x2 x3 : Int} {M : MM} (hM : LM M) {V : VV} {o : AV × MM} {P : (Int) → Prop} (r0 : ∀ r : Int, P r → o = ((0, r), (wr M V))) {z : Int} (h : l_X16_waiting_7 x1 x2 x3 V = some z) (hz : P z) : Sem g d YX16_waiting 7 [(1, 156), (0, x1), (0, x2), (0, x3)] [] (wr M V) o := by
  refine lp_sound (S := fun s : Int × Int => Sem g d YX16_waiting 7 [(1, 156), (0, x1), (0, s.1), (0, s.2)] [] (wr M V) o) (P := P) ?_ FU (x2, x3) z h hz
  intro s x hx hP
  exact s_X16_waiting_7 hD hM (P := Sum.elim (fun s : Int × Int => Sem g d YX16_waiting 7 [(1, 156), (0, x1), (0, s.1), (0, s.2)] [] (wr M V) o) P) (fun s h => h) (fun s h => r0 s h) hx hP
theorem s_X16_waiting_0 {g : GG} {d : Nat} (hD : 0 ≤ d) {x1 : Int} {M : MM} (hM : LM M) {V : VV} {o : AV × MM} {P : (Int) → Prop} (r0 : ∀ r : Int, P r → o = ((0, r), (wr M V))) {z : Int} (h : f_X16_waiting x1 V = some z) (hz : P z) : Sem g d YX16_waiting 0 [(1, 156), (0, x1), (9, 0), (9, 0)] [] (wr M V) o := by
  delta f_X16_waiting at h
  refine S_iconst dX16_waiting_0 rfl ?_
  refine S_istore_n (i := 2) dX16_waiting_1 rfl (Nat.le_of_ble_eq_true rfl) rfl rfl ?_
  change Sem g d YX16_waiting 2 [(1, 156), (0, x1), (0, 0), (9, 0)] [] (wr M V) o
  refine S_bipush (z := 40) dX16_waiting_2 rfl ?_
  refine S_iload_n (i := 1) dX16_waiting_4 rfl rfl ?_
  refine S_imul dX16_waiting_5 ?_
  refine S_istore_n (i := 3) dX16_waiting_6 rfl (Nat.le_of_ble_eq_true rfl) rfl rfl ?_
  change Sem g d YX16_waiting 7 [(1, 156), (0, x1), (0, 0), (0, 40 * x1)] [] (wr M V) o
  exact sl_X16_waiting_7 hD hM r0 h hz
theorem F_X16_waiting {g : GG} {d : Nat} (hD : 0 ≤ d) {x1 : Int} {M : MM} (hM : LM M) {V : VV} {r : Int} (h : f_X16_waiting x1 V = some r) : Sem g d YX16_waiting 0 (ini YX16_waiting [(1, 156), (0, x1)]) [] (wr M V) ((0, r), (wr M V)) := by
  change Sem g d YX16_waiting 0 [(1, 156), (0, x1), (9, 0), (9, 0)] [] (wr M V) ((0, r), (wr M V))
  exact s_X16_waiting_0 hD hM (P := fun x => x = r) (fun q e => by rw [e]) h rfl
/-! PeerSearchModel.count(II)I -/
theorem dX16_count_0 : decode cX16_count 0 = .ok (.aload_n 0, 1) := by decide +kernel
theorem dX16_count_1 : decode cX16_count 1 = .ok (.iload_n 1, 1) := by decide +kernel
theorem dX16_count_2 : decode cX16_count 2 = .ok (.invokevirtual 427, 3) := by decide +kernel
theorem dX16_count_5 : decode cX16_count 5 = .ok (.ifCond .ne 5, 3) := by decide +kernel
theorem dX16_count_8 : decode cX16_count 8 = .ok (.iconst (-1), 1) := by decide +kernel
theorem dX16_count_9 : decode cX16_count 9 = .ok (.ireturn, 1) := by decide +kernel
theorem dX16_count_10 : decode cX16_count 10 = .ok (.iload_n 2, 1) := by decide +kernel
theorem dX16_count_11 : decode cX16_count 11 = .ok (.tableswitch 195 0 13 #[69, 76, 83, 90, 96, 103, 110, 117, 126, 137, 148, 159, 170, 177], 69) := by decide +kernel
theorem dX16_count_80 : decode cX16_count 80 = .ok (.aload_n 0, 1) := by decide +kernel
theorem dX16_count_81 : decode cX16_count 81 = .ok (.getfield 42, 3) := by decide +kernel
theorem dX16_count_84 : decode cX16_count 84 = .ok (.iload_n 1, 1) := by decide +kernel
theorem dX16_count_85 : decode cX16_count 85 = .ok (.iaload, 1) := by decide +kernel
theorem dX16_count_86 : decode cX16_count 86 = .ok (.ireturn, 1) := by decide +kernel
theorem dX16_count_87 : decode cX16_count 87 = .ok (.aload_n 0, 1) := by decide +kernel
theorem dX16_count_88 : decode cX16_count 88 = .ok (.iload_n 1, 1) := by decide +kernel
theorem dX16_count_89 : decode cX16_count 89 = .ok (.iconst 0, 1) := by decide +kernel
theorem dX16_count_90 : decode cX16_count 90 = .ok (.invokevirtual 831, 3) := by decide +kernel
theorem dX16_count_93 : decode cX16_count 93 = .ok (.ireturn, 1) := by decide +kernel
theorem dX16_count_94 : decode cX16_count 94 = .ok (.aload_n 0, 1) := by decide +kernel
theorem dX16_count_95 : decode cX16_count 95 = .ok (.iload_n 1, 1) := by decide +kernel
theorem dX16_count_96 : decode cX16_count 96 = .ok (.iconst 1, 1) := by decide +kernel
theorem dX16_count_97 : decode cX16_count 97 = .ok (.invokevirtual 831, 3) := by decide +kernel
theorem dX16_count_100 : decode cX16_count 100 = .ok (.ireturn, 1) := by decide +kernel
theorem dX16_count_101 : decode cX16_count 101 = .ok (.aload_n 0, 1) := by decide +kernel
theorem dX16_count_102 : decode cX16_count 102 = .ok (.iload_n 1, 1) := by decide +kernel
theorem dX16_count_103 : decode cX16_count 103 = .ok (.invokevirtual 835, 3) := by decide +kernel
theorem dX16_count_106 : decode cX16_count 106 = .ok (.ireturn, 1) := by decide +kernel
theorem dX16_count_107 : decode cX16_count 107 = .ok (.aload_n 0, 1) := by decide +kernel
theorem dX16_count_108 : decode cX16_count 108 = .ok (.getfield 177, 3) := by decide +kernel
theorem dX16_count_111 : decode cX16_count 111 = .ok (.iload_n 1, 1) := by decide +kernel
theorem dX16_count_112 : decode cX16_count 112 = .ok (.iaload, 1) := by decide +kernel
theorem dX16_count_113 : decode cX16_count 113 = .ok (.ireturn, 1) := by decide +kernel
theorem dX16_count_114 : decode cX16_count 114 = .ok (.aload_n 0, 1) := by decide +kernel
theorem dX16_count_115 : decode cX16_count 115 = .ok (.getfield 60, 3) := by decide +kernel
theorem dX16_count_118 : decode cX16_count 118 = .ok (.iload_n 1, 1) := by decide +kernel
theorem dX16_count_119 : decode cX16_count 119 = .ok (.iaload, 1) := by decide +kernel
theorem dX16_count_120 : decode cX16_count 120 = .ok (.ireturn, 1) := by decide +kernel
theorem dX16_count_121 : decode cX16_count 121 = .ok (.aload_n 0, 1) := by decide +kernel
theorem dX16_count_122 : decode cX16_count 122 = .ok (.getfield 63, 3) := by decide +kernel
theorem dX16_count_125 : decode cX16_count 125 = .ok (.iload_n 1, 1) := by decide +kernel
theorem dX16_count_126 : decode cX16_count 126 = .ok (.iaload, 1) := by decide +kernel
theorem dX16_count_127 : decode cX16_count 127 = .ok (.ireturn, 1) := by decide +kernel
theorem dX16_count_128 : decode cX16_count 128 = .ok (.aload_n 0, 1) := by decide +kernel
theorem dX16_count_129 : decode cX16_count 129 = .ok (.getfield 57, 3) := by decide +kernel
theorem dX16_count_132 : decode cX16_count 132 = .ok (.iconst 5, 1) := by decide +kernel
theorem dX16_count_133 : decode cX16_count 133 = .ok (.iload_n 1, 1) := by decide +kernel
theorem dX16_count_134 : decode cX16_count 134 = .ok (.imul, 1) := by decide +kernel
theorem dX16_count_135 : decode cX16_count 135 = .ok (.iaload, 1) := by decide +kernel
theorem dX16_count_136 : decode cX16_count 136 = .ok (.ireturn, 1) := by decide +kernel
theorem dX16_count_137 : decode cX16_count 137 = .ok (.aload_n 0, 1) := by decide +kernel
theorem dX16_count_138 : decode cX16_count 138 = .ok (.getfield 57, 3) := by decide +kernel
theorem dX16_count_141 : decode cX16_count 141 = .ok (.iconst 5, 1) := by decide +kernel
theorem dX16_count_142 : decode cX16_count 142 = .ok (.iload_n 1, 1) := by decide +kernel
theorem dX16_count_143 : decode cX16_count 143 = .ok (.imul, 1) := by decide +kernel
theorem dX16_count_144 : decode cX16_count 144 = .ok (.iconst 1, 1) := by decide +kernel
theorem dX16_count_145 : decode cX16_count 145 = .ok (.iadd, 1) := by decide +kernel
theorem dX16_count_146 : decode cX16_count 146 = .ok (.iaload, 1) := by decide +kernel
theorem dX16_count_147 : decode cX16_count 147 = .ok (.ireturn, 1) := by decide +kernel
theorem dX16_count_148 : decode cX16_count 148 = .ok (.aload_n 0, 1) := by decide +kernel
theorem dX16_count_149 : decode cX16_count 149 = .ok (.getfield 57, 3) := by decide +kernel
theorem dX16_count_152 : decode cX16_count 152 = .ok (.iconst 5, 1) := by decide +kernel
theorem dX16_count_153 : decode cX16_count 153 = .ok (.iload_n 1, 1) := by decide +kernel
theorem dX16_count_154 : decode cX16_count 154 = .ok (.imul, 1) := by decide +kernel
theorem dX16_count_155 : decode cX16_count 155 = .ok (.iconst 2, 1) := by decide +kernel
theorem dX16_count_156 : decode cX16_count 156 = .ok (.iadd, 1) := by decide +kernel
theorem dX16_count_157 : decode cX16_count 157 = .ok (.iaload, 1) := by decide +kernel
theorem dX16_count_158 : decode cX16_count 158 = .ok (.ireturn, 1) := by decide +kernel
theorem dX16_count_159 : decode cX16_count 159 = .ok (.aload_n 0, 1) := by decide +kernel
theorem dX16_count_160 : decode cX16_count 160 = .ok (.getfield 57, 3) := by decide +kernel
theorem dX16_count_163 : decode cX16_count 163 = .ok (.iconst 5, 1) := by decide +kernel
theorem dX16_count_164 : decode cX16_count 164 = .ok (.iload_n 1, 1) := by decide +kernel
theorem dX16_count_165 : decode cX16_count 165 = .ok (.imul, 1) := by decide +kernel
theorem dX16_count_166 : decode cX16_count 166 = .ok (.iconst 3, 1) := by decide +kernel
theorem dX16_count_167 : decode cX16_count 167 = .ok (.iadd, 1) := by decide +kernel
theorem dX16_count_168 : decode cX16_count 168 = .ok (.iaload, 1) := by decide +kernel
theorem dX16_count_169 : decode cX16_count 169 = .ok (.ireturn, 1) := by decide +kernel
theorem dX16_count_170 : decode cX16_count 170 = .ok (.aload_n 0, 1) := by decide +kernel
theorem dX16_count_171 : decode cX16_count 171 = .ok (.getfield 57, 3) := by decide +kernel
theorem dX16_count_174 : decode cX16_count 174 = .ok (.iconst 5, 1) := by decide +kernel
theorem dX16_count_175 : decode cX16_count 175 = .ok (.iload_n 1, 1) := by decide +kernel
theorem dX16_count_176 : decode cX16_count 176 = .ok (.imul, 1) := by decide +kernel
theorem dX16_count_177 : decode cX16_count 177 = .ok (.iconst 4, 1) := by decide +kernel
theorem dX16_count_178 : decode cX16_count 178 = .ok (.iadd, 1) := by decide +kernel
theorem dX16_count_179 : decode cX16_count 179 = .ok (.iaload, 1) := by decide +kernel
theorem dX16_count_180 : decode cX16_count 180 = .ok (.ireturn, 1) := by decide +kernel
theorem dX16_count_181 : decode cX16_count 181 = .ok (.aload_n 0, 1) := by decide +kernel
theorem dX16_count_182 : decode cX16_count 182 = .ok (.getfield 39, 3) := by decide +kernel
theorem dX16_count_185 : decode cX16_count 185 = .ok (.iload_n 1, 1) := by decide +kernel
theorem dX16_count_186 : decode cX16_count 186 = .ok (.iaload, 1) := by decide +kernel
theorem dX16_count_187 : decode cX16_count 187 = .ok (.ireturn, 1) := by decide +kernel
theorem dX16_count_188 : decode cX16_count 188 = .ok (.aload_n 0, 1) := by decide +kernel
theorem dX16_count_189 : decode cX16_count 189 = .ok (.getfield 225, 3) := by decide +kernel
theorem dX16_count_192 : decode cX16_count 192 = .ok (.bipush 12, 2) := by decide +kernel
theorem dX16_count_194 : decode cX16_count 194 = .ok (.iload_n 1, 1) := by decide +kernel
theorem dX16_count_195 : decode cX16_count 195 = .ok (.iadd, 1) := by decide +kernel
theorem dX16_count_196 : decode cX16_count 196 = .ok (.baload, 1) := by decide +kernel
theorem dX16_count_197 : decode cX16_count 197 = .ok (.ifCond .eq 7, 3) := by decide +kernel
theorem dX16_count_200 : decode cX16_count 200 = .ok (.iconst 1, 1) := by decide +kernel
theorem dX16_count_201 : decode cX16_count 201 = .ok (.goto 4, 3) := by decide +kernel
theorem dX16_count_204 : decode cX16_count 204 = .ok (.iconst 0, 1) := by decide +kernel
theorem dX16_count_205 : decode cX16_count 205 = .ok (.ireturn, 1) := by decide +kernel
theorem dX16_count_206 : decode cX16_count 206 = .ok (.iconst (-1), 1) := by decide +kernel
theorem dX16_count_207 : decode cX16_count 207 = .ok (.ireturn, 1) := by decide +kernel
def j_X16_count_205 (y0 : Int) (V : VV) : Option (Int) :=
  some y0
def j_X16_count_159 (x1 : Int) (V : VV) : Option (Int) :=
  (l2 172 160 ((5 * x1) + 3) V).bind fun v1 =>
  some v1
def f_X16_count (x1 x2 : Int) (V : VV) : Option (Int) :=
  (f_X16_isPeer x1 V).bind fun v1 =>
  if w32 v1 = 0 then
    some (-1)
  else
    swt (w32 x2) 0 [
      (
      (l2 167 32 x1 V).bind fun v2 =>
      some v2
      ),
      (
      (f_X16_contacts x1 0 V).bind fun v3 =>
      some v3
      ),
      (
      (f_X16_contacts x1 1 V).bind fun v4 =>
      some v4
      ),
      (
      (f_X16_waiting x1 V).bind fun v5 =>
      some v5
      ),
      (
      (l2 210 32 x1 V).bind fun v6 =>
      some v6
      ),
      (
      (l2 173 32 x1 V).bind fun v7 =>
      some v7
      ),
      (
      (l2 174 32 x1 V).bind fun v8 =>
      some v8
      ),
      (
      (l2 172 160 (5 * x1) V).bind fun v9 =>
      some v9
      ),
      (
      (l2 172 160 ((5 * x1) + 1) V).bind fun v10 =>
      some v10
      ),
      (
      (l2 172 160 ((5 * x1) + 2) V).bind fun v11 =>
      some v11
      ),
      (
      j_X16_count_159 x1 V
      ),
      (
      (l2 172 160 ((5 * x1) + 4) V).bind fun v12 =>
      some v12
      ),
      (
      (l2 166 32 x1 V).bind fun v13 =>
      some v13
      ),
      (
      (l2 226 44 (12 + x1) V).bind fun v14 =>
      if w32 v14 = 0 then
        j_X16_count_205 0 V
      else
        j_X16_count_205 1 V
      )
      ] (
      some (-1)
      )
theorem s_X16_count_205 {g : GG} {d : Nat} (hD : 1 ≤ d) {y0 : Int} {M : MM} (hM : LM M) {V : VV} {o : AV × MM} {P : (Int) → Prop} (r0 : ∀ r : Int, P r → o = ((0, r), (wr M V))) {z : Int} (h : j_X16_count_205 y0 V = some z) (hz : P z) : Sem g d YX16_count 205 [(9, 0), (9, 0), (9, 0)] [(0, y0)] (wr M V) o := by
  delta j_X16_count_205 at h
  obtain rfl := r0 _ (some_P (P := fun r => P r) h hz)
  exact P_ret dX16_count_205 rfl (Or.inl rfl)
theorem s_X16_count_159 {g : GG} {d : Nat} (hD : 1 ≤ d) {x1 : Int} {M : MM} (hM : LM M) {V : VV} {o : AV × MM} {P : (Int) → Prop} (r0 : ∀ r : Int, P r → o = ((0, r), (wr M V))) {z : Int} (h : j_X16_count_159 x1 V = some z) (hz : P z) : Sem g d YX16_count 159 [(1, 156), (0, x1), (9, 0)] [] (wr M V) o := by
  delta j_X16_count_159 at h
  refine S_aload_n (i := 0) dX16_count_159 rfl rfl ?_
  refine P2_gfr hM (a := 172) FLX16_57 rfl ⟨rfl, rfl⟩ dX16_count_160 ?_
  refine S_iconst dX16_count_163 rfl ?_
  refine S_iload_n (i := 1) dX16_count_164 rfl rfl ?_
  refine S_imul dX16_count_165 ?_
  refine S_iconst dX16_count_166 rfl ?_
  refine S_iadd dX16_count_167 ?_
  refine P2_lai hM (a := 172) (n := 160) rfl dX16_count_168 h (fun v1 h => ?_)
  obtain rfl := r0 _ (some_P (P := fun r => P r) h hz)
  exact P_ret dX16_count_169 rfl (Or.inl rfl)
theorem s_X16_count_0 {g : GG} {d : Nat} (hD : 1 ≤ d) {x1 x2 : Int} {M : MM} (hM : LM M) {V : VV} {o : AV × MM} {P : (Int) → Prop} (r0 : ∀ r : Int, P r → o = ((0, r), (wr M V))) {z : Int} (h : f_X16_count x1 x2 V = some z) (hz : P z) : Sem g d YX16_count 0 [(1, 156), (0, x1), (0, x2)] [] (wr M V) o := by
  delta f_X16_count at h
  refine S_aload_n (i := 0) dX16_count_0 rfl rfl ?_
  refine S_iload_n (i := 1) dX16_count_1 rfl rfl ?_
  refine P2_invVp hM 0 [(0, x1)] [] CVX16_isPeer MLX16_427 dX16_count_2 rfl rfl rfl rfl rfl (by omega) h (fun r h => F_X16_isPeer (by omega) hM h) (fun v1 h => ?_)
  refine P_if_ne (tgt := 10) dX16_count_5 rfl h (fun h => ?_) (fun h => ?_)
  · refine S_iload_n (i := 2) dX16_count_10 rfl rfl ?_
    refine P_swt [80, 87, 94, 101, 107, 114, 121, 128, 137, 148, 159, 170, 181, 188] 206 dX16_count_11 rfl rfl rfl rfl h ?_ (fun h => ?_)
    · intro i X hX h t ht
      rcases i with _ | i
      · have e1 := Option.some.inj hX
        have e2 := Option.some.inj ht
        subst e1
        subst e2
        refine S_aload_n (i := 0) dX16_count_80 rfl rfl ?_
        refine P2_gfr hM (a := 167) FLX16_42 rfl ⟨rfl, rfl⟩ dX16_count_81 ?_
        refine S_iload_n (i := 1) dX16_count_84 rfl rfl ?_
        refine P2_lai hM (a := 167) (n := 32) rfl dX16_count_85 h (fun v2 h => ?_)
        obtain rfl := r0 _ (some_P (P := fun r => P r) h hz)
        exact P_ret dX16_count_86 rfl (Or.inl rfl)
      rcases i with _ | i
      · have e1 := Option.some.inj hX
        have e2 := Option.some.inj ht
        subst e1
        subst e2
        refine S_aload_n (i := 0) dX16_count_87 rfl rfl ?_
        refine S_iload_n (i := 1) dX16_count_88 rfl rfl ?_
        refine S_iconst dX16_count_89 rfl ?_
        refine P2_invVp hM 0 [(0, x1), (0, 0)] [] CVX16_contacts MLX16_831 dX16_count_90 rfl rfl rfl rfl rfl (by omega) h (fun r h => F_X16_contacts (by omega) hM h) (fun v3 h => ?_)
        obtain rfl := r0 _ (some_P (P := fun r => P r) h hz)
        exact P_ret dX16_count_93 rfl (Or.inl rfl)
      rcases i with _ | i
      · have e1 := Option.some.inj hX
        have e2 := Option.some.inj ht
        subst e1
        subst e2
        refine S_aload_n (i := 0) dX16_count_94 rfl rfl ?_
        refine S_iload_n (i := 1) dX16_count_95 rfl rfl ?_
        refine S_iconst dX16_count_96 rfl ?_
        refine P2_invVp hM 0 [(0, x1), (0, 1)] [] CVX16_contacts MLX16_831 dX16_count_97 rfl rfl rfl rfl rfl (by omega) h (fun r h => F_X16_contacts (by omega) hM h) (fun v4 h => ?_)
        obtain rfl := r0 _ (some_P (P := fun r => P r) h hz)
        exact P_ret dX16_count_100 rfl (Or.inl rfl)
      rcases i with _ | i
      · have e1 := Option.some.inj hX
        have e2 := Option.some.inj ht
        subst e1
        subst e2
        refine S_aload_n (i := 0) dX16_count_101 rfl rfl ?_
        refine S_iload_n (i := 1) dX16_count_102 rfl rfl ?_
        refine P2_invVp hM 0 [(0, x1)] [] CVX16_waiting MLX16_835 dX16_count_103 rfl rfl rfl rfl rfl (by omega) h (fun r h => F_X16_waiting (by omega) hM h) (fun v5 h => ?_)
        obtain rfl := r0 _ (some_P (P := fun r => P r) h hz)
        exact P_ret dX16_count_106 rfl (Or.inl rfl)
      rcases i with _ | i
      · have e1 := Option.some.inj hX
        have e2 := Option.some.inj ht
        subst e1
        subst e2
        refine S_aload_n (i := 0) dX16_count_107 rfl rfl ?_
        refine P2_gfr hM (a := 210) FLX16_177 rfl ⟨rfl, rfl⟩ dX16_count_108 ?_
        refine S_iload_n (i := 1) dX16_count_111 rfl rfl ?_
        refine P2_lai hM (a := 210) (n := 32) rfl dX16_count_112 h (fun v6 h => ?_)
        obtain rfl := r0 _ (some_P (P := fun r => P r) h hz)
        exact P_ret dX16_count_113 rfl (Or.inl rfl)
      rcases i with _ | i
      · have e1 := Option.some.inj hX
        have e2 := Option.some.inj ht
        subst e1
        subst e2
        refine S_aload_n (i := 0) dX16_count_114 rfl rfl ?_
        refine P2_gfr hM (a := 173) FLX16_60 rfl ⟨rfl, rfl⟩ dX16_count_115 ?_
        refine S_iload_n (i := 1) dX16_count_118 rfl rfl ?_
        refine P2_lai hM (a := 173) (n := 32) rfl dX16_count_119 h (fun v7 h => ?_)
        obtain rfl := r0 _ (some_P (P := fun r => P r) h hz)
        exact P_ret dX16_count_120 rfl (Or.inl rfl)
      rcases i with _ | i
      · have e1 := Option.some.inj hX
        have e2 := Option.some.inj ht
        subst e1
        subst e2
        refine S_aload_n (i := 0) dX16_count_121 rfl rfl ?_
        refine P2_gfr hM (a := 174) FLX16_63 rfl ⟨rfl, rfl⟩ dX16_count_122 ?_
        refine S_iload_n (i := 1) dX16_count_125 rfl rfl ?_
        refine P2_lai hM (a := 174) (n := 32) rfl dX16_count_126 h (fun v8 h => ?_)
        obtain rfl := r0 _ (some_P (P := fun r => P r) h hz)
        exact P_ret dX16_count_127 rfl (Or.inl rfl)
      rcases i with _ | i
      · have e1 := Option.some.inj hX
        have e2 := Option.some.inj ht
        subst e1
        subst e2
        refine S_aload_n (i := 0) dX16_count_128 rfl rfl ?_
        refine P2_gfr hM (a := 172) FLX16_57 rfl ⟨rfl, rfl⟩ dX16_count_129 ?_
        refine S_iconst dX16_count_132 rfl ?_
        refine S_iload_n (i := 1) dX16_count_133 rfl rfl ?_
        refine S_imul dX16_count_134 ?_
        refine P2_lai hM (a := 172) (n := 160) rfl dX16_count_135 h (fun v9 h => ?_)
        obtain rfl := r0 _ (some_P (P := fun r => P r) h hz)
        exact P_ret dX16_count_136 rfl (Or.inl rfl)
      rcases i with _ | i
      · have e1 := Option.some.inj hX
        have e2 := Option.some.inj ht
        subst e1
        subst e2
        refine S_aload_n (i := 0) dX16_count_137 rfl rfl ?_
        refine P2_gfr hM (a := 172) FLX16_57 rfl ⟨rfl, rfl⟩ dX16_count_138 ?_
        refine S_iconst dX16_count_141 rfl ?_
        refine S_iload_n (i := 1) dX16_count_142 rfl rfl ?_
        refine S_imul dX16_count_143 ?_
        refine S_iconst dX16_count_144 rfl ?_
        refine S_iadd dX16_count_145 ?_
        refine P2_lai hM (a := 172) (n := 160) rfl dX16_count_146 h (fun v10 h => ?_)
        obtain rfl := r0 _ (some_P (P := fun r => P r) h hz)
        exact P_ret dX16_count_147 rfl (Or.inl rfl)
      rcases i with _ | i
      · have e1 := Option.some.inj hX
        have e2 := Option.some.inj ht
        subst e1
        subst e2
        refine S_aload_n (i := 0) dX16_count_148 rfl rfl ?_
        refine P2_gfr hM (a := 172) FLX16_57 rfl ⟨rfl, rfl⟩ dX16_count_149 ?_
        refine S_iconst dX16_count_152 rfl ?_
        refine S_iload_n (i := 1) dX16_count_153 rfl rfl ?_
        refine S_imul dX16_count_154 ?_
        refine S_iconst dX16_count_155 rfl ?_
        refine S_iadd dX16_count_156 ?_
        refine P2_lai hM (a := 172) (n := 160) rfl dX16_count_157 h (fun v11 h => ?_)
        obtain rfl := r0 _ (some_P (P := fun r => P r) h hz)
        exact P_ret dX16_count_158 rfl (Or.inl rfl)
      rcases i with _ | i
      · have e1 := Option.some.inj hX
        have e2 := Option.some.inj ht
        subst e1
        subst e2
        refine S_weak (ls' := [(1, 156), (0, x1), (9, 0)]) ⟨Or.inr rfl, ⟨Or.inr rfl, ⟨Or.inl rfl, trivial⟩⟩⟩ ?_
        exact s_X16_count_159 hD hM r0 h hz
      rcases i with _ | i
      · have e1 := Option.some.inj hX
        have e2 := Option.some.inj ht
        subst e1
        subst e2
        refine S_aload_n (i := 0) dX16_count_170 rfl rfl ?_
        refine P2_gfr hM (a := 172) FLX16_57 rfl ⟨rfl, rfl⟩ dX16_count_171 ?_
        refine S_iconst dX16_count_174 rfl ?_
        refine S_iload_n (i := 1) dX16_count_175 rfl rfl ?_
        refine S_imul dX16_count_176 ?_
        refine S_iconst dX16_count_177 rfl ?_
        refine S_iadd dX16_count_178 ?_
        refine P2_lai hM (a := 172) (n := 160) rfl dX16_count_179 h (fun v12 h => ?_)
        obtain rfl := r0 _ (some_P (P := fun r => P r) h hz)
        exact P_ret dX16_count_180 rfl (Or.inl rfl)
      rcases i with _ | i
      · have e1 := Option.some.inj hX
        have e2 := Option.some.inj ht
        subst e1
        subst e2
        refine S_aload_n (i := 0) dX16_count_181 rfl rfl ?_
        refine P2_gfr hM (a := 166) FLX16_39 rfl ⟨rfl, rfl⟩ dX16_count_182 ?_
        refine S_iload_n (i := 1) dX16_count_185 rfl rfl ?_
        refine P2_lai hM (a := 166) (n := 32) rfl dX16_count_186 h (fun v13 h => ?_)
        obtain rfl := r0 _ (some_P (P := fun r => P r) h hz)
        exact P_ret dX16_count_187 rfl (Or.inl rfl)
      rcases i with _ | i
      · have e1 := Option.some.inj hX
        have e2 := Option.some.inj ht
        subst e1
        subst e2
        refine S_aload_n (i := 0) dX16_count_188 rfl rfl ?_
        refine P2_gfr hM (a := 226) FLX16_225 rfl ⟨rfl, rfl⟩ dX16_count_189 ?_
        refine S_bipush (z := 12) dX16_count_192 rfl ?_
        refine S_iload_n (i := 1) dX16_count_194 rfl rfl ?_
        refine S_iadd dX16_count_195 ?_
        refine P2_laz hM (a := 226) (n := 44) rfl dX16_count_196 h (fun v14 h => ?_)
        refine P_if_eq (tgt := 204) dX16_count_197 rfl h (fun h => ?_) (fun h => ?_)
        · refine S_iconst dX16_count_204 rfl ?_
          refine S_weak (ls' := [(9, 0), (9, 0), (9, 0)]) ⟨Or.inl rfl, ⟨Or.inl rfl, ⟨Or.inl rfl, trivial⟩⟩⟩ ?_
          exact s_X16_count_205 hD hM r0 h hz
        · refine S_iconst dX16_count_200 rfl ?_
          refine S_goto (tgt := 205) dX16_count_201 rfl ?_
          refine S_weak (ls' := [(9, 0), (9, 0), (9, 0)]) ⟨Or.inl rfl, ⟨Or.inl rfl, ⟨Or.inl rfl, trivial⟩⟩⟩ ?_
          exact s_X16_count_205 hD hM r0 h hz
      cases hX
    · refine S_iconst dX16_count_206 rfl ?_
      obtain rfl := r0 _ (some_P (P := fun r => P r) h hz)
      exact P_ret dX16_count_207 rfl (Or.inl rfl)
  · refine S_iconst dX16_count_8 rfl ?_
    obtain rfl := r0 _ (some_P (P := fun r => P r) h hz)
    exact P_ret dX16_count_9 rfl (Or.inl rfl)
theorem F_X16_count {g : GG} {d : Nat} (hD : 1 ≤ d) {x1 x2 : Int} {M : MM} (hM : LM M) {V : VV} {r : Int} (h : f_X16_count x1 x2 V = some r) : Sem g d YX16_count 0 (ini YX16_count [(1, 156), (0, x1), (0, x2)]) [] (wr M V) ((0, r), (wr M V)) := by
  change Sem g d YX16_count 0 [(1, 156), (0, x1), (0, x2)] [] (wr M V) ((0, r), (wr M V))
  exact s_X16_count_0 hD hM (P := fun x => x = r) (fun q e => by rw [e]) h rfl
/-! PeerSearchModel.close(II)V -/
theorem dX16_close_0 : decode cX16_close 0 = .ok (.aload_n 0, 1) := by decide +kernel
theorem dX16_close_1 : decode cX16_close 1 = .ok (.getfield 225, 3) := by decide +kernel
theorem dX16_close_4 : decode cX16_close 4 = .ok (.iload_n 1, 1) := by decide +kernel
theorem dX16_close_5 : decode cX16_close 5 = .ok (.iconst 0, 1) := by decide +kernel
theorem dX16_close_6 : decode cX16_close 6 = .ok (.bastore, 1) := by decide +kernel
theorem dX16_close_7 : decode cX16_close 7 = .ok (.aload_n 0, 1) := by decide +kernel
theorem dX16_close_8 : decode cX16_close 8 = .ok (.getfield 240, 3) := by decide +kernel
theorem dX16_close_11 : decode cX16_close 11 = .ok (.iload_n 1, 1) := by decide +kernel
theorem dX16_close_12 : decode cX16_close 12 = .ok (.dup2, 1) := by decide +kernel
theorem dX16_close_13 : decode cX16_close 13 = .ok (.iaload, 1) := by decide +kernel
theorem dX16_close_14 : decode cX16_close 14 = .ok (.iconst 1, 1) := by decide +kernel
theorem dX16_close_15 : decode cX16_close 15 = .ok (.iadd, 1) := by decide +kernel
theorem dX16_close_16 : decode cX16_close 16 = .ok (.iastore, 1) := by decide +kernel
theorem dX16_close_17 : decode cX16_close 17 = .ok (.aload_n 0, 1) := by decide +kernel
theorem dX16_close_18 : decode cX16_close 18 = .ok (.getfield 234, 3) := by decide +kernel
theorem dX16_close_21 : decode cX16_close 21 = .ok (.iload_n 1, 1) := by decide +kernel
theorem dX16_close_22 : decode cX16_close 22 = .ok (.iaload, 1) := by decide +kernel
theorem dX16_close_23 : decode cX16_close 23 = .ok (.ifCond .lt 15, 3) := by decide +kernel
theorem dX16_close_26 : decode cX16_close 26 = .ok (.aload_n 0, 1) := by decide +kernel
theorem dX16_close_27 : decode cX16_close 27 = .ok (.getfield 348, 3) := by decide +kernel
theorem dX16_close_30 : decode cX16_close 30 = .ok (.aload_n 0, 1) := by decide +kernel
theorem dX16_close_31 : decode cX16_close 31 = .ok (.getfield 234, 3) := by decide +kernel
theorem dX16_close_34 : decode cX16_close 34 = .ok (.iload_n 1, 1) := by decide +kernel
theorem dX16_close_35 : decode cX16_close 35 = .ok (.iaload, 1) := by decide +kernel
theorem dX16_close_36 : decode cX16_close 36 = .ok (.iload_n 2, 1) := by decide +kernel
theorem dX16_close_37 : decode cX16_close 37 = .ok (.iastore, 1) := by decide +kernel
theorem dX16_close_38 : decode cX16_close 38 = .ok (.return_, 1) := by decide +kernel
def j_X16_close_38 (V : VV) : Option (VV) :=
  some V
def f_X16_close (x1 x2 : Int) (V : VV) : Option (VV) :=
  (s2z 226 44 x1 0 V).bind fun V1 =>
  (l2 231 44 x1 V1).bind fun v1 =>
  (s2 231 44 x1 (v1 + 1) V1).bind fun V2 =>
  (l2 229 44 x1 V2).bind fun v2 =>
  if w32 v2 < 0 then
    j_X16_close_38 V2
  else
    (l2 229 44 x1 V2).bind fun v3 =>
    (s2 267 256 v3 x2 V2).bind fun V3 =>
    j_X16_close_38 V3
theorem s_X16_close_38 {g : GG} {d : Nat} (hD : 0 ≤ d) {M : MM} (hM : LM M) {V : VV} {o : AV × MM} {P : (VV) → Prop} (r0 : ∀ r : VV, P r → o = ((9, 0), (wr M r))) {z : VV} (h : j_X16_close_38 V = some z) (hz : P z) : Sem g d YX16_close 38 [(9, 0), (9, 0), (9, 0)] [] (wr M V) o := by
  delta j_X16_close_38 at h
  obtain rfl := r0 _ (some_P (P := fun r => P r) h hz)
  exact S_return dX16_close_38 rfl
theorem s_X16_close_0 {g : GG} {d : Nat} (hD : 0 ≤ d) {x1 x2 : Int} {M : MM} (hM : LM M) {V : VV} {o : AV × MM} {P : (VV) → Prop} (r0 : ∀ r : VV, P r → o = ((9, 0), (wr M r))) {z : VV} (h : f_X16_close x1 x2 V = some z) (hz : P z) : Sem g d YX16_close 0 [(1, 156), (0, x1), (0, x2)] [] (wr M V) o := by
  delta f_X16_close at h
  refine S_aload_n (i := 0) dX16_close_0 rfl rfl ?_
  refine P2_gfr hM (a := 226) FLX16_225 rfl ⟨rfl, rfl⟩ dX16_close_1 ?_
  refine S_iload_n (i := 1) dX16_close_4 rfl rfl ?_
  refine S_iconst dX16_close_5 rfl ?_
  refine P2_saz hM (a := 226) (n := 44) rfl dX16_close_6 h (fun V1 h => ?_)
  refine S_aload_n (i := 0) dX16_close_7 rfl rfl ?_
  refine P2_gfr hM (a := 231) FLX16_240 rfl ⟨rfl, rfl⟩ dX16_close_8 ?_
  refine S_iload_n (i := 1) dX16_close_11 rfl rfl ?_
  refine S_dup2 dX16_close_12 (Nat.le_of_ble_eq_true rfl) (Nat.le_of_ble_eq_true rfl) ?_
  refine P2_lai hM (a := 231) (n := 44) rfl dX16_close_13 h (fun v1 h => ?_)
  refine S_iconst dX16_close_14 rfl ?_
  refine S_iadd dX16_close_15 ?_
  refine P2_sai hM (a := 231) (n := 44) rfl dX16_close_16 h (fun V2 h => ?_)
  refine S_aload_n (i := 0) dX16_close_17 rfl rfl ?_
  refine P2_gfr hM (a := 229) FLX16_234 rfl ⟨rfl, rfl⟩ dX16_close_18 ?_
  refine S_iload_n (i := 1) dX16_close_21 rfl rfl ?_
  refine P2_lai hM (a := 229) (n := 44) rfl dX16_close_22 h (fun v2 h => ?_)
  refine P_if_lt (tgt := 38) dX16_close_23 rfl h (fun h => ?_) (fun h => ?_)
  · refine S_weak (ls' := [(9, 0), (9, 0), (9, 0)]) ⟨Or.inl rfl, ⟨Or.inl rfl, ⟨Or.inl rfl, trivial⟩⟩⟩ ?_
    exact s_X16_close_38 hD hM r0 h hz
  · refine S_aload_n (i := 0) dX16_close_26 rfl rfl ?_
    refine P2_gfr hM (a := 267) FLX16_348 rfl ⟨rfl, rfl⟩ dX16_close_27 ?_
    refine S_aload_n (i := 0) dX16_close_30 rfl rfl ?_
    refine P2_gfr hM (a := 229) FLX16_234 rfl ⟨rfl, rfl⟩ dX16_close_31 ?_
    refine S_iload_n (i := 1) dX16_close_34 rfl rfl ?_
    refine P2_lai hM (a := 229) (n := 44) rfl dX16_close_35 h (fun v3 h => ?_)
    refine S_iload_n (i := 2) dX16_close_36 rfl rfl ?_
    refine P2_sai hM (a := 267) (n := 256) rfl dX16_close_37 h (fun V3 h => ?_)
    refine S_weak (ls' := [(9, 0), (9, 0), (9, 0)]) ⟨Or.inl rfl, ⟨Or.inl rfl, ⟨Or.inl rfl, trivial⟩⟩⟩ ?_
    exact s_X16_close_38 hD hM r0 h hz
theorem F_X16_close {g : GG} {d : Nat} (hD : 0 ≤ d) {x1 x2 : Int} {M : MM} (hM : LM M) {V : VV} {r : VV} (h : f_X16_close x1 x2 V = some r) : Sem g d YX16_close 0 (ini YX16_close [(1, 156), (0, x1), (0, x2)]) [] (wr M V) ((9, 0), (wr M r)) := by
  change Sem g d YX16_close 0 [(1, 156), (0, x1), (0, x2)] [] (wr M V) ((9, 0), (wr M r))
  exact s_X16_close_0 hD hM (P := fun x => x = r) (fun q e => by rw [e]) h rfl
/-! PeerSearchModel.gone(I)V -/
theorem dX16_gone_0 : decode cX16_gone 0 = .ok (.aload_n 0, 1) := by decide +kernel
theorem dX16_gone_1 : decode cX16_gone 1 = .ok (.getfield 42, 3) := by decide +kernel
theorem dX16_gone_4 : decode cX16_gone 4 = .ok (.iload_n 1, 1) := by decide +kernel
theorem dX16_gone_5 : decode cX16_gone 5 = .ok (.iconst 2, 1) := by decide +kernel
theorem dX16_gone_6 : decode cX16_gone 6 = .ok (.iastore, 1) := by decide +kernel
theorem dX16_gone_7 : decode cX16_gone 7 = .ok (.aload_n 0, 1) := by decide +kernel
theorem dX16_gone_8 : decode cX16_gone 8 = .ok (.getfield 110, 3) := by decide +kernel
theorem dX16_gone_11 : decode cX16_gone 11 = .ok (.iload_n 1, 1) := by decide +kernel
theorem dX16_gone_12 : decode cX16_gone 12 = .ok (.iconst 0, 1) := by decide +kernel
theorem dX16_gone_13 : decode cX16_gone 13 = .ok (.iastore, 1) := by decide +kernel
theorem dX16_gone_14 : decode cX16_gone 14 = .ok (.aload_n 0, 1) := by decide +kernel
theorem dX16_gone_15 : decode cX16_gone 15 = .ok (.getfield 177, 3) := by decide +kernel
theorem dX16_gone_18 : decode cX16_gone 18 = .ok (.iload_n 1, 1) := by decide +kernel
theorem dX16_gone_19 : decode cX16_gone 19 = .ok (.iconst 0, 1) := by decide +kernel
theorem dX16_gone_20 : decode cX16_gone 20 = .ok (.iastore, 1) := by decide +kernel
theorem dX16_gone_21 : decode cX16_gone 21 = .ok (.bipush 40, 2) := by decide +kernel
theorem dX16_gone_23 : decode cX16_gone 23 = .ok (.iload_n 1, 1) := by decide +kernel
theorem dX16_gone_24 : decode cX16_gone 24 = .ok (.imul, 1) := by decide +kernel
theorem dX16_gone_25 : decode cX16_gone 25 = .ok (.istore_n 2, 1) := by decide +kernel
theorem dX16_gone_26 : decode cX16_gone 26 = .ok (.iload_n 2, 1) := by decide +kernel
theorem dX16_gone_27 : decode cX16_gone 27 = .ok (.bipush 40, 2) := by decide +kernel
theorem dX16_gone_29 : decode cX16_gone 29 = .ok (.iload_n 1, 1) := by decide +kernel
theorem dX16_gone_30 : decode cX16_gone 30 = .ok (.imul, 1) := by decide +kernel
theorem dX16_gone_31 : decode cX16_gone 31 = .ok (.bipush 40, 2) := by decide +kernel
theorem dX16_gone_33 : decode cX16_gone 33 = .ok (.iadd, 1) := by decide +kernel
theorem dX16_gone_34 : decode cX16_gone 34 = .ok (.if_icmp .ge 16, 3) := by decide +kernel
theorem dX16_gone_37 : decode cX16_gone 37 = .ok (.aload_n 0, 1) := by decide +kernel
theorem dX16_gone_38 : decode cX16_gone 38 = .ok (.getfield 137, 3) := by decide +kernel
theorem dX16_gone_41 : decode cX16_gone 41 = .ok (.iload_n 2, 1) := by decide +kernel
theorem dX16_gone_42 : decode cX16_gone 42 = .ok (.iconst 0, 1) := by decide +kernel
theorem dX16_gone_43 : decode cX16_gone 43 = .ok (.bastore, 1) := by decide +kernel
theorem dX16_gone_44 : decode cX16_gone 44 = .ok (.iinc 2 1, 3) := by decide +kernel
theorem dX16_gone_47 : decode cX16_gone 47 = .ok (.goto (-21), 3) := by decide +kernel
theorem dX16_gone_50 : decode cX16_gone 50 = .ok (.iconst 0, 1) := by decide +kernel
theorem dX16_gone_51 : decode cX16_gone 51 = .ok (.istore_n 2, 1) := by decide +kernel
theorem dX16_gone_52 : decode cX16_gone 52 = .ok (.iload_n 2, 1) := by decide +kernel
theorem dX16_gone_53 : decode cX16_gone 53 = .ok (.bipush 44, 2) := by decide +kernel
theorem dX16_gone_55 : decode cX16_gone 55 = .ok (.if_icmp .ge 70, 3) := by decide +kernel
theorem dX16_gone_58 : decode cX16_gone 58 = .ok (.aload_n 0, 1) := by decide +kernel
theorem dX16_gone_59 : decode cX16_gone 59 = .ok (.getfield 225, 3) := by decide +kernel
theorem dX16_gone_62 : decode cX16_gone 62 = .ok (.iload_n 2, 1) := by decide +kernel
theorem dX16_gone_63 : decode cX16_gone 63 = .ok (.baload, 1) := by decide +kernel
theorem dX16_gone_64 : decode cX16_gone 64 = .ok (.ifCond .eq 55, 3) := by decide +kernel
theorem dX16_gone_67 : decode cX16_gone 67 = .ok (.aload_n 0, 1) := by decide +kernel
theorem dX16_gone_68 : decode cX16_gone 68 = .ok (.getfield 231, 3) := by decide +kernel
theorem dX16_gone_71 : decode cX16_gone 71 = .ok (.iload_n 2, 1) := by decide +kernel
theorem dX16_gone_72 : decode cX16_gone 72 = .ok (.iaload, 1) := by decide +kernel
theorem dX16_gone_73 : decode cX16_gone 73 = .ok (.iload_n 1, 1) := by decide +kernel
theorem dX16_gone_74 : decode cX16_gone 74 = .ok (.if_icmp .ne 45, 3) := by decide +kernel
theorem dX16_gone_77 : decode cX16_gone 77 = .ok (.aload_n 0, 1) := by decide +kernel
theorem dX16_gone_78 : decode cX16_gone 78 = .ok (.iload_n 2, 1) := by decide +kernel
theorem dX16_gone_79 : decode cX16_gone 79 = .ok (.iconst 2, 1) := by decide +kernel
theorem dX16_gone_80 : decode cX16_gone 80 = .ok (.invokevirtual 659, 3) := by decide +kernel
theorem dX16_gone_83 : decode cX16_gone 83 = .ok (.aload_n 0, 1) := by decide +kernel
theorem dX16_gone_84 : decode cX16_gone 84 = .ok (.getfield 234, 3) := by decide +kernel
theorem dX16_gone_87 : decode cX16_gone 87 = .ok (.iload_n 2, 1) := by decide +kernel
theorem dX16_gone_88 : decode cX16_gone 88 = .ok (.iaload, 1) := by decide +kernel
theorem dX16_gone_89 : decode cX16_gone 89 = .ok (.ifCond .lt 30, 3) := by decide +kernel
theorem dX16_gone_92 : decode cX16_gone 92 = .ok (.aload_n 0, 1) := by decide +kernel
theorem dX16_gone_93 : decode cX16_gone 93 = .ok (.getfield 342, 3) := by decide +kernel
theorem dX16_gone_96 : decode cX16_gone 96 = .ok (.aload_n 0, 1) := by decide +kernel
theorem dX16_gone_97 : decode cX16_gone 97 = .ok (.getfield 234, 3) := by decide +kernel
theorem dX16_gone_100 : decode cX16_gone 100 = .ok (.iload_n 2, 1) := by decide +kernel
theorem dX16_gone_101 : decode cX16_gone 101 = .ok (.iaload, 1) := by decide +kernel
theorem dX16_gone_102 : decode cX16_gone 102 = .ok (.iaload, 1) := by decide +kernel
theorem dX16_gone_103 : decode cX16_gone 103 = .ok (.iconst 2, 1) := by decide +kernel
theorem dX16_gone_104 : decode cX16_gone 104 = .ok (.if_icmp .eq 15, 3) := by decide +kernel
theorem dX16_gone_107 : decode cX16_gone 107 = .ok (.aload_n 0, 1) := by decide +kernel
theorem dX16_gone_108 : decode cX16_gone 108 = .ok (.getfield 354, 3) := by decide +kernel
theorem dX16_gone_111 : decode cX16_gone 111 = .ok (.aload_n 0, 1) := by decide +kernel
theorem dX16_gone_112 : decode cX16_gone 112 = .ok (.getfield 234, 3) := by decide +kernel
theorem dX16_gone_115 : decode cX16_gone 115 = .ok (.iload_n 2, 1) := by decide +kernel
theorem dX16_gone_116 : decode cX16_gone 116 = .ok (.iaload, 1) := by decide +kernel
theorem dX16_gone_117 : decode cX16_gone 117 = .ok (.iconst 0, 1) := by decide +kernel
theorem dX16_gone_118 : decode cX16_gone 118 = .ok (.iastore, 1) := by decide +kernel
theorem dX16_gone_119 : decode cX16_gone 119 = .ok (.iinc 2 1, 3) := by decide +kernel
theorem dX16_gone_122 : decode cX16_gone 122 = .ok (.goto (-70), 3) := by decide +kernel
theorem dX16_gone_125 : decode cX16_gone 125 = .ok (.return_, 1) := by decide +kernel
def j_X16_gone_119 (x1 x2 : Int) (V : VV) : Option ((Int × VV) ⊕ (VV)) :=
  cnt (x2 + 1, V)
def b_X16_gone_52 (x1 x2 : Int) (V : VV) : Option ((Int × VV) ⊕ (VV)) :=
  if w32 x2 < w32 44 then
    (l2 226 44 x2 V).bind fun v1 =>
    if w32 v1 = 0 then
      j_X16_gone_119 x1 x2 V
    else
      (l2 228 44 x2 V).bind fun v2 =>
      if w32 v2 = w32 x1 then
        (f_X16_close x2 2 V).bind fun V1 =>
        (l2 229 44 x2 V1).bind fun v3 =>
        if w32 v3 < 0 then
          j_X16_gone_119 x1 x2 V1
        else
          (l2 229 44 x2 V1).bind fun v4 =>
          (l2 265 256 v4 V1).bind fun v5 =>
          if w32 v5 = w32 2 then
            j_X16_gone_119 x1 x2 V1
          else
            (l2 229 44 x2 V1).bind fun v6 =>
            (s2 269 256 v6 0 V1).bind fun V2 =>
            j_X16_gone_119 x1 x2 V2
      else
        j_X16_gone_119 x1 x2 V
  else
    xit (some V)
def l_X16_gone_52 (x1 x2 : Int) (V : VV) : Option (VV) := lpN (fun s : Int × VV => b_X16_gone_52 x1 s.1 s.2) FU (x2, V)
def j_X16_gone_50 (x1 : Int) (V : VV) : Option (VV) :=
  l_X16_gone_52 x1 0 V
def b_X16_gone_26 (x1 x2 : Int) (V : VV) : Option ((Int × VV) ⊕ (VV)) :=
  if w32 x2 < w32 ((40 * x1) + 40) then
    (s2z 197 1280 x2 0 V).bind fun V1 =>
    cnt (x2 + 1, V1)
  else
    xit (j_X16_gone_50 x1 V)
def l_X16_gone_26 (x1 x2 : Int) (V : VV) : Option (VV) := lpN (fun s : Int × VV => b_X16_gone_26 x1 s.1 s.2) FU (x2, V)
def f_X16_gone (x1 : Int) (V : VV) : Option (VV) :=
  (s2 167 32 x1 2 V).bind fun V1 =>
  (s2 189 32 x1 0 V1).bind fun V2 =>
  (s2 210 32 x1 0 V2).bind fun V3 =>
  l_X16_gone_26 x1 (40 * x1) V3
theorem s_X16_gone_119 {g : GG} {d : Nat} (hD : 1 ≤ d) {x1 x2 : Int} {M : MM} (hM : LM M) {V : VV} {o : AV × MM} {P : ((Int × VV) ⊕ (VV)) → Prop} (c0 : ∀ s : Int × VV, P (.inl s) → Sem g d YX16_gone 52 [(1, 156), (0, x1), (0, s.1)] [] (wr M s.2) o) (r0 : ∀ r : VV, P (.inr r) → o = ((9, 0), (wr M r))) {z : (Int × VV) ⊕ (VV)} (h : j_X16_gone_119 x1 x2 V = some z) (hz : P z) : Sem g d YX16_gone 119 [(1, 156), (0, x1), (0, x2)] [] (wr M V) o := by
  delta j_X16_gone_119 at h
  refine S_iinc dX16_gone_119 rfl rfl rfl ?_
  change Sem g d YX16_gone 122 [(1, 156), (0, x1), (0, x2 + 1)] [] (wr M V) o
  refine S_goto (tgt := 52) dX16_gone_122 rfl ?_
  exact c0 (x2 + 1, V) (some_P (P := fun r => P r) h hz)
theorem s_X16_gone_52 {g : GG} {d : Nat} (hD : 1 ≤ d) {x1 x2 : Int} {M : MM} (hM : LM M) {V : VV} {o : AV × MM} {P : ((Int × VV) ⊕ (VV)) → Prop} (c0 : ∀ s : Int × VV, P (.inl s) → Sem g d YX16_gone 52 [(1, 156), (0, x1), (0, s.1)] [] (wr M s.2) o) (r0 : ∀ r : VV, P (.inr r) → o = ((9, 0), (wr M r))) {z : (Int × VV) ⊕ (VV)} (h : b_X16_gone_52 x1 x2 V = some z) (hz : P z) : Sem g d YX16_gone 52 [(1, 156), (0, x1), (0, x2)] [] (wr M V) o := by
  delta b_X16_gone_52 at h
  refine S_iload_n (i := 2) dX16_gone_52 rfl rfl ?_
  refine S_bipush (z := 44) dX16_gone_53 rfl ?_
  refine P_icmp_ge (tgt := 125) dX16_gone_55 rfl h (fun h => ?_) (fun h => ?_)
  · obtain ⟨z0, h, hz⟩ := xit_some' (P := fun r => P r) h hz
    obtain rfl := r0 _ (some_P (P := fun r => P (.inr r)) h hz)
    exact S_return dX16_gone_125 rfl
  · refine S_aload_n (i := 0) dX16_gone_58 rfl rfl ?_
    refine P2_gfr hM (a := 226) FLX16_225 rfl ⟨rfl, rfl⟩ dX16_gone_59 ?_
    refine S_iload_n (i := 2) dX16_gone_62 rfl rfl ?_
    refine P2_laz hM (a := 226) (n := 44) rfl dX16_gone_63 h (fun v1 h => ?_)
    refine P_if_eq (tgt := 119) dX16_gone_64 rfl h (fun h => ?_) (fun h => ?_)
    · exact s_X16_gone_119 hD hM c0 r0 h hz
    · refine S_aload_n (i := 0) dX16_gone_67 rfl rfl ?_
      refine P2_gfr hM (a := 228) FLX16_231 rfl ⟨rfl, rfl⟩ dX16_gone_68 ?_
      refine S_iload_n (i := 2) dX16_gone_71 rfl rfl ?_
      refine P2_lai hM (a := 228) (n := 44) rfl dX16_gone_72 h (fun v2 h => ?_)
      refine S_iload_n (i := 1) dX16_gone_73 rfl rfl ?_
      refine P_icmp_ne (tgt := 119) dX16_gone_74 rfl h (fun h => ?_) (fun h => ?_)
      · exact s_X16_gone_119 hD hM c0 r0 h hz
      · refine S_aload_n (i := 0) dX16_gone_77 rfl rfl ?_
        refine S_iload_n (i := 2) dX16_gone_78 rfl rfl ?_
        refine S_iconst dX16_gone_79 rfl ?_
        refine P2_invVm hM [(0, x2), (0, 2)] [] CVX16_close MLX16_659 dX16_gone_80 rfl rfl rfl rfl (by omega) h (fun r h => F_X16_close (by omega) hM h) (fun V1 h => ?_)
        refine S_aload_n (i := 0) dX16_gone_83 rfl rfl ?_
        refine P2_gfr hM (a := 229) FLX16_234 rfl ⟨rfl, rfl⟩ dX16_gone_84 ?_
        refine S_iload_n (i := 2) dX16_gone_87 rfl rfl ?_
        refine P2_lai hM (a := 229) (n := 44) rfl dX16_gone_88 h (fun v3 h => ?_)
        refine P_if_lt (tgt := 119) dX16_gone_89 rfl h (fun h => ?_) (fun h => ?_)
        · exact s_X16_gone_119 hD hM c0 r0 h hz
        · refine S_aload_n (i := 0) dX16_gone_92 rfl rfl ?_
          refine P2_gfr hM (a := 265) FLX16_342 rfl ⟨rfl, rfl⟩ dX16_gone_93 ?_
          refine S_aload_n (i := 0) dX16_gone_96 rfl rfl ?_
          refine P2_gfr hM (a := 229) FLX16_234 rfl ⟨rfl, rfl⟩ dX16_gone_97 ?_
          refine S_iload_n (i := 2) dX16_gone_100 rfl rfl ?_
          refine P2_lai hM (a := 229) (n := 44) rfl dX16_gone_101 h (fun v4 h => ?_)
          refine P2_lai hM (a := 265) (n := 256) rfl dX16_gone_102 h (fun v5 h => ?_)
          refine S_iconst dX16_gone_103 rfl ?_
          refine P_icmp_eq (tgt := 119) dX16_gone_104 rfl h (fun h => ?_) (fun h => ?_)
          · exact s_X16_gone_119 hD hM c0 r0 h hz
          · refine S_aload_n (i := 0) dX16_gone_107 rfl rfl ?_
            refine P2_gfr hM (a := 269) FLX16_354 rfl ⟨rfl, rfl⟩ dX16_gone_108 ?_
            refine S_aload_n (i := 0) dX16_gone_111 rfl rfl ?_
            refine P2_gfr hM (a := 229) FLX16_234 rfl ⟨rfl, rfl⟩ dX16_gone_112 ?_
            refine S_iload_n (i := 2) dX16_gone_115 rfl rfl ?_
            refine P2_lai hM (a := 229) (n := 44) rfl dX16_gone_116 h (fun v6 h => ?_)
            refine S_iconst dX16_gone_117 rfl ?_
            refine P2_sai hM (a := 269) (n := 256) rfl dX16_gone_118 h (fun V2 h => ?_)
            exact s_X16_gone_119 hD hM c0 r0 h hz
theorem sl_X16_gone_52 {g : GG} {d : Nat} (hD : 1 ≤ d) {x1 x2 : Int} {M : MM} (hM : LM M) {V : VV} {o : AV × MM} {P : (VV) → Prop} (r0 : ∀ r : VV, P r → o = ((9, 0), (wr M r))) {z : VV} (h : l_X16_gone_52 x1 x2 V = some z) (hz : P z) : Sem g d YX16_gone 52 [(1, 156), (0, x1), (0, x2)] [] (wr M V) o := by
  refine lp_sound (S := fun s : Int × VV => Sem g d YX16_gone 52 [(1, 156), (0, x1), (0, s.1)] [] (wr M s.2) o) (P := P) ?_ FU (x2, V) z h hz
  intro s x hx hP
  exact s_X16_gone_52 hD hM (P := Sum.elim (fun s : Int × VV => Sem g d YX16_gone 52 [(1, 156), (0, x1), (0, s.1)] [] (wr M s.2) o) P) (fun s h => h) (fun s h => r0 s h) hx hP
theorem s_X16_gone_50 {g : GG} {d : Nat} (hD : 1 ≤ d) {x1 : Int} {M : MM} (hM : LM M) {V : VV} {o : AV × MM} {P : (VV) → Prop} (r0 : ∀ r : VV, P r → o = ((9, 0), (wr M r))) {z : VV} (h : j_X16_gone_50 x1 V = some z) (hz : P z) : Sem g d YX16_gone 50 [(1, 156), (0, x1), (9, 0)] [] (wr M V) o := by
  delta j_X16_gone_50 at h
  refine S_iconst dX16_gone_50 rfl ?_
  refine S_istore_n (i := 2) dX16_gone_51 rfl (Nat.le_of_ble_eq_true rfl) rfl rfl ?_
  change Sem g d YX16_gone 52 [(1, 156), (0, x1), (0, 0)] [] (wr M V) o
  exact sl_X16_gone_52 hD hM r0 h hz
theorem s_X16_gone_26 {g : GG} {d : Nat} (hD : 1 ≤ d) {x1 x2 : Int} {M : MM} (hM : LM M) {V : VV} {o : AV × MM} {P : ((Int × VV) ⊕ (VV)) → Prop} (c0 : ∀ s : Int × VV, P (.inl s) → Sem g d YX16_gone 26 [(1, 156), (0, x1), (0, s.1)] [] (wr M s.2) o) (r0 : ∀ r : VV, P (.inr r) → o = ((9, 0), (wr M r))) {z : (Int × VV) ⊕ (VV)} (h : b_X16_gone_26 x1 x2 V = some z) (hz : P z) : Sem g d YX16_gone 26 [(1, 156), (0, x1), (0, x2)] [] (wr M V) o := by
  delta b_X16_gone_26 at h
  refine S_iload_n (i := 2) dX16_gone_26 rfl rfl ?_
  refine S_bipush (z := 40) dX16_gone_27 rfl ?_
  refine S_iload_n (i := 1) dX16_gone_29 rfl rfl ?_
  refine S_imul dX16_gone_30 ?_
  refine S_bipush (z := 40) dX16_gone_31 rfl ?_
  refine S_iadd dX16_gone_33 ?_
  refine P_icmp_ge (tgt := 50) dX16_gone_34 rfl h (fun h => ?_) (fun h => ?_)
  · refine S_weak (ls' := [(1, 156), (0, x1), (9, 0)]) ⟨Or.inr rfl, ⟨Or.inr rfl, ⟨Or.inl rfl, trivial⟩⟩⟩ ?_
    obtain ⟨z0, h, hz⟩ := xit_some' (P := fun r => P r) h hz
    exact s_X16_gone_50 hD hM (P := fun r => P (.inr r)) r0 h hz
  · refine S_aload_n (i := 0) dX16_gone_37 rfl rfl ?_
    refine P2_gfr hM (a := 197) FLX16_137 rfl ⟨rfl, rfl⟩ dX16_gone_38 ?_
    refine S_iload_n (i := 2) dX16_gone_41 rfl rfl ?_
    refine S_iconst dX16_gone_42 rfl ?_
    refine P2_saz hM (a := 197) (n := 1280) rfl dX16_gone_43 h (fun V1 h => ?_)
    refine S_iinc dX16_gone_44 rfl rfl rfl ?_
    change Sem g d YX16_gone 47 [(1, 156), (0, x1), (0, x2 + 1)] [] (wr M V1) o
    refine S_goto (tgt := 26) dX16_gone_47 rfl ?_
    exact c0 (x2 + 1, V1) (some_P (P := fun r => P r) h hz)
theorem sl_X16_gone_26 {g : GG} {d : Nat} (hD : 1 ≤ d) {x1 x2 : Int} {M : MM} (hM : LM M) {V : VV} {o : AV × MM} {P : (VV) → Prop} (r0 : ∀ r : VV, P r → o = ((9, 0), (wr M r))) {z : VV} (h : l_X16_gone_26 x1 x2 V = some z) (hz : P z) : Sem g d YX16_gone 26 [(1, 156), (0, x1), (0, x2)] [] (wr M V) o := by
  refine lp_sound (S := fun s : Int × VV => Sem g d YX16_gone 26 [(1, 156), (0, x1), (0, s.1)] [] (wr M s.2) o) (P := P) ?_ FU (x2, V) z h hz
  intro s x hx hP
  exact s_X16_gone_26 hD hM (P := Sum.elim (fun s : Int × VV => Sem g d YX16_gone 26 [(1, 156), (0, x1), (0, s.1)] [] (wr M s.2) o) P) (fun s h => h) (fun s h => r0 s h) hx hP
theorem s_X16_gone_0 {g : GG} {d : Nat} (hD : 1 ≤ d) {x1 : Int} {M : MM} (hM : LM M) {V : VV} {o : AV × MM} {P : (VV) → Prop} (r0 : ∀ r : VV, P r → o = ((9, 0), (wr M r))) {z : VV} (h : f_X16_gone x1 V = some z) (hz : P z) : Sem g d YX16_gone 0 [(1, 156), (0, x1), (9, 0)] [] (wr M V) o := by
  delta f_X16_gone at h
  refine S_aload_n (i := 0) dX16_gone_0 rfl rfl ?_
  refine P2_gfr hM (a := 167) FLX16_42 rfl ⟨rfl, rfl⟩ dX16_gone_1 ?_
  refine S_iload_n (i := 1) dX16_gone_4 rfl rfl ?_
  refine S_iconst dX16_gone_5 rfl ?_
  refine P2_sai hM (a := 167) (n := 32) rfl dX16_gone_6 h (fun V1 h => ?_)
  refine S_aload_n (i := 0) dX16_gone_7 rfl rfl ?_
  refine P2_gfr hM (a := 189) FLX16_110 rfl ⟨rfl, rfl⟩ dX16_gone_8 ?_
  refine S_iload_n (i := 1) dX16_gone_11 rfl rfl ?_
  refine S_iconst dX16_gone_12 rfl ?_
  refine P2_sai hM (a := 189) (n := 32) rfl dX16_gone_13 h (fun V2 h => ?_)
  refine S_aload_n (i := 0) dX16_gone_14 rfl rfl ?_
  refine P2_gfr hM (a := 210) FLX16_177 rfl ⟨rfl, rfl⟩ dX16_gone_15 ?_
  refine S_iload_n (i := 1) dX16_gone_18 rfl rfl ?_
  refine S_iconst dX16_gone_19 rfl ?_
  refine P2_sai hM (a := 210) (n := 32) rfl dX16_gone_20 h (fun V3 h => ?_)
  refine S_bipush (z := 40) dX16_gone_21 rfl ?_
  refine S_iload_n (i := 1) dX16_gone_23 rfl rfl ?_
  refine S_imul dX16_gone_24 ?_
  refine S_istore_n (i := 2) dX16_gone_25 rfl (Nat.le_of_ble_eq_true rfl) rfl rfl ?_
  change Sem g d YX16_gone 26 [(1, 156), (0, x1), (0, 40 * x1)] [] (wr M V3) o
  exact sl_X16_gone_26 hD hM r0 h hz
theorem F_X16_gone {g : GG} {d : Nat} (hD : 1 ≤ d) {x1 : Int} {M : MM} (hM : LM M) {V : VV} {r : VV} (h : f_X16_gone x1 V = some r) : Sem g d YX16_gone 0 (ini YX16_gone [(1, 156), (0, x1)]) [] (wr M V) ((9, 0), (wr M r)) := by
  change Sem g d YX16_gone 0 [(1, 156), (0, x1), (9, 0)] [] (wr M V) ((9, 0), (wr M r))
  exact s_X16_gone_0 hD hM (P := fun x => x = r) (fun q e => by rw [e]) h rfl
/-! PeerSearchModel.lives(I)Z -/
theorem dX16_lives_0 : decode cX16_lives 0 = .ok (.aload_n 0, 1) := by decide +kernel
theorem dX16_lives_1 : decode cX16_lives 1 = .ok (.iload_n 1, 1) := by decide +kernel
theorem dX16_lives_2 : decode cX16_lives 2 = .ok (.invokevirtual 427, 3) := by decide +kernel
theorem dX16_lives_5 : decode cX16_lives 5 = .ok (.ifCond .eq 17, 3) := by decide +kernel
theorem dX16_lives_8 : decode cX16_lives 8 = .ok (.aload_n 0, 1) := by decide +kernel
theorem dX16_lives_9 : decode cX16_lives 9 = .ok (.getfield 42, 3) := by decide +kernel
theorem dX16_lives_12 : decode cX16_lives 12 = .ok (.iload_n 1, 1) := by decide +kernel
theorem dX16_lives_13 : decode cX16_lives 13 = .ok (.iaload, 1) := by decide +kernel
theorem dX16_lives_14 : decode cX16_lives 14 = .ok (.iconst 1, 1) := by decide +kernel
theorem dX16_lives_15 : decode cX16_lives 15 = .ok (.if_icmp .ne 7, 3) := by decide +kernel
theorem dX16_lives_18 : decode cX16_lives 18 = .ok (.iconst 1, 1) := by decide +kernel
theorem dX16_lives_19 : decode cX16_lives 19 = .ok (.goto 4, 3) := by decide +kernel
theorem dX16_lives_22 : decode cX16_lives 22 = .ok (.iconst 0, 1) := by decide +kernel
theorem dX16_lives_23 : decode cX16_lives 23 = .ok (.ireturn, 1) := by decide +kernel
def j_X16_lives_23 (y0 : Int) (V : VV) : Option (Int) :=
  bz y0 (some y0)
def j_X16_lives_22 (V : VV) : Option (Int) :=
  j_X16_lives_23 0 V
def f_X16_lives (x1 : Int) (V : VV) : Option (Int) :=
  (f_X16_isPeer x1 V).bind fun v1 =>
  if w32 v1 = 0 then
    j_X16_lives_22 V
  else
    (l2 167 32 x1 V).bind fun v2 =>
    if w32 v2 = w32 1 then
      j_X16_lives_23 1 V
    else
      j_X16_lives_22 V
theorem s_X16_lives_23 {g : GG} {d : Nat} (hD : 1 ≤ d) {y0 : Int} {M : MM} (hM : LM M) {V : VV} {o : AV × MM} {P : (Int) → Prop} (r0 : ∀ r : Int, P r → o = ((0, r), (wr M V))) {z : Int} (h : j_X16_lives_23 y0 V = some z) (hz : P z) : Sem g d YX16_lives 23 [(9, 0), (9, 0)] [(0, y0)] (wr M V) o := by
  delta j_X16_lives_23 at h
  obtain ⟨hb, h⟩ := bz_some h
  obtain rfl := r0 _ (some_P (P := fun r => P r) h hz)
  exact P_ret dX16_lives_23 rfl (Or.inr ⟨rfl, hb⟩)
theorem s_X16_lives_22 {g : GG} {d : Nat} (hD : 1 ≤ d) {M : MM} (hM : LM M) {V : VV} {o : AV × MM} {P : (Int) → Prop} (r0 : ∀ r : Int, P r → o = ((0, r), (wr M V))) {z : Int} (h : j_X16_lives_22 V = some z) (hz : P z) : Sem g d YX16_lives 22 [(9, 0), (9, 0)] [] (wr M V) o := by
  delta j_X16_lives_22 at h
  refine S_iconst dX16_lives_22 rfl ?_
  exact s_X16_lives_23 hD hM r0 h hz
theorem s_X16_lives_0 {g : GG} {d : Nat} (hD : 1 ≤ d) {x1 : Int} {M : MM} (hM : LM M) {V : VV} {o : AV × MM} {P : (Int) → Prop} (r0 : ∀ r : Int, P r → o = ((0, r), (wr M V))) {z : Int} (h : f_X16_lives x1 V = some z) (hz : P z) : Sem g d YX16_lives 0 [(1, 156), (0, x1)] [] (wr M V) o := by
  delta f_X16_lives at h
  refine S_aload_n (i := 0) dX16_lives_0 rfl rfl ?_
  refine S_iload_n (i := 1) dX16_lives_1 rfl rfl ?_
  refine P2_invVp hM 0 [(0, x1)] [] CVX16_isPeer MLX16_427 dX16_lives_2 rfl rfl rfl rfl rfl (by omega) h (fun r h => F_X16_isPeer (by omega) hM h) (fun v1 h => ?_)
  refine P_if_eq (tgt := 22) dX16_lives_5 rfl h (fun h => ?_) (fun h => ?_)
  · refine S_weak (ls' := [(9, 0), (9, 0)]) ⟨Or.inl rfl, ⟨Or.inl rfl, trivial⟩⟩ ?_
    exact s_X16_lives_22 hD hM r0 h hz
  · refine S_aload_n (i := 0) dX16_lives_8 rfl rfl ?_
    refine P2_gfr hM (a := 167) FLX16_42 rfl ⟨rfl, rfl⟩ dX16_lives_9 ?_
    refine S_iload_n (i := 1) dX16_lives_12 rfl rfl ?_
    refine P2_lai hM (a := 167) (n := 32) rfl dX16_lives_13 h (fun v2 h => ?_)
    refine S_iconst dX16_lives_14 rfl ?_
    refine P_icmp_ne (tgt := 22) dX16_lives_15 rfl h (fun h => ?_) (fun h => ?_)
    · refine S_weak (ls' := [(9, 0), (9, 0)]) ⟨Or.inl rfl, ⟨Or.inl rfl, trivial⟩⟩ ?_
      exact s_X16_lives_22 hD hM r0 h hz
    · refine S_iconst dX16_lives_18 rfl ?_
      refine S_goto (tgt := 23) dX16_lives_19 rfl ?_
      refine S_weak (ls' := [(9, 0), (9, 0)]) ⟨Or.inl rfl, ⟨Or.inl rfl, trivial⟩⟩ ?_
      exact s_X16_lives_23 hD hM r0 h hz
theorem F_X16_lives {g : GG} {d : Nat} (hD : 1 ≤ d) {x1 : Int} {M : MM} (hM : LM M) {V : VV} {r : Int} (h : f_X16_lives x1 V = some r) : Sem g d YX16_lives 0 (ini YX16_lives [(1, 156), (0, x1)]) [] (wr M V) ((0, r), (wr M V)) := by
  change Sem g d YX16_lives 0 [(1, 156), (0, x1)] [] (wr M V) ((0, r), (wr M V))
  exact s_X16_lives_0 hD hM (P := fun x => x = r) (fun q e => by rw [e]) h rfl
/-! PeerSearchModel.crash(I)Z -/
theorem dX16_crash_0 : decode cX16_crash 0 = .ok (.aload_n 0, 1) := by decide +kernel
theorem dX16_crash_1 : decode cX16_crash 1 = .ok (.iload_n 1, 1) := by decide +kernel
theorem dX16_crash_2 : decode cX16_crash 2 = .ok (.invokevirtual 729, 3) := by decide +kernel
theorem dX16_crash_5 : decode cX16_crash 5 = .ok (.ifCond .ne 5, 3) := by decide +kernel
theorem dX16_crash_8 : decode cX16_crash 8 = .ok (.iconst 0, 1) := by decide +kernel
theorem dX16_crash_9 : decode cX16_crash 9 = .ok (.ireturn, 1) := by decide +kernel
theorem dX16_crash_10 : decode cX16_crash 10 = .ok (.aload_n 0, 1) := by decide +kernel
theorem dX16_crash_11 : decode cX16_crash 11 = .ok (.iload_n 1, 1) := by decide +kernel
theorem dX16_crash_12 : decode cX16_crash 12 = .ok (.invokevirtual 732, 3) := by decide +kernel
theorem dX16_crash_15 : decode cX16_crash 15 = .ok (.iconst 1, 1) := by decide +kernel
theorem dX16_crash_16 : decode cX16_crash 16 = .ok (.ireturn, 1) := by decide +kernel
def f_X16_crash (x1 : Int) (V : VV) : Option (Int × VV) :=
  (f_X16_lives x1 V).bind fun v1 =>
  if w32 v1 = 0 then
    some (0, V)
  else
    (f_X16_gone x1 V).bind fun V1 =>
    some (1, V1)
theorem s_X16_crash_0 {g : GG} {d : Nat} (hD : 2 ≤ d) {x1 : Int} {M : MM} (hM : LM M) {V : VV} {o : AV × MM} {P : (Int × VV) → Prop} (r0 : ∀ r : Int × VV, P r → o = ((0, r.1), (wr M r.2))) {z : Int × VV} (h : f_X16_crash x1 V = some z) (hz : P z) : Sem g d YX16_crash 0 [(1, 156), (0, x1)] [] (wr M V) o := by
  delta f_X16_crash at h
  refine S_aload_n (i := 0) dX16_crash_0 rfl rfl ?_
  refine S_iload_n (i := 1) dX16_crash_1 rfl rfl ?_
  refine P2_invVp hM 0 [(0, x1)] [] CVX16_lives MLX16_729 dX16_crash_2 rfl rfl rfl rfl rfl (by omega) h (fun r h => F_X16_lives (by omega) hM h) (fun v1 h => ?_)
  refine P_if_ne (tgt := 10) dX16_crash_5 rfl h (fun h => ?_) (fun h => ?_)
  · refine S_aload_n (i := 0) dX16_crash_10 rfl rfl ?_
    refine S_iload_n (i := 1) dX16_crash_11 rfl rfl ?_
    refine P2_invVm hM [(0, x1)] [] CVX16_gone MLX16_732 dX16_crash_12 rfl rfl rfl rfl (by omega) h (fun r h => F_X16_gone (by omega) hM h) (fun V1 h => ?_)
    refine S_iconst dX16_crash_15 rfl ?_
    obtain rfl := r0 _ (some_P (P := fun r => P r) h hz)
    exact P_ret dX16_crash_16 rfl (Or.inr ⟨rfl, Or.inr rfl⟩)
  · refine S_iconst dX16_crash_8 rfl ?_
    obtain rfl := r0 _ (some_P (P := fun r => P r) h hz)
    exact P_ret dX16_crash_9 rfl (Or.inr ⟨rfl, Or.inl rfl⟩)
theorem F_X16_crash {g : GG} {d : Nat} (hD : 2 ≤ d) {x1 : Int} {M : MM} (hM : LM M) {V : VV} {r : Int × VV} (h : f_X16_crash x1 V = some r) : Sem g d YX16_crash 0 (ini YX16_crash [(1, 156), (0, x1)]) [] (wr M V) ((0, r.1), (wr M r.2)) := by
  change Sem g d YX16_crash 0 [(1, 156), (0, x1)] [] (wr M V) ((0, r.1), (wr M r.2))
  exact s_X16_crash_0 hD hM (P := fun x => x = r) (fun q e => by rw [e]) h rfl
/-! PeerSearchModel.turned(II)I -/
theorem dX16_turned_0 : decode cX16_turned 0 = .ok (.iload_n 0, 1) := by decide +kernel
theorem dX16_turned_1 : decode cX16_turned 1 = .ok (.iload_n 1, 1) := by decide +kernel
theorem dX16_turned_2 : decode cX16_turned 2 = .ok (.ishl, 1) := by decide +kernel
theorem dX16_turned_3 : decode cX16_turned 3 = .ok (.iload_n 0, 1) := by decide +kernel
theorem dX16_turned_4 : decode cX16_turned 4 = .ok (.bipush 32, 2) := by decide +kernel
theorem dX16_turned_6 : decode cX16_turned 6 = .ok (.iload_n 1, 1) := by decide +kernel
theorem dX16_turned_7 : decode cX16_turned 7 = .ok (.isub, 1) := by decide +kernel
theorem dX16_turned_8 : decode cX16_turned 8 = .ok (.iushr, 1) := by decide +kernel
theorem dX16_turned_9 : decode cX16_turned 9 = .ok (.ior, 1) := by decide +kernel
theorem dX16_turned_10 : decode cX16_turned 10 = .ok (.ireturn, 1) := by decide +kernel
def f_X16_turned (x0 x1 : Int) : Option (Int) :=
  some (bor (bshl x0 x1) (bush x0 (32 - x1)))
theorem s_X16_turned_0 {g : GG} {d : Nat} (hD : 0 ≤ d) {x0 x1 : Int} {M : MM} (hM : LM M) {V : VV} {o : AV × MM} {P : (Int) → Prop} (r0 : ∀ r : Int, P r → o = ((0, r), (wr M V))) {z : Int} (h : f_X16_turned x0 x1 = some z) (hz : P z) : Sem g d YX16_turned 0 [(0, x0), (0, x1)] [] (wr M V) o := by
  delta f_X16_turned at h
  refine S_iload_n (i := 0) dX16_turned_0 rfl rfl ?_
  refine S_iload_n (i := 1) dX16_turned_1 rfl rfl ?_
  refine S_ishl dX16_turned_2 ?_
  refine S_iload_n (i := 0) dX16_turned_3 rfl rfl ?_
  refine S_bipush (z := 32) dX16_turned_4 rfl ?_
  refine S_iload_n (i := 1) dX16_turned_6 rfl rfl ?_
  refine S_isub dX16_turned_7 ?_
  refine S_iushr dX16_turned_8 ?_
  refine S_ior dX16_turned_9 ?_
  obtain rfl := r0 _ (some_P (P := fun r => P r) h hz)
  exact P_ret dX16_turned_10 rfl (Or.inl rfl)
theorem F_X16_turned {g : GG} {d : Nat} (hD : 0 ≤ d) {x0 x1 : Int} {M : MM} (hM : LM M) {V : VV} {r : Int} (h : f_X16_turned x0 x1 = some r) : Sem g d YX16_turned 0 (ini YX16_turned [(0, x0), (0, x1)]) [] (wr M V) ((0, r), (wr M V)) := by
  change Sem g d YX16_turned 0 [(0, x0), (0, x1)] [] (wr M V) ((0, r), (wr M V))
  exact s_X16_turned_0 hD hM (P := fun x => x = r) (fun q e => by rw [e]) h rfl
/-! PeerSearchModel.block(I)V -/
theorem dX16_block_0 : decode cX16_block 0 = .ok (.iconst 0, 1) := by decide +kernel
theorem dX16_block_1 : decode cX16_block 1 = .ok (.istore_n 2, 1) := by decide +kernel
theorem dX16_block_2 : decode cX16_block 2 = .ok (.iload_n 2, 1) := by decide +kernel
theorem dX16_block_3 : decode cX16_block 3 = .ok (.bipush 16, 2) := by decide +kernel
theorem dX16_block_5 : decode cX16_block 5 = .ok (.if_icmp .ge 63, 3) := by decide +kernel
theorem dX16_block_8 : decode cX16_block 8 = .ok (.iload_n 1, 1) := by decide +kernel
theorem dX16_block_9 : decode cX16_block 9 = .ok (.iconst 4, 1) := by decide +kernel
theorem dX16_block_10 : decode cX16_block 10 = .ok (.iload_n 2, 1) := by decide +kernel
theorem dX16_block_11 : decode cX16_block 11 = .ok (.imul, 1) := by decide +kernel
theorem dX16_block_12 : decode cX16_block 12 = .ok (.iadd, 1) := by decide +kernel
theorem dX16_block_13 : decode cX16_block 13 = .ok (.istore_n 3, 1) := by decide +kernel
theorem dX16_block_14 : decode cX16_block 14 = .ok (.aload_n 0, 1) := by decide +kernel
theorem dX16_block_15 : decode cX16_block 15 = .ok (.getfield 19, 3) := by decide +kernel
theorem dX16_block_18 : decode cX16_block 18 = .ok (.iload_n 2, 1) := by decide +kernel
theorem dX16_block_19 : decode cX16_block 19 = .ok (.aload_n 0, 1) := by decide +kernel
theorem dX16_block_20 : decode cX16_block 20 = .ok (.getfield 16, 3) := by decide +kernel
theorem dX16_block_23 : decode cX16_block 23 = .ok (.iload_n 3, 1) := by decide +kernel
theorem dX16_block_24 : decode cX16_block 24 = .ok (.iaload, 1) := by decide +kernel
theorem dX16_block_25 : decode cX16_block 25 = .ok (.bipush 24, 2) := by decide +kernel
theorem dX16_block_27 : decode cX16_block 27 = .ok (.ishl, 1) := by decide +kernel
theorem dX16_block_28 : decode cX16_block 28 = .ok (.aload_n 0, 1) := by decide +kernel
theorem dX16_block_29 : decode cX16_block 29 = .ok (.getfield 16, 3) := by decide +kernel
theorem dX16_block_32 : decode cX16_block 32 = .ok (.iload_n 3, 1) := by decide +kernel
theorem dX16_block_33 : decode cX16_block 33 = .ok (.iconst 1, 1) := by decide +kernel
theorem dX16_block_34 : decode cX16_block 34 = .ok (.iadd, 1) := by decide +kernel
theorem dX16_block_35 : decode cX16_block 35 = .ok (.iaload, 1) := by decide +kernel
theorem dX16_block_36 : decode cX16_block 36 = .ok (.bipush 16, 2) := by decide +kernel
theorem dX16_block_38 : decode cX16_block 38 = .ok (.ishl, 1) := by decide +kernel
theorem dX16_block_39 : decode cX16_block 39 = .ok (.ior, 1) := by decide +kernel
theorem dX16_block_40 : decode cX16_block 40 = .ok (.aload_n 0, 1) := by decide +kernel
theorem dX16_block_41 : decode cX16_block 41 = .ok (.getfield 16, 3) := by decide +kernel
theorem dX16_block_44 : decode cX16_block 44 = .ok (.iload_n 3, 1) := by decide +kernel
theorem dX16_block_45 : decode cX16_block 45 = .ok (.iconst 2, 1) := by decide +kernel
theorem dX16_block_46 : decode cX16_block 46 = .ok (.iadd, 1) := by decide +kernel
theorem dX16_block_47 : decode cX16_block 47 = .ok (.iaload, 1) := by decide +kernel
theorem dX16_block_48 : decode cX16_block 48 = .ok (.bipush 8, 2) := by decide +kernel
theorem dX16_block_50 : decode cX16_block 50 = .ok (.ishl, 1) := by decide +kernel
theorem dX16_block_51 : decode cX16_block 51 = .ok (.ior, 1) := by decide +kernel
theorem dX16_block_52 : decode cX16_block 52 = .ok (.aload_n 0, 1) := by decide +kernel
theorem dX16_block_53 : decode cX16_block 53 = .ok (.getfield 16, 3) := by decide +kernel
theorem dX16_block_56 : decode cX16_block 56 = .ok (.iload_n 3, 1) := by decide +kernel
theorem dX16_block_57 : decode cX16_block 57 = .ok (.iconst 3, 1) := by decide +kernel
theorem dX16_block_58 : decode cX16_block 58 = .ok (.iadd, 1) := by decide +kernel
theorem dX16_block_59 : decode cX16_block 59 = .ok (.iaload, 1) := by decide +kernel
theorem dX16_block_60 : decode cX16_block 60 = .ok (.ior, 1) := by decide +kernel
theorem dX16_block_61 : decode cX16_block 61 = .ok (.iastore, 1) := by decide +kernel
theorem dX16_block_62 : decode cX16_block 62 = .ok (.iinc 2 1, 3) := by decide +kernel
theorem dX16_block_65 : decode cX16_block 65 = .ok (.goto (-63), 3) := by decide +kernel
theorem dX16_block_68 : decode cX16_block 68 = .ok (.bipush 16, 2) := by decide +kernel
theorem dX16_block_70 : decode cX16_block 70 = .ok (.istore_n 2, 1) := by decide +kernel
theorem dX16_block_71 : decode cX16_block 71 = .ok (.iload_n 2, 1) := by decide +kernel
theorem dX16_block_72 : decode cX16_block 72 = .ok (.bipush 80, 2) := by decide +kernel
theorem dX16_block_74 : decode cX16_block 74 = .ok (.if_icmp .ge 57, 3) := by decide +kernel
theorem dX16_block_77 : decode cX16_block 77 = .ok (.aload_n 0, 1) := by decide +kernel
theorem dX16_block_78 : decode cX16_block 78 = .ok (.getfield 19, 3) := by decide +kernel
theorem dX16_block_81 : decode cX16_block 81 = .ok (.iload_n 2, 1) := by decide +kernel
theorem dX16_block_82 : decode cX16_block 82 = .ok (.aload_n 0, 1) := by decide +kernel
theorem dX16_block_83 : decode cX16_block 83 = .ok (.getfield 19, 3) := by decide +kernel
theorem dX16_block_86 : decode cX16_block 86 = .ok (.iload_n 2, 1) := by decide +kernel
theorem dX16_block_87 : decode cX16_block 87 = .ok (.iconst 3, 1) := by decide +kernel
theorem dX16_block_88 : decode cX16_block 88 = .ok (.isub, 1) := by decide +kernel
theorem dX16_block_89 : decode cX16_block 89 = .ok (.iaload, 1) := by decide +kernel
theorem dX16_block_90 : decode cX16_block 90 = .ok (.aload_n 0, 1) := by decide +kernel
theorem dX16_block_91 : decode cX16_block 91 = .ok (.getfield 19, 3) := by decide +kernel
theorem dX16_block_94 : decode cX16_block 94 = .ok (.iload_n 2, 1) := by decide +kernel
theorem dX16_block_95 : decode cX16_block 95 = .ok (.bipush 8, 2) := by decide +kernel
theorem dX16_block_97 : decode cX16_block 97 = .ok (.isub, 1) := by decide +kernel
theorem dX16_block_98 : decode cX16_block 98 = .ok (.iaload, 1) := by decide +kernel
theorem dX16_block_99 : decode cX16_block 99 = .ok (.ixor, 1) := by decide +kernel
theorem dX16_block_100 : decode cX16_block 100 = .ok (.aload_n 0, 1) := by decide +kernel
theorem dX16_block_101 : decode cX16_block 101 = .ok (.getfield 19, 3) := by decide +kernel
theorem dX16_block_104 : decode cX16_block 104 = .ok (.iload_n 2, 1) := by decide +kernel
theorem dX16_block_105 : decode cX16_block 105 = .ok (.bipush 14, 2) := by decide +kernel
theorem dX16_block_107 : decode cX16_block 107 = .ok (.isub, 1) := by decide +kernel
theorem dX16_block_108 : decode cX16_block 108 = .ok (.iaload, 1) := by decide +kernel
theorem dX16_block_109 : decode cX16_block 109 = .ok (.ixor, 1) := by decide +kernel
theorem dX16_block_110 : decode cX16_block 110 = .ok (.aload_n 0, 1) := by decide +kernel
theorem dX16_block_111 : decode cX16_block 111 = .ok (.getfield 19, 3) := by decide +kernel
theorem dX16_block_114 : decode cX16_block 114 = .ok (.iload_n 2, 1) := by decide +kernel
theorem dX16_block_115 : decode cX16_block 115 = .ok (.bipush 16, 2) := by decide +kernel
theorem dX16_block_117 : decode cX16_block 117 = .ok (.isub, 1) := by decide +kernel
theorem dX16_block_118 : decode cX16_block 118 = .ok (.iaload, 1) := by decide +kernel
theorem dX16_block_119 : decode cX16_block 119 = .ok (.ixor, 1) := by decide +kernel
theorem dX16_block_120 : decode cX16_block 120 = .ok (.iconst 1, 1) := by decide +kernel
theorem dX16_block_121 : decode cX16_block 121 = .ok (.invokestatic 399, 3) := by decide +kernel
theorem dX16_block_124 : decode cX16_block 124 = .ok (.iastore, 1) := by decide +kernel
theorem dX16_block_125 : decode cX16_block 125 = .ok (.iinc 2 1, 3) := by decide +kernel
theorem dX16_block_128 : decode cX16_block 128 = .ok (.goto (-57), 3) := by decide +kernel
theorem dX16_block_131 : decode cX16_block 131 = .ok (.aload_n 0, 1) := by decide +kernel
theorem dX16_block_132 : decode cX16_block 132 = .ok (.getfield 22, 3) := by decide +kernel
theorem dX16_block_135 : decode cX16_block 135 = .ok (.iconst 0, 1) := by decide +kernel
theorem dX16_block_136 : decode cX16_block 136 = .ok (.iaload, 1) := by decide +kernel
theorem dX16_block_137 : decode cX16_block 137 = .ok (.istore_n 2, 1) := by decide +kernel
theorem dX16_block_138 : decode cX16_block 138 = .ok (.aload_n 0, 1) := by decide +kernel
theorem dX16_block_139 : decode cX16_block 139 = .ok (.getfield 22, 3) := by decide +kernel
theorem dX16_block_142 : decode cX16_block 142 = .ok (.iconst 1, 1) := by decide +kernel
theorem dX16_block_143 : decode cX16_block 143 = .ok (.iaload, 1) := by decide +kernel
theorem dX16_block_144 : decode cX16_block 144 = .ok (.istore_n 3, 1) := by decide +kernel
theorem dX16_block_145 : decode cX16_block 145 = .ok (.aload_n 0, 1) := by decide +kernel
theorem dX16_block_146 : decode cX16_block 146 = .ok (.getfield 22, 3) := by decide +kernel
theorem dX16_block_149 : decode cX16_block 149 = .ok (.iconst 2, 1) := by decide +kernel
theorem dX16_block_150 : decode cX16_block 150 = .ok (.iaload, 1) := by decide +kernel
theorem dX16_block_151 : decode cX16_block 151 = .ok (.istore 4, 2) := by decide +kernel
theorem dX16_block_153 : decode cX16_block 153 = .ok (.aload_n 0, 1) := by decide +kernel
theorem dX16_block_154 : decode cX16_block 154 = .ok (.getfield 22, 3) := by decide +kernel
theorem dX16_block_157 : decode cX16_block 157 = .ok (.iconst 3, 1) := by decide +kernel
theorem dX16_block_158 : decode cX16_block 158 = .ok (.iaload, 1) := by decide +kernel
theorem dX16_block_159 : decode cX16_block 159 = .ok (.istore 5, 2) := by decide +kernel
theorem dX16_block_161 : decode cX16_block 161 = .ok (.aload_n 0, 1) := by decide +kernel
theorem dX16_block_162 : decode cX16_block 162 = .ok (.getfield 22, 3) := by decide +kernel
theorem dX16_block_165 : decode cX16_block 165 = .ok (.iconst 4, 1) := by decide +kernel
theorem dX16_block_166 : decode cX16_block 166 = .ok (.iaload, 1) := by decide +kernel
theorem dX16_block_167 : decode cX16_block 167 = .ok (.istore 6, 2) := by decide +kernel
theorem dX16_block_169 : decode cX16_block 169 = .ok (.iconst 0, 1) := by decide +kernel
theorem dX16_block_170 : decode cX16_block 170 = .ok (.istore 7, 2) := by decide +kernel
theorem dX16_block_172 : decode cX16_block 172 = .ok (.iload 7, 2) := by decide +kernel
theorem dX16_block_174 : decode cX16_block 174 = .ok (.bipush 80, 2) := by decide +kernel
theorem dX16_block_176 : decode cX16_block 176 = .ok (.if_icmp .ge 160, 3) := by decide +kernel
theorem dX16_block_179 : decode cX16_block 179 = .ok (.iload 7, 2) := by decide +kernel
theorem dX16_block_181 : decode cX16_block 181 = .ok (.bipush 20, 2) := by decide +kernel
theorem dX16_block_183 : decode cX16_block 183 = .ok (.if_icmp .ge 17, 3) := by decide +kernel
theorem dX16_block_186 : decode cX16_block 186 = .ok (.iload_n 3, 1) := by decide +kernel
theorem dX16_block_187 : decode cX16_block 187 = .ok (.iload 4, 2) := by decide +kernel
theorem dX16_block_189 : decode cX16_block 189 = .ok (.iand, 1) := by decide +kernel
theorem dX16_block_190 : decode cX16_block 190 = .ok (.iload_n 3, 1) := by decide +kernel
theorem dX16_block_191 : decode cX16_block 191 = .ok (.iconst (-1), 1) := by decide +kernel
theorem dX16_block_192 : decode cX16_block 192 = .ok (.ixor, 1) := by decide +kernel
theorem dX16_block_193 : decode cX16_block 193 = .ok (.iload 5, 2) := by decide +kernel
theorem dX16_block_195 : decode cX16_block 195 = .ok (.iand, 1) := by decide +kernel
theorem dX16_block_196 : decode cX16_block 196 = .ok (.ior, 1) := by decide +kernel
theorem dX16_block_197 : decode cX16_block 197 = .ok (.goto 42, 3) := by decide +kernel
theorem dX16_block_200 : decode cX16_block 200 = .ok (.iload 7, 2) := by decide +kernel
theorem dX16_block_202 : decode cX16_block 202 = .ok (.bipush 40, 2) := by decide +kernel
theorem dX16_block_204 : decode cX16_block 204 = .ok (.if_icmp .lt 10, 3) := by decide +kernel
theorem dX16_block_207 : decode cX16_block 207 = .ok (.iload 7, 2) := by decide +kernel
theorem dX16_block_209 : decode cX16_block 209 = .ok (.bipush 59, 2) := by decide +kernel
theorem dX16_block_211 : decode cX16_block 211 = .ok (.if_icmp .le 13, 3) := by decide +kernel
theorem dX16_block_214 : decode cX16_block 214 = .ok (.iload_n 3, 1) := by decide +kernel
theorem dX16_block_215 : decode cX16_block 215 = .ok (.iload 4, 2) := by decide +kernel
theorem dX16_block_217 : decode cX16_block 217 = .ok (.ixor, 1) := by decide +kernel
theorem dX16_block_218 : decode cX16_block 218 = .ok (.iload 5, 2) := by decide +kernel
theorem dX16_block_220 : decode cX16_block 220 = .ok (.ixor, 1) := by decide +kernel
theorem dX16_block_221 : decode cX16_block 221 = .ok (.goto 18, 3) := by decide +kernel
theorem dX16_block_224 : decode cX16_block 224 = .ok (.iload_n 3, 1) := by decide +kernel
theorem dX16_block_225 : decode cX16_block 225 = .ok (.iload 4, 2) := by decide +kernel
theorem dX16_block_227 : decode cX16_block 227 = .ok (.iand, 1) := by decide +kernel
theorem dX16_block_228 : decode cX16_block 228 = .ok (.iload_n 3, 1) := by decide +kernel
theorem dX16_block_229 : decode cX16_block 229 = .ok (.iload 5, 2) := by decide +kernel
theorem dX16_block_231 : decode cX16_block 231 = .ok (.iand, 1) := by decide +kernel
theorem dX16_block_232 : decode cX16_block 232 = .ok (.ior, 1) := by decide +kernel
theorem dX16_block_233 : decode cX16_block 233 = .ok (.iload 4, 2) := by decide +kernel
theorem dX16_block_235 : decode cX16_block 235 = .ok (.iload 5, 2) := by decide +kernel
theorem dX16_block_237 : decode cX16_block 237 = .ok (.iand, 1) := by decide +kernel
theorem dX16_block_238 : decode cX16_block 238 = .ok (.ior, 1) := by decide +kernel
theorem dX16_block_239 : decode cX16_block 239 = .ok (.istore 8, 2) := by decide +kernel
theorem dX16_block_241 : decode cX16_block 241 = .ok (.iload 7, 2) := by decide +kernel
theorem dX16_block_243 : decode cX16_block 243 = .ok (.bipush 20, 2) := by decide +kernel
theorem dX16_block_245 : decode cX16_block 245 = .ok (.if_icmp .ge 9, 3) := by decide +kernel
theorem dX16_block_248 : decode cX16_block 248 = .ok (.ldc_w 403, 3) := by decide +kernel
theorem dX16_block_251 : decode cX16_block 251 = .ok (.goto 32, 3) := by decide +kernel
theorem dX16_block_254 : decode cX16_block 254 = .ok (.iload 7, 2) := by decide +kernel
theorem dX16_block_256 : decode cX16_block 256 = .ok (.bipush 40, 2) := by decide +kernel
theorem dX16_block_258 : decode cX16_block 258 = .ok (.if_icmp .ge 9, 3) := by decide +kernel
theorem dX16_block_261 : decode cX16_block 261 = .ok (.ldc_w 404, 3) := by decide +kernel
theorem dX16_block_264 : decode cX16_block 264 = .ok (.goto 19, 3) := by decide +kernel
theorem dX16_block_267 : decode cX16_block 267 = .ok (.iload 7, 2) := by decide +kernel
theorem dX16_block_269 : decode cX16_block 269 = .ok (.bipush 60, 2) := by decide +kernel
theorem dX16_block_271 : decode cX16_block 271 = .ok (.if_icmp .ge 9, 3) := by decide +kernel
theorem dX16_block_274 : decode cX16_block 274 = .ok (.ldc_w 405, 3) := by decide +kernel
theorem dX16_block_277 : decode cX16_block 277 = .ok (.goto 6, 3) := by decide +kernel
theorem dX16_block_280 : decode cX16_block 280 = .ok (.ldc_w 406, 3) := by decide +kernel
theorem dX16_block_283 : decode cX16_block 283 = .ok (.istore 9, 2) := by decide +kernel
theorem dX16_block_285 : decode cX16_block 285 = .ok (.iload_n 2, 1) := by decide +kernel
theorem dX16_block_286 : decode cX16_block 286 = .ok (.iconst 5, 1) := by decide +kernel
theorem dX16_block_287 : decode cX16_block 287 = .ok (.invokestatic 399, 3) := by decide +kernel
theorem dX16_block_290 : decode cX16_block 290 = .ok (.iload 8, 2) := by decide +kernel
theorem dX16_block_292 : decode cX16_block 292 = .ok (.iadd, 1) := by decide +kernel
theorem dX16_block_293 : decode cX16_block 293 = .ok (.iload 6, 2) := by decide +kernel
theorem dX16_block_295 : decode cX16_block 295 = .ok (.iadd, 1) := by decide +kernel
theorem dX16_block_296 : decode cX16_block 296 = .ok (.iload 9, 2) := by decide +kernel
theorem dX16_block_298 : decode cX16_block 298 = .ok (.iadd, 1) := by decide +kernel
theorem dX16_block_299 : decode cX16_block 299 = .ok (.aload_n 0, 1) := by decide +kernel
theorem dX16_block_300 : decode cX16_block 300 = .ok (.getfield 19, 3) := by decide +kernel
theorem dX16_block_303 : decode cX16_block 303 = .ok (.iload 7, 2) := by decide +kernel
theorem dX16_block_305 : decode cX16_block 305 = .ok (.iaload, 1) := by decide +kernel
theorem dX16_block_306 : decode cX16_block 306 = .ok (.iadd, 1) := by decide +kernel
theorem dX16_block_307 : decode cX16_block 307 = .ok (.istore 10, 2) := by decide +kernel
theorem dX16_block_309 : decode cX16_block 309 = .ok (.iload 5, 2) := by decide +kernel
theorem dX16_block_311 : decode cX16_block 311 = .ok (.istore 6, 2) := by decide +kernel
theorem dX16_block_313 : decode cX16_block 313 = .ok (.iload 4, 2) := by decide +kernel
theorem dX16_block_315 : decode cX16_block 315 = .ok (.istore 5, 2) := by decide +kernel
theorem dX16_block_317 : decode cX16_block 317 = .ok (.iload_n 3, 1) := by decide +kernel
theorem dX16_block_318 : decode cX16_block 318 = .ok (.bipush 30, 2) := by decide +kernel
theorem dX16_block_320 : decode cX16_block 320 = .ok (.invokestatic 399, 3) := by decide +kernel
theorem dX16_block_323 : decode cX16_block 323 = .ok (.istore 4, 2) := by decide +kernel
theorem dX16_block_325 : decode cX16_block 325 = .ok (.iload_n 2, 1) := by decide +kernel
theorem dX16_block_326 : decode cX16_block 326 = .ok (.istore_n 3, 1) := by decide +kernel
theorem dX16_block_327 : decode cX16_block 327 = .ok (.iload 10, 2) := by decide +kernel
theorem dX16_block_329 : decode cX16_block 329 = .ok (.istore_n 2, 1) := by decide +kernel
theorem dX16_block_330 : decode cX16_block 330 = .ok (.iinc 7 1, 3) := by decide +kernel
theorem dX16_block_333 : decode cX16_block 333 = .ok (.goto (-161), 3) := by decide +kernel
theorem dX16_block_336 : decode cX16_block 336 = .ok (.aload_n 0, 1) := by decide +kernel
theorem dX16_block_337 : decode cX16_block 337 = .ok (.getfield 22, 3) := by decide +kernel
theorem dX16_block_340 : decode cX16_block 340 = .ok (.iconst 0, 1) := by decide +kernel
theorem dX16_block_341 : decode cX16_block 341 = .ok (.dup2, 1) := by decide +kernel
theorem dX16_block_342 : decode cX16_block 342 = .ok (.iaload, 1) := by decide +kernel
theorem dX16_block_343 : decode cX16_block 343 = .ok (.iload_n 2, 1) := by decide +kernel
theorem dX16_block_344 : decode cX16_block 344 = .ok (.iadd, 1) := by decide +kernel
theorem dX16_block_345 : decode cX16_block 345 = .ok (.iastore, 1) := by decide +kernel
theorem dX16_block_346 : decode cX16_block 346 = .ok (.aload_n 0, 1) := by decide +kernel
theorem dX16_block_347 : decode cX16_block 347 = .ok (.getfield 22, 3) := by decide +kernel
theorem dX16_block_350 : decode cX16_block 350 = .ok (.iconst 1, 1) := by decide +kernel
theorem dX16_block_351 : decode cX16_block 351 = .ok (.dup2, 1) := by decide +kernel
theorem dX16_block_352 : decode cX16_block 352 = .ok (.iaload, 1) := by decide +kernel
theorem dX16_block_353 : decode cX16_block 353 = .ok (.iload_n 3, 1) := by decide +kernel
theorem dX16_block_354 : decode cX16_block 354 = .ok (.iadd, 1) := by decide +kernel
theorem dX16_block_355 : decode cX16_block 355 = .ok (.iastore, 1) := by decide +kernel
theorem dX16_block_356 : decode cX16_block 356 = .ok (.aload_n 0, 1) := by decide +kernel
theorem dX16_block_357 : decode cX16_block 357 = .ok (.getfield 22, 3) := by decide +kernel
theorem dX16_block_360 : decode cX16_block 360 = .ok (.iconst 2, 1) := by decide +kernel
theorem dX16_block_361 : decode cX16_block 361 = .ok (.dup2, 1) := by decide +kernel
theorem dX16_block_362 : decode cX16_block 362 = .ok (.iaload, 1) := by decide +kernel
theorem dX16_block_363 : decode cX16_block 363 = .ok (.iload 4, 2) := by decide +kernel
theorem dX16_block_365 : decode cX16_block 365 = .ok (.iadd, 1) := by decide +kernel
theorem dX16_block_366 : decode cX16_block 366 = .ok (.iastore, 1) := by decide +kernel
theorem dX16_block_367 : decode cX16_block 367 = .ok (.aload_n 0, 1) := by decide +kernel
theorem dX16_block_368 : decode cX16_block 368 = .ok (.getfield 22, 3) := by decide +kernel
theorem dX16_block_371 : decode cX16_block 371 = .ok (.iconst 3, 1) := by decide +kernel
theorem dX16_block_372 : decode cX16_block 372 = .ok (.dup2, 1) := by decide +kernel
theorem dX16_block_373 : decode cX16_block 373 = .ok (.iaload, 1) := by decide +kernel
theorem dX16_block_374 : decode cX16_block 374 = .ok (.iload 5, 2) := by decide +kernel
theorem dX16_block_376 : decode cX16_block 376 = .ok (.iadd, 1) := by decide +kernel
theorem dX16_block_377 : decode cX16_block 377 = .ok (.iastore, 1) := by decide +kernel
theorem dX16_block_378 : decode cX16_block 378 = .ok (.aload_n 0, 1) := by decide +kernel
theorem dX16_block_379 : decode cX16_block 379 = .ok (.getfield 22, 3) := by decide +kernel
theorem dX16_block_382 : decode cX16_block 382 = .ok (.iconst 4, 1) := by decide +kernel
theorem dX16_block_383 : decode cX16_block 383 = .ok (.dup2, 1) := by decide +kernel
theorem dX16_block_384 : decode cX16_block 384 = .ok (.iaload, 1) := by decide +kernel
theorem dX16_block_385 : decode cX16_block 385 = .ok (.iload 6, 2) := by decide +kernel
theorem dX16_block_387 : decode cX16_block 387 = .ok (.iadd, 1) := by decide +kernel
theorem dX16_block_388 : decode cX16_block 388 = .ok (.iastore, 1) := by decide +kernel
theorem dX16_block_389 : decode cX16_block 389 = .ok (.return_, 1) := by decide +kernel
def j_X16_block_336 (x2 x3 x4 x5 x6 : Int) (V : VV) : Option (VV) :=
  (l2 161 5 0 V).bind fun v1 =>
  (s2 161 5 0 (v1 + x2) V).bind fun V1 =>
  (l2 161 5 1 V1).bind fun v2 =>
  (s2 161 5 1 (v2 + x3) V1).bind fun V2 =>
  (l2 161 5 2 V2).bind fun v3 =>
  (s2 161 5 2 (v3 + x4) V2).bind fun V3 =>
  (l2 161 5 3 V3).bind fun v4 =>
  (s2 161 5 3 (v4 + x5) V3).bind fun V4 =>
  (l2 161 5 4 V4).bind fun v5 =>
  (s2 161 5 4 (v5 + x6) V4).bind fun V5 =>
  some V5
def j_X16_block_283 (x2 x3 x4 x5 x6 x7 x8 y0 : Int) (V : VV) : Option ((Int × Int × Int × Int × Int × Int) ⊕ (VV)) :=
  (f_X16_turned x2 5).bind fun v1 =>
  (l2 160 80 x7 V).bind fun v2 =>
  (f_X16_turned x3 30).bind fun v3 =>
  cnt ((((v1 + x8) + x6) + y0) + v2, x2, v3, x4, x5, x7 + 1)
def j_X16_block_239 (x2 x3 x4 x5 x6 x7 y0 : Int) (V : VV) : Option ((Int × Int × Int × Int × Int × Int) ⊕ (VV)) :=
  if w32 x7 < w32 20 then
    j_X16_block_283 x2 x3 x4 x5 x6 x7 y0 1518500249 V
  else
    if w32 x7 < w32 40 then
      j_X16_block_283 x2 x3 x4 x5 x6 x7 y0 1859775393 V
    else
      if w32 x7 < w32 60 then
        j_X16_block_283 x2 x3 x4 x5 x6 x7 y0 (-1894007588) V
      else
        j_X16_block_283 x2 x3 x4 x5 x6 x7 y0 (-899497514) V
def j_X16_block_214 (x2 x3 x4 x5 x6 x7 : Int) (V : VV) : Option ((Int × Int × Int × Int × Int × Int) ⊕ (VV)) :=
  j_X16_block_239 x2 x3 x4 x5 x6 x7 (bxor (bxor x3 x4) x5) V
def b_X16_block_172 (x2 x3 x4 x5 x6 x7 : Int) (V : VV) : Option ((Int × Int × Int × Int × Int × Int) ⊕ (VV)) :=
  if w32 x7 < w32 80 then
    if w32 x7 < w32 20 then
      j_X16_block_239 x2 x3 x4 x5 x6 x7 (bor (band x3 x4) (band (bxor x3 (-1)) x5)) V
    else
      if w32 x7 < w32 40 then
        j_X16_block_214 x2 x3 x4 x5 x6 x7 V
      else
        if w32 59 < w32 x7 then
          j_X16_block_214 x2 x3 x4 x5 x6 x7 V
        else
          j_X16_block_239 x2 x3 x4 x5 x6 x7 (bor (bor (band x3 x4) (band x3 x5)) (band x4 x5)) V
  else
    xit (j_X16_block_336 x2 x3 x4 x5 x6 V)
def l_X16_block_172 (x2 x3 x4 x5 x6 x7 : Int) (V : VV) : Option (VV) := lpN (fun s : Int × Int × Int × Int × Int × Int => b_X16_block_172 s.1 s.2.1 s.2.2.1 s.2.2.2.1 s.2.2.2.2.1 s.2.2.2.2.2 V) FU (x2, x3, x4, x5, x6, x7)
def j_X16_block_131 (V : VV) : Option (VV) :=
  (l2 161 5 0 V).bind fun v1 =>
  (l2 161 5 1 V).bind fun v2 =>
  (l2 161 5 2 V).bind fun v3 =>
  (l2 161 5 3 V).bind fun v4 =>
  (l2 161 5 4 V).bind fun v5 =>
  l_X16_block_172 v1 v2 v3 v4 v5 0 V
def b_X16_block_71 (x2 : Int) (V : VV) : Option ((Int × VV) ⊕ (VV)) :=
  if w32 x2 < w32 80 then
    (l2 160 80 (x2 - 3) V).bind fun v1 =>
    (l2 160 80 (x2 - 8) V).bind fun v2 =>
    (l2 160 80 (x2 - 14) V).bind fun v3 =>
    (l2 160 80 (x2 - 16) V).bind fun v4 =>
    (f_X16_turned (bxor (bxor (bxor v1 v2) v3) v4) 1).bind fun v5 =>
    (s2 160 80 x2 v5 V).bind fun V1 =>
    cnt (x2 + 1, V1)
  else
    xit (j_X16_block_131 V)
def l_X16_block_71 (x2 : Int) (V : VV) : Option (VV) := lpN (fun s : Int × VV => b_X16_block_71 s.1 s.2) FU (x2, V)
def j_X16_block_68 (V : VV) : Option (VV) :=
  l_X16_block_71 16 V
def b_X16_block_2 (x1 x2 : Int) (V : VV) : Option ((Int × VV) ⊕ (VV)) :=
  if w32 x2 < w32 16 then
    (l2 159 576 (x1 + (4 * x2)) V).bind fun v1 =>
    (l2 159 576 ((x1 + (4 * x2)) + 1) V).bind fun v2 =>
    (l2 159 576 ((x1 + (4 * x2)) + 2) V).bind fun v3 =>
    (l2 159 576 ((x1 + (4 * x2)) + 3) V).bind fun v4 =>
    (s2 160 80 x2 (bor (bor (bor (bshl v1 24) (bshl v2 16)) (bshl v3 8)) v4) V).bind fun V1 =>
    cnt (x2 + 1, V1)
  else
    xit (j_X16_block_68 V)
def l_X16_block_2 (x1 x2 : Int) (V : VV) : Option (VV) := lpN (fun s : Int × VV => b_X16_block_2 x1 s.1 s.2) FU (x2, V)
def f_X16_block (x1 : Int) (V : VV) : Option (VV) :=
  l_X16_block_2 x1 0 V
theorem s_X16_block_336 {g : GG} {d : Nat} (hD : 1 ≤ d) {x2 x3 x4 x5 x6 : Int} {M : MM} (hM : LM M) {V : VV} {o : AV × MM} {P : (VV) → Prop} (r0 : ∀ r : VV, P r → o = ((9, 0), (wr M r))) {z : VV} (h : j_X16_block_336 x2 x3 x4 x5 x6 V = some z) (hz : P z) : Sem g d YX16_block 336 [(1, 156), (9, 0), (0, x2), (0, x3), (0, x4), (0, x5), (0, x6), (9, 0), (9, 0), (9, 0), (9, 0)] [] (wr M V) o := by
  delta j_X16_block_336 at h
  refine S_aload_n (i := 0) dX16_block_336 rfl rfl ?_
  refine P2_gfr hM (a := 161) FLX16_22 rfl ⟨rfl, rfl⟩ dX16_block_337 ?_
  refine S_iconst dX16_block_340 rfl ?_
  refine S_dup2 dX16_block_341 (Nat.le_of_ble_eq_true rfl) (Nat.le_of_ble_eq_true rfl) ?_
  refine P2_lai hM (a := 161) (n := 5) rfl dX16_block_342 h (fun v1 h => ?_)
  refine S_iload_n (i := 2) dX16_block_343 rfl rfl ?_
  refine S_iadd dX16_block_344 ?_
  refine P2_sai hM (a := 161) (n := 5) rfl dX16_block_345 h (fun V1 h => ?_)
  refine S_aload_n (i := 0) dX16_block_346 rfl rfl ?_
  refine P2_gfr hM (a := 161) FLX16_22 rfl ⟨rfl, rfl⟩ dX16_block_347 ?_
  refine S_iconst dX16_block_350 rfl ?_
  refine S_dup2 dX16_block_351 (Nat.le_of_ble_eq_true rfl) (Nat.le_of_ble_eq_true rfl) ?_
  refine P2_lai hM (a := 161) (n := 5) rfl dX16_block_352 h (fun v2 h => ?_)
  refine S_iload_n (i := 3) dX16_block_353 rfl rfl ?_
  refine S_iadd dX16_block_354 ?_
  refine P2_sai hM (a := 161) (n := 5) rfl dX16_block_355 h (fun V2 h => ?_)
  refine S_aload_n (i := 0) dX16_block_356 rfl rfl ?_
  refine P2_gfr hM (a := 161) FLX16_22 rfl ⟨rfl, rfl⟩ dX16_block_357 ?_
  refine S_iconst dX16_block_360 rfl ?_
  refine S_dup2 dX16_block_361 (Nat.le_of_ble_eq_true rfl) (Nat.le_of_ble_eq_true rfl) ?_
  refine P2_lai hM (a := 161) (n := 5) rfl dX16_block_362 h (fun v3 h => ?_)
  refine S_iload dX16_block_363 rfl ?_
  refine S_iadd dX16_block_365 ?_
  refine P2_sai hM (a := 161) (n := 5) rfl dX16_block_366 h (fun V3 h => ?_)
  refine S_aload_n (i := 0) dX16_block_367 rfl rfl ?_
  refine P2_gfr hM (a := 161) FLX16_22 rfl ⟨rfl, rfl⟩ dX16_block_368 ?_
  refine S_iconst dX16_block_371 rfl ?_
  refine S_dup2 dX16_block_372 (Nat.le_of_ble_eq_true rfl) (Nat.le_of_ble_eq_true rfl) ?_
  refine P2_lai hM (a := 161) (n := 5) rfl dX16_block_373 h (fun v4 h => ?_)
  refine S_iload dX16_block_374 rfl ?_
  refine S_iadd dX16_block_376 ?_
  refine P2_sai hM (a := 161) (n := 5) rfl dX16_block_377 h (fun V4 h => ?_)
  refine S_aload_n (i := 0) dX16_block_378 rfl rfl ?_
  refine P2_gfr hM (a := 161) FLX16_22 rfl ⟨rfl, rfl⟩ dX16_block_379 ?_
  refine S_iconst dX16_block_382 rfl ?_
  refine S_dup2 dX16_block_383 (Nat.le_of_ble_eq_true rfl) (Nat.le_of_ble_eq_true rfl) ?_
  refine P2_lai hM (a := 161) (n := 5) rfl dX16_block_384 h (fun v5 h => ?_)
  refine S_iload dX16_block_385 rfl ?_
  refine S_iadd dX16_block_387 ?_
  refine P2_sai hM (a := 161) (n := 5) rfl dX16_block_388 h (fun V5 h => ?_)
  obtain rfl := r0 _ (some_P (P := fun r => P r) h hz)
  exact S_return dX16_block_389 rfl
theorem s_X16_block_283 {g : GG} {d : Nat} (hD : 1 ≤ d) {x2 x3 x4 x5 x6 x7 x8 y0 : Int} {M : MM} (hM : LM M) {V : VV} {o : AV × MM} {P : ((Int × Int × Int × Int × Int × Int) ⊕ (VV)) → Prop} (c0 : ∀ s : Int × Int × Int × Int × Int × Int, P (.inl s) → Sem g d YX16_block 172 [(1, 156), (9, 0), (0, s.1), (0, s.2.1), (0, s.2.2.1), (0, s.2.2.2.1), (0, s.2.2.2.2.1), (0, s.2.2.2.2.2), (9, 0), (9, 0), (9, 0)] [] (wr M V) o) (r0 : ∀ r : VV, P (.inr r) → o = ((9, 0), (wr M r))) {z : (Int × Int × Int × Int × Int × Int) ⊕ (VV)} (h : j_X16_block_283 x2 x3 x4 x5 x6 x7 x8 y0 V = some z) (hz : P z) : Sem g d YX16_block 283 [(1, 156), (9, 0), (0, x2), (0, x3), (0, x4), (0, x5), (0, x6), (0, x7), (0, x8), (9, 0), (9, 0)] [(0, y0)] (wr M V) o := by
  delta j_X16_block_283 at h
  refine S_istore dX16_block_283 (Nat.le_of_ble_eq_true rfl) rfl rfl ?_
  change Sem g d YX16_block 285 [(1, 156), (9, 0), (0, x2), (0, x3), (0, x4), (0, x5), (0, x6), (0, x7), (0, x8), (0, y0), (9, 0)] [] (wr M V) o
  refine S_iload_n (i := 2) dX16_block_285 rfl rfl ?_
  refine S_iconst dX16_block_286 rfl ?_
  refine P_invSp 0 [(0, x2), (0, 5)] [] CSX16_turned MLX16_399 dX16_block_287 rfl rfl rfl rfl rfl (by omega) h (fun r h => F_X16_turned (by omega) hM h) (fun v1 h => ?_)
  refine S_iload dX16_block_290 rfl ?_
  refine S_iadd dX16_block_292 ?_
  refine S_iload dX16_block_293 rfl ?_
  refine S_iadd dX16_block_295 ?_
  refine S_iload dX16_block_296 rfl ?_
  refine S_iadd dX16_block_298 ?_
  refine S_aload_n (i := 0) dX16_block_299 rfl rfl ?_
  refine P2_gfr hM (a := 160) FLX16_19 rfl ⟨rfl, rfl⟩ dX16_block_300 ?_
  refine S_iload dX16_block_303 rfl ?_
  refine P2_lai hM (a := 160) (n := 80) rfl dX16_block_305 h (fun v2 h => ?_)
  refine S_iadd dX16_block_306 ?_
  refine S_istore dX16_block_307 (Nat.le_of_ble_eq_true rfl) rfl rfl ?_
  change Sem g d YX16_block 309 [(1, 156), (9, 0), (0, x2), (0, x3), (0, x4), (0, x5), (0, x6), (0, x7), (0, x8), (0, y0), (0, (((v1 + x8) + x6) + y0) + v2)] [] (wr M V) o
  refine S_iload dX16_block_309 rfl ?_
  refine S_istore dX16_block_311 (Nat.le_of_ble_eq_true rfl) rfl rfl ?_
  change Sem g d YX16_block 313 [(1, 156), (9, 0), (0, x2), (0, x3), (0, x4), (0, x5), (0, x5), (0, x7), (0, x8), (0, y0), (0, (((v1 + x8) + x6) + y0) + v2)] [] (wr M V) o
  refine S_iload dX16_block_313 rfl ?_
  refine S_istore dX16_block_315 (Nat.le_of_ble_eq_true rfl) rfl rfl ?_
  change Sem g d YX16_block 317 [(1, 156), (9, 0), (0, x2), (0, x3), (0, x4), (0, x4), (0, x5), (0, x7), (0, x8), (0, y0), (0, (((v1 + x8) + x6) + y0) + v2)] [] (wr M V) o
  refine S_iload_n (i := 3) dX16_block_317 rfl rfl ?_
  refine S_bipush (z := 30) dX16_block_318 rfl ?_
  refine P_invSp 0 [(0, x3), (0, 30)] [] CSX16_turned MLX16_399 dX16_block_320 rfl rfl rfl rfl rfl (by omega) h (fun r h => F_X16_turned (by omega) hM h) (fun v3 h => ?_)
  refine S_istore dX16_block_323 (Nat.le_of_ble_eq_true rfl) rfl rfl ?_
  change Sem g d YX16_block 325 [(1, 156), (9, 0), (0, x2), (0, x3), (0, v3), (0, x4), (0, x5), (0, x7), (0, x8), (0, y0), (0, (((v1 + x8) + x6) + y0) + v2)] [] (wr M V) o
  refine S_iload_n (i := 2) dX16_block_325 rfl rfl ?_
  refine S_istore_n (i := 3) dX16_block_326 rfl (Nat.le_of_ble_eq_true rfl) rfl rfl ?_
  change Sem g d YX16_block 327 [(1, 156), (9, 0), (0, x2), (0, x2), (0, v3), (0, x4), (0, x5), (0, x7), (0, x8), (0, y0), (0, (((v1 + x8) + x6) + y0) + v2)] [] (wr M V) o
  refine S_iload dX16_block_327 rfl ?_
  refine S_istore_n (i := 2) dX16_block_329 rfl (Nat.le_of_ble_eq_true rfl) rfl rfl ?_
  change Sem g d YX16_block 330 [(1, 156), (9, 0), (0, (((v1 + x8) + x6) + y0) + v2), (0, x2), (0, v3), (0, x4), (0, x5), (0, x7), (0, x8), (0, y0), (0, (((v1 + x8) + x6) + y0) + v2)] [] (wr M V) o
  refine S_iinc dX16_block_330 rfl rfl rfl ?_
  change Sem g d YX16_block 333 [(1, 156), (9, 0), (0, (((v1 + x8) + x6) + y0) + v2), (0, x2), (0, v3), (0, x4), (0, x5), (0, x7 + 1), (0, x8), (0, y0), (0, (((v1 + x8) + x6) + y0) + v2)] [] (wr M V) o
  refine S_goto (tgt := 172) dX16_block_333 rfl ?_
  refine S_weak (ls' := [(1, 156), (9, 0), (0, (((v1 + x8) + x6) + y0) + v2), (0, x2), (0, v3), (0, x4), (0, x5), (0, x7 + 1), (9, 0), (9, 0), (9, 0)]) ⟨Or.inr rfl, ⟨Or.inl rfl, ⟨Or.inr rfl, ⟨Or.inr rfl, ⟨Or.inr rfl, ⟨Or.inr rfl, ⟨Or.inr rfl, ⟨Or.inr rfl, ⟨Or.inl rfl, ⟨Or.inl rfl, ⟨Or.inl rfl, trivial⟩⟩⟩⟩⟩⟩⟩⟩⟩⟩⟩ ?_
  exact c0 ((((v1 + x8) + x6) + y0) + v2, x2, v3, x4, x5, x7 + 1) (some_P (P := fun r => P r) h hz)
theorem s_X16_block_239 {g : GG} {d : Nat} (hD : 1 ≤ d) {x2 x3 x4 x5 x6 x7 y0 : Int} {M : MM} (hM : LM M) {V : VV} {o : AV × MM} {P : ((Int × Int × Int × Int × Int × Int) ⊕ (VV)) → Prop} (c0 : ∀ s : Int × Int × Int × Int × Int × Int, P (.inl s) → Sem g d YX16_block 172 [(1, 156), (9, 0), (0, s.1), (0, s.2.1), (0, s.2.2.1), (0, s.2.2.2.1), (0, s.2.2.2.2.1), (0, s.2.2.2.2.2), (9, 0), (9, 0), (9, 0)] [] (wr M V) o) (r0 : ∀ r : VV, P (.inr r) → o = ((9, 0), (wr M r))) {z : (Int × Int × Int × Int × Int × Int) ⊕ (VV)} (h : j_X16_block_239 x2 x3 x4 x5 x6 x7 y0 V = some z) (hz : P z) : Sem g d YX16_block 239 [(1, 156), (9, 0), (0, x2), (0, x3), (0, x4), (0, x5), (0, x6), (0, x7), (9, 0), (9, 0), (9, 0)] [(0, y0)] (wr M V) o := by
  delta j_X16_block_239 at h
  refine S_istore dX16_block_239 (Nat.le_of_ble_eq_true rfl) rfl rfl ?_
  change Sem g d YX16_block 241 [(1, 156), (9, 0), (0, x2), (0, x3), (0, x4), (0, x5), (0, x6), (0, x7), (0, y0), (9, 0), (9, 0)] [] (wr M V) o
  refine S_iload dX16_block_241 rfl ?_
  refine S_bipush (z := 20) dX16_block_243 rfl ?_
  refine P_icmp_ge (tgt := 254) dX16_block_245 rfl h (fun h => ?_) (fun h => ?_)
  · refine S_iload dX16_block_254 rfl ?_
    refine S_bipush (z := 40) dX16_block_256 rfl ?_
    refine P_icmp_ge (tgt := 267) dX16_block_258 rfl h (fun h => ?_) (fun h => ?_)
    · refine S_iload dX16_block_267 rfl ?_
      refine S_bipush (z := 60) dX16_block_269 rfl ?_
      refine P_icmp_ge (tgt := 280) dX16_block_271 rfl h (fun h => ?_) (fun h => ?_)
      · refine S_ldcw (z := (-899497514)) kX16_406 dX16_block_280 ?_
        exact s_X16_block_283 hD hM c0 r0 h hz
      · refine S_ldcw (z := (-1894007588)) kX16_405 dX16_block_274 ?_
        refine S_goto (tgt := 283) dX16_block_277 rfl ?_
        exact s_X16_block_283 hD hM c0 r0 h hz
    · refine S_ldcw (z := 1859775393) kX16_404 dX16_block_261 ?_
      refine S_goto (tgt := 283) dX16_block_264 rfl ?_
      exact s_X16_block_283 hD hM c0 r0 h hz
  · refine S_ldcw (z := 1518500249) kX16_403 dX16_block_248 ?_
    refine S_goto (tgt := 283) dX16_block_251 rfl ?_
    exact s_X16_block_283 hD hM c0 r0 h hz
theorem s_X16_block_214 {g : GG} {d : Nat} (hD : 1 ≤ d) {x2 x3 x4 x5 x6 x7 : Int} {M : MM} (hM : LM M) {V : VV} {o : AV × MM} {P : ((Int × Int × Int × Int × Int × Int) ⊕ (VV)) → Prop} (c0 : ∀ s : Int × Int × Int × Int × Int × Int, P (.inl s) → Sem g d YX16_block 172 [(1, 156), (9, 0), (0, s.1), (0, s.2.1), (0, s.2.2.1), (0, s.2.2.2.1), (0, s.2.2.2.2.1), (0, s.2.2.2.2.2), (9, 0), (9, 0), (9, 0)] [] (wr M V) o) (r0 : ∀ r : VV, P (.inr r) → o = ((9, 0), (wr M r))) {z : (Int × Int × Int × Int × Int × Int) ⊕ (VV)} (h : j_X16_block_214 x2 x3 x4 x5 x6 x7 V = some z) (hz : P z) : Sem g d YX16_block 214 [(1, 156), (9, 0), (0, x2), (0, x3), (0, x4), (0, x5), (0, x6), (0, x7), (9, 0), (9, 0), (9, 0)] [] (wr M V) o := by
  delta j_X16_block_214 at h
  refine S_iload_n (i := 3) dX16_block_214 rfl rfl ?_
  refine S_iload dX16_block_215 rfl ?_
  refine S_ixor dX16_block_217 ?_
  refine S_iload dX16_block_218 rfl ?_
  refine S_ixor dX16_block_220 ?_
  refine S_goto (tgt := 239) dX16_block_221 rfl ?_
  exact s_X16_block_239 hD hM c0 r0 h hz
theorem s_X16_block_172 {g : GG} {d : Nat} (hD : 1 ≤ d) {x2 x3 x4 x5 x6 x7 : Int} {M : MM} (hM : LM M) {V : VV} {o : AV × MM} {P : ((Int × Int × Int × Int × Int × Int) ⊕ (VV)) → Prop} (c0 : ∀ s : Int × Int × Int × Int × Int × Int, P (.inl s) → Sem g d YX16_block 172 [(1, 156), (9, 0), (0, s.1), (0, s.2.1), (0, s.2.2.1), (0, s.2.2.2.1), (0, s.2.2.2.2.1), (0, s.2.2.2.2.2), (9, 0), (9, 0), (9, 0)] [] (wr M V) o) (r0 : ∀ r : VV, P (.inr r) → o = ((9, 0), (wr M r))) {z : (Int × Int × Int × Int × Int × Int) ⊕ (VV)} (h : b_X16_block_172 x2 x3 x4 x5 x6 x7 V = some z) (hz : P z) : Sem g d YX16_block 172 [(1, 156), (9, 0), (0, x2), (0, x3), (0, x4), (0, x5), (0, x6), (0, x7), (9, 0), (9, 0), (9, 0)] [] (wr M V) o := by
  delta b_X16_block_172 at h
  refine S_iload dX16_block_172 rfl ?_
  refine S_bipush (z := 80) dX16_block_174 rfl ?_
  refine P_icmp_ge (tgt := 336) dX16_block_176 rfl h (fun h => ?_) (fun h => ?_)
  · refine S_weak (ls' := [(1, 156), (9, 0), (0, x2), (0, x3), (0, x4), (0, x5), (0, x6), (9, 0), (9, 0), (9, 0), (9, 0)]) ⟨Or.inr rfl, ⟨Or.inl rfl, ⟨Or.inr rfl, ⟨Or.inr rfl, ⟨Or.inr rfl, ⟨Or.inr rfl, ⟨Or.inr rfl, ⟨Or.inl rfl, ⟨Or.inl rfl, ⟨Or.inl rfl, ⟨Or.inl rfl, trivial⟩⟩⟩⟩⟩⟩⟩⟩⟩⟩⟩ ?_
    obtain ⟨z0, h, hz⟩ := xit_some' (P := fun r => P r) h hz
    exact s_X16_block_336 hD hM (P := fun r => P (.inr r)) r0 h hz
  · refine S_iload dX16_block_179 rfl ?_
    refine S_bipush (z := 20) dX16_block_181 rfl ?_
    refine P_icmp_ge (tgt := 200) dX16_block_183 rfl h (fun h => ?_) (fun h => ?_)
    · refine S_iload dX16_block_200 rfl ?_
      refine S_bipush (z := 40) dX16_block_202 rfl ?_
      refine P_icmp_lt (tgt := 214) dX16_block_204 rfl h (fun h => ?_) (fun h => ?_)
      · exact s_X16_block_214 hD hM c0 r0 h hz
      · refine S_iload dX16_block_207 rfl ?_
        refine S_bipush (z := 59) dX16_block_209 rfl ?_
        refine P_icmp_le (tgt := 224) dX16_block_211 rfl h (fun h => ?_) (fun h => ?_)
        · refine S_iload_n (i := 3) dX16_block_224 rfl rfl ?_
          refine S_iload dX16_block_225 rfl ?_
          refine S_iand dX16_block_227 ?_
          refine S_iload_n (i := 3) dX16_block_228 rfl rfl ?_
          refine S_iload dX16_block_229 rfl ?_
          refine S_iand dX16_block_231 ?_
          refine S_ior dX16_block_232 ?_
          refine S_iload dX16_block_233 rfl ?_
          refine S_iload dX16_block_235 rfl ?_
          refine S_iand dX16_block_237 ?_
          refine S_ior dX16_block_238 ?_
          exact s_X16_block_239 hD hM c0 r0 h hz
        · exact s_X16_block_214 hD hM c0 r0 h hz
    · refine S_iload_n (i := 3) dX16_block_186 rfl rfl ?_
      refine S_iload dX16_block_187 rfl ?_
      refine S_iand dX16_block_189 ?_
      refine S_iload_n (i := 3) dX16_block_190 rfl rfl ?_
      refine S_iconst dX16_block_191 rfl ?_
      refine S_ixor dX16_block_192 ?_
      refine S_iload dX16_block_193 rfl ?_
      refine S_iand dX16_block_195 ?_
      refine S_ior dX16_block_196 ?_
      refine S_goto (tgt := 239) dX16_block_197 rfl ?_
      exact s_X16_block_239 hD hM c0 r0 h hz
theorem sl_X16_block_172 {g : GG} {d : Nat} (hD : 1 ≤ d) {x2 x3 x4 x5 x6 x7 : Int} {M : MM} (hM : LM M) {V : VV} {o : AV × MM} {P : (VV) → Prop} (r0 : ∀ r : VV, P r → o = ((9, 0), (wr M r))) {z : VV} (h : l_X16_block_172 x2 x3 x4 x5 x6 x7 V = some z) (hz : P z) : Sem g d YX16_block 172 [(1, 156), (9, 0), (0, x2), (0, x3), (0, x4), (0, x5), (0, x6), (0, x7), (9, 0), (9, 0), (9, 0)] [] (wr M V) o := by
  refine lp_sound (S := fun s : Int × Int × Int × Int × Int × Int => Sem g d YX16_block 172 [(1, 156), (9, 0), (0, s.1), (0, s.2.1), (0, s.2.2.1), (0, s.2.2.2.1), (0, s.2.2.2.2.1), (0, s.2.2.2.2.2), (9, 0), (9, 0), (9, 0)] [] (wr M V) o) (P := P) ?_ FU (x2, x3, x4, x5, x6, x7) z h hz
  intro s x hx hP
  exact s_X16_block_172 hD hM (P := Sum.elim (fun s : Int × Int × Int × Int × Int × Int => Sem g d YX16_block 172 [(1, 156), (9, 0), (0, s.1), (0, s.2.1), (0, s.2.2.1), (0, s.2.2.2.1), (0, s.2.2.2.2.1), (0, s.2.2.2.2.2), (9, 0), (9, 0), (9, 0)] [] (wr M V) o) P) (fun s h => h) (fun s h => r0 s h) hx hP
theorem s_X16_block_131 {g : GG} {d : Nat} (hD : 1 ≤ d) {M : MM} (hM : LM M) {V : VV} {o : AV × MM} {P : (VV) → Prop} (r0 : ∀ r : VV, P r → o = ((9, 0), (wr M r))) {z : VV} (h : j_X16_block_131 V = some z) (hz : P z) : Sem g d YX16_block 131 [(1, 156), (9, 0), (9, 0), (9, 0), (9, 0), (9, 0), (9, 0), (9, 0), (9, 0), (9, 0), (9, 0)] [] (wr M V) o := by
  delta j_X16_block_131 at h
  refine S_aload_n (i := 0) dX16_block_131 rfl rfl ?_
  refine P2_gfr hM (a := 161) FLX16_22 rfl ⟨rfl, rfl⟩ dX16_block_132 ?_
  refine S_iconst dX16_block_135 rfl ?_
  refine P2_lai hM (a := 161) (n := 5) rfl dX16_block_136 h (fun v1 h => ?_)
  refine S_istore_n (i := 2) dX16_block_137 rfl (Nat.le_of_ble_eq_true rfl) rfl rfl ?_
  change Sem g d YX16_block 138 [(1, 156), (9, 0), (0, v1), (9, 0), (9, 0), (9, 0), (9, 0), (9, 0), (9, 0), (9, 0), (9, 0)] [] (wr M V) o
  refine S_aload_n (i := 0) dX16_block_138 rfl rfl ?_
  refine P2_gfr hM (a := 161) FLX16_22 rfl ⟨rfl, rfl⟩ dX16_block_139 ?_
  refine S_iconst dX16_block_142 rfl ?_
  refine P2_lai hM (a := 161) (n := 5) rfl dX16_block_143 h (fun v2 h => ?_)
  refine S_istore_n (i := 3) dX16_block_144 rfl (Nat.le_of_ble_eq_true rfl) rfl rfl ?_
  change Sem g d YX16_block 145 [(1, 156), (9, 0), (0, v1), (0, v2), (9, 0), (9, 0), (9, 0), (9, 0), (9, 0), (9, 0), (9, 0)] [] (wr M V) o
  refine S_aload_n (i := 0) dX16_block_145 rfl rfl ?_
  refine P2_gfr hM (a := 161) FLX16_22 rfl ⟨rfl, rfl⟩ dX16_block_146 ?_
  refine S_iconst dX16_block_149 rfl ?_
  refine P2_lai hM (a := 161) (n := 5) rfl dX16_block_150 h (fun v3 h => ?_)
  refine S_istore dX16_block_151 (Nat.le_of_ble_eq_true rfl) rfl rfl ?_
  change Sem g d YX16_block 153 [(1, 156), (9, 0), (0, v1), (0, v2), (0, v3), (9, 0), (9, 0), (9, 0), (9, 0), (9, 0), (9, 0)] [] (wr M V) o
  refine S_aload_n (i := 0) dX16_block_153 rfl rfl ?_
  refine P2_gfr hM (a := 161) FLX16_22 rfl ⟨rfl, rfl⟩ dX16_block_154 ?_
  refine S_iconst dX16_block_157 rfl ?_
  refine P2_lai hM (a := 161) (n := 5) rfl dX16_block_158 h (fun v4 h => ?_)
  refine S_istore dX16_block_159 (Nat.le_of_ble_eq_true rfl) rfl rfl ?_
  change Sem g d YX16_block 161 [(1, 156), (9, 0), (0, v1), (0, v2), (0, v3), (0, v4), (9, 0), (9, 0), (9, 0), (9, 0), (9, 0)] [] (wr M V) o
  refine S_aload_n (i := 0) dX16_block_161 rfl rfl ?_
  refine P2_gfr hM (a := 161) FLX16_22 rfl ⟨rfl, rfl⟩ dX16_block_162 ?_
  refine S_iconst dX16_block_165 rfl ?_
  refine P2_lai hM (a := 161) (n := 5) rfl dX16_block_166 h (fun v5 h => ?_)
  refine S_istore dX16_block_167 (Nat.le_of_ble_eq_true rfl) rfl rfl ?_
  change Sem g d YX16_block 169 [(1, 156), (9, 0), (0, v1), (0, v2), (0, v3), (0, v4), (0, v5), (9, 0), (9, 0), (9, 0), (9, 0)] [] (wr M V) o
  refine S_iconst dX16_block_169 rfl ?_
  refine S_istore dX16_block_170 (Nat.le_of_ble_eq_true rfl) rfl rfl ?_
  change Sem g d YX16_block 172 [(1, 156), (9, 0), (0, v1), (0, v2), (0, v3), (0, v4), (0, v5), (0, 0), (9, 0), (9, 0), (9, 0)] [] (wr M V) o
  exact sl_X16_block_172 hD hM r0 h hz
theorem s_X16_block_71 {g : GG} {d : Nat} (hD : 1 ≤ d) {x2 : Int} {M : MM} (hM : LM M) {V : VV} {o : AV × MM} {P : ((Int × VV) ⊕ (VV)) → Prop} (c0 : ∀ s : Int × VV, P (.inl s) → Sem g d YX16_block 71 [(1, 156), (9, 0), (0, s.1), (9, 0), (9, 0), (9, 0), (9, 0), (9, 0), (9, 0), (9, 0), (9, 0)] [] (wr M s.2) o) (r0 : ∀ r : VV, P (.inr r) → o = ((9, 0), (wr M r))) {z : (Int × VV) ⊕ (VV)} (h : b_X16_block_71 x2 V = some z) (hz : P z) : Sem g d YX16_block 71 [(1, 156), (9, 0), (0, x2), (9, 0), (9, 0), (9, 0), (9, 0), (9, 0), (9, 0), (9, 0), (9, 0)] [] (wr M V) o := by
  delta b_X16_block_71 at h
  refine S_iload_n (i := 2) dX16_block_71 rfl rfl ?_
  refine S_bipush (z := 80) dX16_block_72 rfl ?_
  refine P_icmp_ge (tgt := 131) dX16_block_74 rfl h (fun h => ?_) (fun h => ?_)
  · refine S_weak (ls' := [(1, 156), (9, 0), (9, 0), (9, 0), (9, 0), (9, 0), (9, 0), (9, 0), (9, 0), (9, 0), (9, 0)]) ⟨Or.inr rfl, ⟨Or.inl rfl, ⟨Or.inl rfl, ⟨Or.inl rfl, ⟨Or.inl rfl, ⟨Or.inl rfl, ⟨Or.inl rfl, ⟨Or.inl rfl, ⟨Or.inl rfl, ⟨Or.inl rfl, ⟨Or.inl rfl, trivial⟩⟩⟩⟩⟩⟩⟩⟩⟩⟩⟩ ?_
    obtain ⟨z0, h, hz⟩ := xit_some' (P := fun r => P r) h hz
    exact s_X16_block_131 hD hM (P := fun r => P (.inr r)) r0 h hz
  · refine S_aload_n (i := 0) dX16_block_77 rfl rfl ?_
    refine P2_gfr hM (a := 160) FLX16_19 rfl ⟨rfl, rfl⟩ dX16_block_78 ?_
    refine S_iload_n (i := 2) dX16_block_81 rfl rfl ?_
    refine S_aload_n (i := 0) dX16_block_82 rfl rfl ?_
    refine P2_gfr hM (a := 160) FLX16_19 rfl ⟨rfl, rfl⟩ dX16_block_83 ?_
    refine S_iload_n (i := 2) dX16_block_86 rfl rfl ?_
    refine S_iconst dX16_block_87 rfl ?_
    refine S_isub dX16_block_88 ?_
    refine P2_lai hM (a := 160) (n := 80) rfl dX16_block_89 h (fun v1 h => ?_)
    refine S_aload_n (i := 0) dX16_block_90 rfl rfl ?_
    refine P2_gfr hM (a := 160) FLX16_19 rfl ⟨rfl, rfl⟩ dX16_block_91 ?_
    refine S_iload_n (i := 2) dX16_block_94 rfl rfl ?_
    refine S_bipush (z := 8) dX16_block_95 rfl ?_
    refine S_isub dX16_block_97 ?_
    refine P2_lai hM (a := 160) (n := 80) rfl dX16_block_98 h (fun v2 h => ?_)
    refine S_ixor dX16_block_99 ?_
    refine S_aload_n (i := 0) dX16_block_100 rfl rfl ?_
    refine P2_gfr hM (a := 160) FLX16_19 rfl ⟨rfl, rfl⟩ dX16_block_101 ?_
    refine S_iload_n (i := 2) dX16_block_104 rfl rfl ?_
    refine S_bipush (z := 14) dX16_block_105 rfl ?_
    refine S_isub dX16_block_107 ?_
    refine P2_lai hM (a := 160) (n := 80) rfl dX16_block_108 h (fun v3 h => ?_)
    refine S_ixor dX16_block_109 ?_
    refine S_aload_n (i := 0) dX16_block_110 rfl rfl ?_
    refine P2_gfr hM (a := 160) FLX16_19 rfl ⟨rfl, rfl⟩ dX16_block_111 ?_
    refine S_iload_n (i := 2) dX16_block_114 rfl rfl ?_
    refine S_bipush (z := 16) dX16_block_115 rfl ?_
    refine S_isub dX16_block_117 ?_
    refine P2_lai hM (a := 160) (n := 80) rfl dX16_block_118 h (fun v4 h => ?_)
    refine S_ixor dX16_block_119 ?_
    refine S_iconst dX16_block_120 rfl ?_
    refine P_invSp 0 [(0, bxor (bxor (bxor v1 v2) v3) v4), (0, 1)] [(0, x2), (1, 160)] CSX16_turned MLX16_399 dX16_block_121 rfl rfl rfl rfl rfl (by omega) h (fun r h => F_X16_turned (by omega) hM h) (fun v5 h => ?_)
    refine P2_sai hM (a := 160) (n := 80) rfl dX16_block_124 h (fun V1 h => ?_)
    refine S_iinc dX16_block_125 rfl rfl rfl ?_
    change Sem g d YX16_block 128 [(1, 156), (9, 0), (0, x2 + 1), (9, 0), (9, 0), (9, 0), (9, 0), (9, 0), (9, 0), (9, 0), (9, 0)] [] (wr M V1) o
    refine S_goto (tgt := 71) dX16_block_128 rfl ?_
    exact c0 (x2 + 1, V1) (some_P (P := fun r => P r) h hz)
theorem sl_X16_block_71 {g : GG} {d : Nat} (hD : 1 ≤ d) {x2 : Int} {M : MM} (hM : LM M) {V : VV} {o : AV × MM} {P : (VV) → Prop} (r0 : ∀ r : VV, P r → o = ((9, 0), (wr M r))) {z : VV} (h : l_X16_block_71 x2 V = some z) (hz : P z) : Sem g d YX16_block 71 [(1, 156), (9, 0), (0, x2), (9, 0), (9, 0), (9, 0), (9, 0), (9, 0), (9, 0), (9, 0), (9, 0)] [] (wr M V) o := by
  refine lp_sound (S := fun s : Int × VV => Sem g d YX16_block 71 [(1, 156), (9, 0), (0, s.1), (9, 0), (9, 0), (9, 0), (9, 0), (9, 0), (9, 0), (9, 0), (9, 0)] [] (wr M s.2) o) (P := P) ?_ FU (x2, V) z h hz
  intro s x hx hP
  exact s_X16_block_71 hD hM (P := Sum.elim (fun s : Int × VV => Sem g d YX16_block 71 [(1, 156), (9, 0), (0, s.1), (9, 0), (9, 0), (9, 0), (9, 0), (9, 0), (9, 0), (9, 0), (9, 0)] [] (wr M s.2) o) P) (fun s h => h) (fun s h => r0 s h) hx hP
theorem s_X16_block_68 {g : GG} {d : Nat} (hD : 1 ≤ d) {M : MM} (hM : LM M) {V : VV} {o : AV × MM} {P : (VV) → Prop} (r0 : ∀ r : VV, P r → o = ((9, 0), (wr M r))) {z : VV} (h : j_X16_block_68 V = some z) (hz : P z) : Sem g d YX16_block 68 [(1, 156), (9, 0), (9, 0), (9, 0), (9, 0), (9, 0), (9, 0), (9, 0), (9, 0), (9, 0), (9, 0)] [] (wr M V) o := by
  delta j_X16_block_68 at h
  refine S_bipush (z := 16) dX16_block_68 rfl ?_
  refine S_istore_n (i := 2) dX16_block_70 rfl (Nat.le_of_ble_eq_true rfl) rfl rfl ?_
  change Sem g d YX16_block 71 [(1, 156), (9, 0), (0, 16), (9, 0), (9, 0), (9, 0), (9, 0), (9, 0), (9, 0), (9, 0), (9, 0)] [] (wr M V) o
  exact sl_X16_block_71 hD hM r0 h hz
theorem s_X16_block_2 {g : GG} {d : Nat} (hD : 1 ≤ d) {x1 x2 : Int} {M : MM} (hM : LM M) {V : VV} {o : AV × MM} {P : ((Int × VV) ⊕ (VV)) → Prop} (c0 : ∀ s : Int × VV, P (.inl s) → Sem g d YX16_block 2 [(1, 156), (0, x1), (0, s.1), (9, 0), (9, 0), (9, 0), (9, 0), (9, 0), (9, 0), (9, 0), (9, 0)] [] (wr M s.2) o) (r0 : ∀ r : VV, P (.inr r) → o = ((9, 0), (wr M r))) {z : (Int × VV) ⊕ (VV)} (h : b_X16_block_2 x1 x2 V = some z) (hz : P z) : Sem g d YX16_block 2 [(1, 156), (0, x1), (0, x2), (9, 0), (9, 0), (9, 0), (9, 0), (9, 0), (9, 0), (9, 0), (9, 0)] [] (wr M V) o := by
  delta b_X16_block_2 at h
  refine S_iload_n (i := 2) dX16_block_2 rfl rfl ?_
  refine S_bipush (z := 16) dX16_block_3 rfl ?_
  refine P_icmp_ge (tgt := 68) dX16_block_5 rfl h (fun h => ?_) (fun h => ?_)
  · refine S_weak (ls' := [(1, 156), (9, 0), (9, 0), (9, 0), (9, 0), (9, 0), (9, 0), (9, 0), (9, 0), (9, 0), (9, 0)]) ⟨Or.inr rfl, ⟨Or.inl rfl, ⟨Or.inl rfl, ⟨Or.inl rfl, ⟨Or.inl rfl, ⟨Or.inl rfl, ⟨Or.inl rfl, ⟨Or.inl rfl, ⟨Or.inl rfl, ⟨Or.inl rfl, ⟨Or.inl rfl, trivial⟩⟩⟩⟩⟩⟩⟩⟩⟩⟩⟩ ?_
    obtain ⟨z0, h, hz⟩ := xit_some' (P := fun r => P r) h hz
    exact s_X16_block_68 hD hM (P := fun r => P (.inr r)) r0 h hz
  · refine S_iload_n (i := 1) dX16_block_8 rfl rfl ?_
    refine S_iconst dX16_block_9 rfl ?_
    refine S_iload_n (i := 2) dX16_block_10 rfl rfl ?_
    refine S_imul dX16_block_11 ?_
    refine S_iadd dX16_block_12 ?_
    refine S_istore_n (i := 3) dX16_block_13 rfl (Nat.le_of_ble_eq_true rfl) rfl rfl ?_
    change Sem g d YX16_block 14 [(1, 156), (0, x1), (0, x2), (0, x1 + (4 * x2)), (9, 0), (9, 0), (9, 0), (9, 0), (9, 0), (9, 0), (9, 0)] [] (wr M V) o
    refine S_aload_n (i := 0) dX16_block_14 rfl rfl ?_
    refine P2_gfr hM (a := 160) FLX16_19 rfl ⟨rfl, rfl⟩ dX16_block_15 ?_
    refine S_iload_n (i := 2) dX16_block_18 rfl rfl ?_
    refine S_aload_n (i := 0) dX16_block_19 rfl rfl ?_
    refine P2_gfr hM (a := 159) FLX16_16 rfl ⟨rfl, rfl⟩ dX16_block_20 ?_
    refine S_iload_n (i := 3) dX16_block_23 rfl rfl ?_
    refine P2_lai hM (a := 159) (n := 576) rfl dX16_block_24 h (fun v1 h => ?_)
    refine S_bipush (z := 24) dX16_block_25 rfl ?_
    refine S_ishl dX16_block_27 ?_
    refine S_aload_n (i := 0) dX16_block_28 rfl rfl ?_
    refine P2_gfr hM (a := 159) FLX16_16 rfl ⟨rfl, rfl⟩ dX16_block_29 ?_
    refine S_iload_n (i := 3) dX16_block_32 rfl rfl ?_
    refine S_iconst dX16_block_33 rfl ?_
    refine S_iadd dX16_block_34 ?_
    refine P2_lai hM (a := 159) (n := 576) rfl dX16_block_35 h (fun v2 h => ?_)
    refine S_bipush (z := 16) dX16_block_36 rfl ?_
    refine S_ishl dX16_block_38 ?_
    refine S_ior dX16_block_39 ?_
    refine S_aload_n (i := 0) dX16_block_40 rfl rfl ?_
    refine P2_gfr hM (a := 159) FLX16_16 rfl ⟨rfl, rfl⟩ dX16_block_41 ?_
    refine S_iload_n (i := 3) dX16_block_44 rfl rfl ?_
    refine S_iconst dX16_block_45 rfl ?_
    refine S_iadd dX16_block_46 ?_
    refine P2_lai hM (a := 159) (n := 576) rfl dX16_block_47 h (fun v3 h => ?_)
    refine S_bipush (z := 8) dX16_block_48 rfl ?_
    refine S_ishl dX16_block_50 ?_
    refine S_ior dX16_block_51 ?_
    refine S_aload_n (i := 0) dX16_block_52 rfl rfl ?_
    refine P2_gfr hM (a := 159) FLX16_16 rfl ⟨rfl, rfl⟩ dX16_block_53 ?_
    refine S_iload_n (i := 3) dX16_block_56 rfl rfl ?_
    refine S_iconst dX16_block_57 rfl ?_
    refine S_iadd dX16_block_58 ?_
    refine P2_lai hM (a := 159) (n := 576) rfl dX16_block_59 h (fun v4 h => ?_)
    refine S_ior dX16_block_60 ?_
    refine P2_sai hM (a := 160) (n := 80) rfl dX16_block_61 h (fun V1 h => ?_)
    refine S_iinc dX16_block_62 rfl rfl rfl ?_
    change Sem g d YX16_block 65 [(1, 156), (0, x1), (0, x2 + 1), (0, x1 + (4 * x2)), (9, 0), (9, 0), (9, 0), (9, 0), (9, 0), (9, 0), (9, 0)] [] (wr M V1) o
    refine S_goto (tgt := 2) dX16_block_65 rfl ?_
    refine S_weak (ls' := [(1, 156), (0, x1), (0, x2 + 1), (9, 0), (9, 0), (9, 0), (9, 0), (9, 0), (9, 0), (9, 0), (9, 0)]) ⟨Or.inr rfl, ⟨Or.inr rfl, ⟨Or.inr rfl, ⟨Or.inl rfl, ⟨Or.inl rfl, ⟨Or.inl rfl, ⟨Or.inl rfl, ⟨Or.inl rfl, ⟨Or.inl rfl, ⟨Or.inl rfl, ⟨Or.inl rfl, trivial⟩⟩⟩⟩⟩⟩⟩⟩⟩⟩⟩ ?_
    exact c0 (x2 + 1, V1) (some_P (P := fun r => P r) h hz)
theorem sl_X16_block_2 {g : GG} {d : Nat} (hD : 1 ≤ d) {x1 x2 : Int} {M : MM} (hM : LM M) {V : VV} {o : AV × MM} {P : (VV) → Prop} (r0 : ∀ r : VV, P r → o = ((9, 0), (wr M r))) {z : VV} (h : l_X16_block_2 x1 x2 V = some z) (hz : P z) : Sem g d YX16_block 2 [(1, 156), (0, x1), (0, x2), (9, 0), (9, 0), (9, 0), (9, 0), (9, 0), (9, 0), (9, 0), (9, 0)] [] (wr M V) o := by
  refine lp_sound (S := fun s : Int × VV => Sem g d YX16_block 2 [(1, 156), (0, x1), (0, s.1), (9, 0), (9, 0), (9, 0), (9, 0), (9, 0), (9, 0), (9, 0), (9, 0)] [] (wr M s.2) o) (P := P) ?_ FU (x2, V) z h hz
  intro s x hx hP
  exact s_X16_block_2 hD hM (P := Sum.elim (fun s : Int × VV => Sem g d YX16_block 2 [(1, 156), (0, x1), (0, s.1), (9, 0), (9, 0), (9, 0), (9, 0), (9, 0), (9, 0), (9, 0), (9, 0)] [] (wr M s.2) o) P) (fun s h => h) (fun s h => r0 s h) hx hP
theorem s_X16_block_0 {g : GG} {d : Nat} (hD : 1 ≤ d) {x1 : Int} {M : MM} (hM : LM M) {V : VV} {o : AV × MM} {P : (VV) → Prop} (r0 : ∀ r : VV, P r → o = ((9, 0), (wr M r))) {z : VV} (h : f_X16_block x1 V = some z) (hz : P z) : Sem g d YX16_block 0 [(1, 156), (0, x1), (9, 0), (9, 0), (9, 0), (9, 0), (9, 0), (9, 0), (9, 0), (9, 0), (9, 0)] [] (wr M V) o := by
  delta f_X16_block at h
  refine S_iconst dX16_block_0 rfl ?_
  refine S_istore_n (i := 2) dX16_block_1 rfl (Nat.le_of_ble_eq_true rfl) rfl rfl ?_
  change Sem g d YX16_block 2 [(1, 156), (0, x1), (0, 0), (9, 0), (9, 0), (9, 0), (9, 0), (9, 0), (9, 0), (9, 0), (9, 0)] [] (wr M V) o
  exact sl_X16_block_2 hD hM r0 h hz
theorem F_X16_block {g : GG} {d : Nat} (hD : 1 ≤ d) {x1 : Int} {M : MM} (hM : LM M) {V : VV} {r : VV} (h : f_X16_block x1 V = some r) : Sem g d YX16_block 0 (ini YX16_block [(1, 156), (0, x1)]) [] (wr M V) ((9, 0), (wr M r)) := by
  change Sem g d YX16_block 0 [(1, 156), (0, x1), (9, 0), (9, 0), (9, 0), (9, 0), (9, 0), (9, 0), (9, 0), (9, 0), (9, 0)] [] (wr M V) ((9, 0), (wr M r))
  exact s_X16_block_0 hD hM (P := fun x => x = r) (fun q e => by rw [e]) h rfl
/-! PeerSearchModel.sha(I)V -/
theorem dX16_sha_0 : decode cX16_sha 0 = .ok (.iload_n 1, 1) := by decide +kernel
theorem dX16_sha_1 : decode cX16_sha 1 = .ok (.bipush 8, 2) := by decide +kernel
theorem dX16_sha_3 : decode cX16_sha 3 = .ok (.iadd, 1) := by decide +kernel
theorem dX16_sha_4 : decode cX16_sha 4 = .ok (.bipush 64, 2) := by decide +kernel
theorem dX16_sha_6 : decode cX16_sha 6 = .ok (.idiv, 1) := by decide +kernel
theorem dX16_sha_7 : decode cX16_sha 7 = .ok (.bipush 64, 2) := by decide +kernel
theorem dX16_sha_9 : decode cX16_sha 9 = .ok (.imul, 1) := by decide +kernel
theorem dX16_sha_10 : decode cX16_sha 10 = .ok (.bipush 64, 2) := by decide +kernel
theorem dX16_sha_12 : decode cX16_sha 12 = .ok (.iadd, 1) := by decide +kernel
theorem dX16_sha_13 : decode cX16_sha 13 = .ok (.istore_n 2, 1) := by decide +kernel
theorem dX16_sha_14 : decode cX16_sha 14 = .ok (.aload_n 0, 1) := by decide +kernel
theorem dX16_sha_15 : decode cX16_sha 15 = .ok (.getfield 16, 3) := by decide +kernel
theorem dX16_sha_18 : decode cX16_sha 18 = .ok (.iload_n 1, 1) := by decide +kernel
theorem dX16_sha_19 : decode cX16_sha 19 = .ok (.sipush 128, 3) := by decide +kernel
theorem dX16_sha_22 : decode cX16_sha 22 = .ok (.iastore, 1) := by decide +kernel
theorem dX16_sha_23 : decode cX16_sha 23 = .ok (.iload_n 1, 1) := by decide +kernel
theorem dX16_sha_24 : decode cX16_sha 24 = .ok (.iconst 1, 1) := by decide +kernel
theorem dX16_sha_25 : decode cX16_sha 25 = .ok (.iadd, 1) := by decide +kernel
theorem dX16_sha_26 : decode cX16_sha 26 = .ok (.istore_n 3, 1) := by decide +kernel
theorem dX16_sha_27 : decode cX16_sha 27 = .ok (.iload_n 3, 1) := by decide +kernel
theorem dX16_sha_28 : decode cX16_sha 28 = .ok (.iload_n 2, 1) := by decide +kernel
theorem dX16_sha_29 : decode cX16_sha 29 = .ok (.if_icmp .ge 16, 3) := by decide +kernel
theorem dX16_sha_32 : decode cX16_sha 32 = .ok (.aload_n 0, 1) := by decide +kernel
theorem dX16_sha_33 : decode cX16_sha 33 = .ok (.getfield 16, 3) := by decide +kernel
theorem dX16_sha_36 : decode cX16_sha 36 = .ok (.iload_n 3, 1) := by decide +kernel
theorem dX16_sha_37 : decode cX16_sha 37 = .ok (.iconst 0, 1) := by decide +kernel
theorem dX16_sha_38 : decode cX16_sha 38 = .ok (.iastore, 1) := by decide +kernel
theorem dX16_sha_39 : decode cX16_sha 39 = .ok (.iinc 3 1, 3) := by decide +kernel
theorem dX16_sha_42 : decode cX16_sha 42 = .ok (.goto (-15), 3) := by decide +kernel
theorem dX16_sha_45 : decode cX16_sha 45 = .ok (.bipush 8, 2) := by decide +kernel
theorem dX16_sha_47 : decode cX16_sha 47 = .ok (.iload_n 1, 1) := by decide +kernel
theorem dX16_sha_48 : decode cX16_sha 48 = .ok (.imul, 1) := by decide +kernel
theorem dX16_sha_49 : decode cX16_sha 49 = .ok (.istore_n 3, 1) := by decide +kernel
theorem dX16_sha_50 : decode cX16_sha 50 = .ok (.iconst 0, 1) := by decide +kernel
theorem dX16_sha_51 : decode cX16_sha 51 = .ok (.istore 4, 2) := by decide +kernel
theorem dX16_sha_53 : decode cX16_sha 53 = .ok (.iload 4, 2) := by decide +kernel
theorem dX16_sha_55 : decode cX16_sha 55 = .ok (.iconst 4, 1) := by decide +kernel
theorem dX16_sha_56 : decode cX16_sha 56 = .ok (.if_icmp .ge 31, 3) := by decide +kernel
theorem dX16_sha_59 : decode cX16_sha 59 = .ok (.aload_n 0, 1) := by decide +kernel
theorem dX16_sha_60 : decode cX16_sha 60 = .ok (.getfield 16, 3) := by decide +kernel
theorem dX16_sha_63 : decode cX16_sha 63 = .ok (.iload_n 2, 1) := by decide +kernel
theorem dX16_sha_64 : decode cX16_sha 64 = .ok (.iconst 1, 1) := by decide +kernel
theorem dX16_sha_65 : decode cX16_sha 65 = .ok (.isub, 1) := by decide +kernel
theorem dX16_sha_66 : decode cX16_sha 66 = .ok (.iload 4, 2) := by decide +kernel
theorem dX16_sha_68 : decode cX16_sha 68 = .ok (.isub, 1) := by decide +kernel
theorem dX16_sha_69 : decode cX16_sha 69 = .ok (.iload_n 3, 1) := by decide +kernel
theorem dX16_sha_70 : decode cX16_sha 70 = .ok (.bipush 8, 2) := by decide +kernel
theorem dX16_sha_72 : decode cX16_sha 72 = .ok (.iload 4, 2) := by decide +kernel
theorem dX16_sha_74 : decode cX16_sha 74 = .ok (.imul, 1) := by decide +kernel
theorem dX16_sha_75 : decode cX16_sha 75 = .ok (.iushr, 1) := by decide +kernel
theorem dX16_sha_76 : decode cX16_sha 76 = .ok (.sipush 255, 3) := by decide +kernel
theorem dX16_sha_79 : decode cX16_sha 79 = .ok (.iand, 1) := by decide +kernel
theorem dX16_sha_80 : decode cX16_sha 80 = .ok (.iastore, 1) := by decide +kernel
theorem dX16_sha_81 : decode cX16_sha 81 = .ok (.iinc 4 1, 3) := by decide +kernel
theorem dX16_sha_84 : decode cX16_sha 84 = .ok (.goto (-31), 3) := by decide +kernel
theorem dX16_sha_87 : decode cX16_sha 87 = .ok (.aload_n 0, 1) := by decide +kernel
theorem dX16_sha_88 : decode cX16_sha 88 = .ok (.getfield 22, 3) := by decide +kernel
theorem dX16_sha_91 : decode cX16_sha 91 = .ok (.iconst 0, 1) := by decide +kernel
theorem dX16_sha_92 : decode cX16_sha 92 = .ok (.ldc_w 390, 3) := by decide +kernel
theorem dX16_sha_95 : decode cX16_sha 95 = .ok (.iastore, 1) := by decide +kernel
theorem dX16_sha_96 : decode cX16_sha 96 = .ok (.aload_n 0, 1) := by decide +kernel
theorem dX16_sha_97 : decode cX16_sha 97 = .ok (.getfield 22, 3) := by decide +kernel
theorem dX16_sha_100 : decode cX16_sha 100 = .ok (.iconst 1, 1) := by decide +kernel
theorem dX16_sha_101 : decode cX16_sha 101 = .ok (.ldc_w 391, 3) := by decide +kernel
theorem dX16_sha_104 : decode cX16_sha 104 = .ok (.iastore, 1) := by decide +kernel
theorem dX16_sha_105 : decode cX16_sha 105 = .ok (.aload_n 0, 1) := by decide +kernel
theorem dX16_sha_106 : decode cX16_sha 106 = .ok (.getfield 22, 3) := by decide +kernel
theorem dX16_sha_109 : decode cX16_sha 109 = .ok (.iconst 2, 1) := by decide +kernel
theorem dX16_sha_110 : decode cX16_sha 110 = .ok (.ldc_w 392, 3) := by decide +kernel
theorem dX16_sha_113 : decode cX16_sha 113 = .ok (.iastore, 1) := by decide +kernel
theorem dX16_sha_114 : decode cX16_sha 114 = .ok (.aload_n 0, 1) := by decide +kernel
theorem dX16_sha_115 : decode cX16_sha 115 = .ok (.getfield 22, 3) := by decide +kernel
theorem dX16_sha_118 : decode cX16_sha 118 = .ok (.iconst 3, 1) := by decide +kernel
theorem dX16_sha_119 : decode cX16_sha 119 = .ok (.ldc_w 393, 3) := by decide +kernel
theorem dX16_sha_122 : decode cX16_sha 122 = .ok (.iastore, 1) := by decide +kernel
theorem dX16_sha_123 : decode cX16_sha 123 = .ok (.aload_n 0, 1) := by decide +kernel
theorem dX16_sha_124 : decode cX16_sha 124 = .ok (.getfield 22, 3) := by decide +kernel
theorem dX16_sha_127 : decode cX16_sha 127 = .ok (.iconst 4, 1) := by decide +kernel
theorem dX16_sha_128 : decode cX16_sha 128 = .ok (.ldc_w 394, 3) := by decide +kernel
theorem dX16_sha_131 : decode cX16_sha 131 = .ok (.iastore, 1) := by decide +kernel
theorem dX16_sha_132 : decode cX16_sha 132 = .ok (.iconst 0, 1) := by decide +kernel
theorem dX16_sha_133 : decode cX16_sha 133 = .ok (.istore 4, 2) := by decide +kernel
theorem dX16_sha_135 : decode cX16_sha 135 = .ok (.iload 4, 2) := by decide +kernel
theorem dX16_sha_137 : decode cX16_sha 137 = .ok (.iload_n 2, 1) := by decide +kernel
theorem dX16_sha_138 : decode cX16_sha 138 = .ok (.if_icmp .ge 15, 3) := by decide +kernel
theorem dX16_sha_141 : decode cX16_sha 141 = .ok (.aload_n 0, 1) := by decide +kernel
theorem dX16_sha_142 : decode cX16_sha 142 = .ok (.iload 4, 2) := by decide +kernel
theorem dX16_sha_144 : decode cX16_sha 144 = .ok (.invokevirtual 395, 3) := by decide +kernel
theorem dX16_sha_147 : decode cX16_sha 147 = .ok (.iinc 4 64, 3) := by decide +kernel
theorem dX16_sha_150 : decode cX16_sha 150 = .ok (.goto (-15), 3) := by decide +kernel
theorem dX16_sha_153 : decode cX16_sha 153 = .ok (.return_, 1) := by decide +kernel
def b_X16_sha_135 (x2 x4 : Int) (V : VV) : Option ((Int × VV) ⊕ (VV)) :=
  if w32 x4 < w32 x2 then
    (f_X16_block x4 V).bind fun V1 =>
    cnt (x4 + 64, V1)
  else
    xit (some V)
def l_X16_sha_135 (x2 x4 : Int) (V : VV) : Option (VV) := lpN (fun s : Int × VV => b_X16_sha_135 x2 s.1 s.2) FU (x4, V)
def j_X16_sha_87 (x2 : Int) (V : VV) : Option (VV) :=
  (s2 161 5 0 1732584193 V).bind fun V1 =>
  (s2 161 5 1 (-271733879) V1).bind fun V2 =>
  (s2 161 5 2 (-1732584194) V2).bind fun V3 =>
  (s2 161 5 3 271733878 V3).bind fun V4 =>
  (s2 161 5 4 (-1009589776) V4).bind fun V5 =>
  l_X16_sha_135 x2 0 V5
def b_X16_sha_53 (x2 x3 x4 : Int) (V : VV) : Option ((Int × VV) ⊕ (VV)) :=
  if w32 x4 < w32 4 then
    (s2 159 576 ((x2 - 1) - x4) (band (bush x3 (8 * x4)) 255) V).bind fun V1 =>
    cnt (x4 + 1, V1)
  else
    xit (j_X16_sha_87 x2 V)
def l_X16_sha_53 (x2 x3 x4 : Int) (V : VV) : Option (VV) := lpN (fun s : Int × VV => b_X16_sha_53 x2 x3 s.1 s.2) FU (x4, V)
def j_X16_sha_45 (x1 x2 : Int) (V : VV) : Option (VV) :=
  l_X16_sha_53 x2 (8 * x1) 0 V
def b_X16_sha_27 (x1 x2 x3 : Int) (V : VV) : Option ((Int × VV) ⊕ (VV)) :=
  if w32 x3 < w32 x2 then
    (s2 159 576 x3 0 V).bind fun V1 =>
    cnt (x3 + 1, V1)
  else
    xit (j_X16_sha_45 x1 x2 V)
def l_X16_sha_27 (x1 x2 x3 : Int) (V : VV) : Option (VV) := lpN (fun s : Int × VV => b_X16_sha_27 x1 x2 s.1 s.2) FU (x3, V)
def f_X16_sha (x1 : Int) (V : VV) : Option (VV) :=
  (dvi (x1 + 8) 64).bind fun v1 =>
  (s2 159 576 x1 128 V).bind fun V1 =>
  l_X16_sha_27 x1 ((v1 * 64) + 64) (x1 + 1) V1
theorem s_X16_sha_135 {g : GG} {d : Nat} (hD : 2 ≤ d) {x2 x4 : Int} {M : MM} (hM : LM M) {V : VV} {o : AV × MM} {P : ((Int × VV) ⊕ (VV)) → Prop} (c0 : ∀ s : Int × VV, P (.inl s) → Sem g d YX16_sha 135 [(1, 156), (9, 0), (0, x2), (9, 0), (0, s.1)] [] (wr M s.2) o) (r0 : ∀ r : VV, P (.inr r) → o = ((9, 0), (wr M r))) {z : (Int × VV) ⊕ (VV)} (h : b_X16_sha_135 x2 x4 V = some z) (hz : P z) : Sem g d YX16_sha 135 [(1, 156), (9, 0), (0, x2), (9, 0), (0, x4)] [] (wr M V) o := by
  delta b_X16_sha_135 at h
  refine S_iload dX16_sha_135 rfl ?_
  refine S_iload_n (i := 2) dX16_sha_137 rfl rfl ?_
  refine P_icmp_ge (tgt := 153) dX16_sha_138 rfl h (fun h => ?_) (fun h => ?_)
  · obtain ⟨z0, h, hz⟩ := xit_some' (P := fun r => P r) h hz
    obtain rfl := r0 _ (some_P (P := fun r => P (.inr r)) h hz)
    exact S_return dX16_sha_153 rfl
  · refine S_aload_n (i := 0) dX16_sha_141 rfl rfl ?_
    refine S_iload dX16_sha_142 rfl ?_
    refine P2_invVm hM [(0, x4)] [] CVX16_block MLX16_395 dX16_sha_144 rfl rfl rfl rfl (by omega) h (fun r h => F_X16_block (by omega) hM h) (fun V1 h => ?_)
    refine S_iinc dX16_sha_147 rfl rfl rfl ?_
    change Sem g d YX16_sha 150 [(1, 156), (9, 0), (0, x2), (9, 0), (0, x4 + 64)] [] (wr M V1) o
    refine S_goto (tgt := 135) dX16_sha_150 rfl ?_
    exact c0 (x4 + 64, V1) (some_P (P := fun r => P r) h hz)
theorem sl_X16_sha_135 {g : GG} {d : Nat} (hD : 2 ≤ d) {x2 x4 : Int} {M : MM} (hM : LM M) {V : VV} {o : AV × MM} {P : (VV) → Prop} (r0 : ∀ r : VV, P r → o = ((9, 0), (wr M r))) {z : VV} (h : l_X16_sha_135 x2 x4 V = some z) (hz : P z) : Sem g d YX16_sha 135 [(1, 156), (9, 0), (0, x2), (9, 0), (0, x4)] [] (wr M V) o := by
  refine lp_sound (S := fun s : Int × VV => Sem g d YX16_sha 135 [(1, 156), (9, 0), (0, x2), (9, 0), (0, s.1)] [] (wr M s.2) o) (P := P) ?_ FU (x4, V) z h hz
  intro s x hx hP
  exact s_X16_sha_135 hD hM (P := Sum.elim (fun s : Int × VV => Sem g d YX16_sha 135 [(1, 156), (9, 0), (0, x2), (9, 0), (0, s.1)] [] (wr M s.2) o) P) (fun s h => h) (fun s h => r0 s h) hx hP
theorem s_X16_sha_87 {g : GG} {d : Nat} (hD : 2 ≤ d) {x2 : Int} {M : MM} (hM : LM M) {V : VV} {o : AV × MM} {P : (VV) → Prop} (r0 : ∀ r : VV, P r → o = ((9, 0), (wr M r))) {z : VV} (h : j_X16_sha_87 x2 V = some z) (hz : P z) : Sem g d YX16_sha 87 [(1, 156), (9, 0), (0, x2), (9, 0), (9, 0)] [] (wr M V) o := by
  delta j_X16_sha_87 at h
  refine S_aload_n (i := 0) dX16_sha_87 rfl rfl ?_
  refine P2_gfr hM (a := 161) FLX16_22 rfl ⟨rfl, rfl⟩ dX16_sha_88 ?_
  refine S_iconst dX16_sha_91 rfl ?_
  refine S_ldcw (z := 1732584193) kX16_390 dX16_sha_92 ?_
  refine P2_sai hM (a := 161) (n := 5) rfl dX16_sha_95 h (fun V1 h => ?_)
  refine S_aload_n (i := 0) dX16_sha_96 rfl rfl ?_
  refine P2_gfr hM (a := 161) FLX16_22 rfl ⟨rfl, rfl⟩ dX16_sha_97 ?_
  refine S_iconst dX16_sha_100 rfl ?_
  refine S_ldcw (z := (-271733879)) kX16_391 dX16_sha_101 ?_
  refine P2_sai hM (a := 161) (n := 5) rfl dX16_sha_104 h (fun V2 h => ?_)
  refine S_aload_n (i := 0) dX16_sha_105 rfl rfl ?_
  refine P2_gfr hM (a := 161) FLX16_22 rfl ⟨rfl, rfl⟩ dX16_sha_106 ?_
  refine S_iconst dX16_sha_109 rfl ?_
  refine S_ldcw (z := (-1732584194)) kX16_392 dX16_sha_110 ?_
  refine P2_sai hM (a := 161) (n := 5) rfl dX16_sha_113 h (fun V3 h => ?_)
  refine S_aload_n (i := 0) dX16_sha_114 rfl rfl ?_
  refine P2_gfr hM (a := 161) FLX16_22 rfl ⟨rfl, rfl⟩ dX16_sha_115 ?_
  refine S_iconst dX16_sha_118 rfl ?_
  refine S_ldcw (z := 271733878) kX16_393 dX16_sha_119 ?_
  refine P2_sai hM (a := 161) (n := 5) rfl dX16_sha_122 h (fun V4 h => ?_)
  refine S_aload_n (i := 0) dX16_sha_123 rfl rfl ?_
  refine P2_gfr hM (a := 161) FLX16_22 rfl ⟨rfl, rfl⟩ dX16_sha_124 ?_
  refine S_iconst dX16_sha_127 rfl ?_
  refine S_ldcw (z := (-1009589776)) kX16_394 dX16_sha_128 ?_
  refine P2_sai hM (a := 161) (n := 5) rfl dX16_sha_131 h (fun V5 h => ?_)
  refine S_iconst dX16_sha_132 rfl ?_
  refine S_istore dX16_sha_133 (Nat.le_of_ble_eq_true rfl) rfl rfl ?_
  change Sem g d YX16_sha 135 [(1, 156), (9, 0), (0, x2), (9, 0), (0, 0)] [] (wr M V5) o
  exact sl_X16_sha_135 hD hM r0 h hz
theorem s_X16_sha_53 {g : GG} {d : Nat} (hD : 2 ≤ d) {x2 x3 x4 : Int} {M : MM} (hM : LM M) {V : VV} {o : AV × MM} {P : ((Int × VV) ⊕ (VV)) → Prop} (c0 : ∀ s : Int × VV, P (.inl s) → Sem g d YX16_sha 53 [(1, 156), (9, 0), (0, x2), (0, x3), (0, s.1)] [] (wr M s.2) o) (r0 : ∀ r : VV, P (.inr r) → o = ((9, 0), (wr M r))) {z : (Int × VV) ⊕ (VV)} (h : b_X16_sha_53 x2 x3 x4 V = some z) (hz : P z) : Sem g d YX16_sha 53 [(1, 156), (9, 0), (0, x2), (0, x3), (0, x4)] [] (wr M V) o := by
  delta b_X16_sha_53 at h
  refine S_iload dX16_sha_53 rfl ?_
  refine S_iconst dX16_sha_55 rfl ?_
  refine P_icmp_ge (tgt := 87) dX16_sha_56 rfl h (fun h => ?_) (fun h => ?_)
  · refine S_weak (ls' := [(1, 156), (9, 0), (0, x2), (9, 0), (9, 0)]) ⟨Or.inr rfl, ⟨Or.inl rfl, ⟨Or.inr rfl, ⟨Or.inl rfl, ⟨Or.inl rfl, trivial⟩⟩⟩⟩⟩ ?_
    obtain ⟨z0, h, hz⟩ := xit_some' (P := fun r => P r) h hz
    exact s_X16_sha_87 hD hM (P := fun r => P (.inr r)) r0 h hz
  · refine S_aload_n (i := 0) dX16_sha_59 rfl rfl ?_
    refine P2_gfr hM (a := 159) FLX16_16 rfl ⟨rfl, rfl⟩ dX16_sha_60 ?_
    refine S_iload_n (i := 2) dX16_sha_63 rfl rfl ?_
    refine S_iconst dX16_sha_64 rfl ?_
    refine S_isub dX16_sha_65 ?_
    refine S_iload dX16_sha_66 rfl ?_
    refine S_isub dX16_sha_68 ?_
    refine S_iload_n (i := 3) dX16_sha_69 rfl rfl ?_
    refine S_bipush (z := 8) dX16_sha_70 rfl ?_
    refine S_iload dX16_sha_72 rfl ?_
    refine S_imul dX16_sha_74 ?_
    refine S_iushr dX16_sha_75 ?_
    refine S_sipush (z := 255) dX16_sha_76 rfl ?_
    refine S_iand dX16_sha_79 ?_
    refine P2_sai hM (a := 159) (n := 576) rfl dX16_sha_80 h (fun V1 h => ?_)
    refine S_iinc dX16_sha_81 rfl rfl rfl ?_
    change Sem g d YX16_sha 84 [(1, 156), (9, 0), (0, x2), (0, x3), (0, x4 + 1)] [] (wr M V1) o
    refine S_goto (tgt := 53) dX16_sha_84 rfl ?_
    exact c0 (x4 + 1, V1) (some_P (P := fun r => P r) h hz)
theorem sl_X16_sha_53 {g : GG} {d : Nat} (hD : 2 ≤ d) {x2 x3 x4 : Int} {M : MM} (hM : LM M) {V : VV} {o : AV × MM} {P : (VV) → Prop} (r0 : ∀ r : VV, P r → o = ((9, 0), (wr M r))) {z : VV} (h : l_X16_sha_53 x2 x3 x4 V = some z) (hz : P z) : Sem g d YX16_sha 53 [(1, 156), (9, 0), (0, x2), (0, x3), (0, x4)] [] (wr M V) o := by
  refine lp_sound (S := fun s : Int × VV => Sem g d YX16_sha 53 [(1, 156), (9, 0), (0, x2), (0, x3), (0, s.1)] [] (wr M s.2) o) (P := P) ?_ FU (x4, V) z h hz
  intro s x hx hP
  exact s_X16_sha_53 hD hM (P := Sum.elim (fun s : Int × VV => Sem g d YX16_sha 53 [(1, 156), (9, 0), (0, x2), (0, x3), (0, s.1)] [] (wr M s.2) o) P) (fun s h => h) (fun s h => r0 s h) hx hP
theorem s_X16_sha_45 {g : GG} {d : Nat} (hD : 2 ≤ d) {x1 x2 : Int} {M : MM} (hM : LM M) {V : VV} {o : AV × MM} {P : (VV) → Prop} (r0 : ∀ r : VV, P r → o = ((9, 0), (wr M r))) {z : VV} (h : j_X16_sha_45 x1 x2 V = some z) (hz : P z) : Sem g d YX16_sha 45 [(1, 156), (0, x1), (0, x2), (9, 0), (9, 0)] [] (wr M V) o := by
  delta j_X16_sha_45 at h
  refine S_bipush (z := 8) dX16_sha_45 rfl ?_
  refine S_iload_n (i := 1) dX16_sha_47 rfl rfl ?_
  refine S_imul dX16_sha_48 ?_
  refine S_istore_n (i := 3) dX16_sha_49 rfl (Nat.le_of_ble_eq_true rfl) rfl rfl ?_
  change Sem g d YX16_sha 50 [(1, 156), (0, x1), (0, x2), (0, 8 * x1), (9, 0)] [] (wr M V) o
  refine S_iconst dX16_sha_50 rfl ?_
  refine S_istore dX16_sha_51 (Nat.le_of_ble_eq_true rfl) rfl rfl ?_
  change Sem g d YX16_sha 53 [(1, 156), (0, x1), (0, x2), (0, 8 * x1), (0, 0)] [] (wr M V) o
  refine S_weak (ls' := [(1, 156), (9, 0), (0, x2), (0, 8 * x1), (0, 0)]) ⟨Or.inr rfl, ⟨Or.inl rfl, ⟨Or.inr rfl, ⟨Or.inr rfl, ⟨Or.inr rfl, trivial⟩⟩⟩⟩⟩ ?_
  exact sl_X16_sha_53 hD hM r0 h hz
theorem s_X16_sha_27 {g : GG} {d : Nat} (hD : 2 ≤ d) {x1 x2 x3 : Int} {M : MM} (hM : LM M) {V : VV} {o : AV × MM} {P : ((Int × VV) ⊕ (VV)) → Prop} (c0 : ∀ s : Int × VV, P (.inl s) → Sem g d YX16_sha 27 [(1, 156), (0, x1), (0, x2), (0, s.1), (9, 0)] [] (wr M s.2) o) (r0 : ∀ r : VV, P (.inr r) → o = ((9, 0), (wr M r))) {z : (Int × VV) ⊕ (VV)} (h : b_X16_sha_27 x1 x2 x3 V = some z) (hz : P z) : Sem g d YX16_sha 27 [(1, 156), (0, x1), (0, x2), (0, x3), (9, 0)] [] (wr M V) o := by
  delta b_X16_sha_27 at h
  refine S_iload_n (i := 3) dX16_sha_27 rfl rfl ?_
  refine S_iload_n (i := 2) dX16_sha_28 rfl rfl ?_
  refine P_icmp_ge (tgt := 45) dX16_sha_29 rfl h (fun h => ?_) (fun h => ?_)
  · refine S_weak (ls' := [(1, 156), (0, x1), (0, x2), (9, 0), (9, 0)]) ⟨Or.inr rfl, ⟨Or.inr rfl, ⟨Or.inr rfl, ⟨Or.inl rfl, ⟨Or.inl rfl, trivial⟩⟩⟩⟩⟩ ?_
    obtain ⟨z0, h, hz⟩ := xit_some' (P := fun r => P r) h hz
    exact s_X16_sha_45 hD hM (P := fun r => P (.inr r)) r0 h hz
  · refine S_aload_n (i := 0) dX16_sha_32 rfl rfl ?_
    refine P2_gfr hM (a := 159) FLX16_16 rfl ⟨rfl, rfl⟩ dX16_sha_33 ?_
    refine S_iload_n (i := 3) dX16_sha_36 rfl rfl ?_
    refine S_iconst dX16_sha_37 rfl ?_
    refine P2_sai hM (a := 159) (n := 576) rfl dX16_sha_38 h (fun V1 h => ?_)
    refine S_iinc dX16_sha_39 rfl rfl rfl ?_
    change Sem g d YX16_sha 42 [(1, 156), (0, x1), (0, x2), (0, x3 + 1), (9, 0)] [] (wr M V1) o
    refine S_goto (tgt := 27) dX16_sha_42 rfl ?_
    exact c0 (x3 + 1, V1) (some_P (P := fun r => P r) h hz)
theorem sl_X16_sha_27 {g : GG} {d : Nat} (hD : 2 ≤ d) {x1 x2 x3 : Int} {M : MM} (hM : LM M) {V : VV} {o : AV × MM} {P : (VV) → Prop} (r0 : ∀ r : VV, P r → o = ((9, 0), (wr M r))) {z : VV} (h : l_X16_sha_27 x1 x2 x3 V = some z) (hz : P z) : Sem g d YX16_sha 27 [(1, 156), (0, x1), (0, x2), (0, x3), (9, 0)] [] (wr M V) o := by
  refine lp_sound (S := fun s : Int × VV => Sem g d YX16_sha 27 [(1, 156), (0, x1), (0, x2), (0, s.1), (9, 0)] [] (wr M s.2) o) (P := P) ?_ FU (x3, V) z h hz
  intro s x hx hP
  exact s_X16_sha_27 hD hM (P := Sum.elim (fun s : Int × VV => Sem g d YX16_sha 27 [(1, 156), (0, x1), (0, x2), (0, s.1), (9, 0)] [] (wr M s.2) o) P) (fun s h => h) (fun s h => r0 s h) hx hP
theorem s_X16_sha_0 {g : GG} {d : Nat} (hD : 2 ≤ d) {x1 : Int} {M : MM} (hM : LM M) {V : VV} {o : AV × MM} {P : (VV) → Prop} (r0 : ∀ r : VV, P r → o = ((9, 0), (wr M r))) {z : VV} (h : f_X16_sha x1 V = some z) (hz : P z) : Sem g d YX16_sha 0 [(1, 156), (0, x1), (9, 0), (9, 0), (9, 0)] [] (wr M V) o := by
  delta f_X16_sha at h
  refine S_iload_n (i := 1) dX16_sha_0 rfl rfl ?_
  refine S_bipush (z := 8) dX16_sha_1 rfl ?_
  refine S_iadd dX16_sha_3 ?_
  refine S_bipush (z := 64) dX16_sha_4 rfl ?_
  refine P_dvi dX16_sha_6 h (fun v1 h => ?_)
  refine S_bipush (z := 64) dX16_sha_7 rfl ?_
  refine S_imul dX16_sha_9 ?_
  refine S_bipush (z := 64) dX16_sha_10 rfl ?_
  refine S_iadd dX16_sha_12 ?_
  refine S_istore_n (i := 2) dX16_sha_13 rfl (Nat.le_of_ble_eq_true rfl) rfl rfl ?_
  change Sem g d YX16_sha 14 [(1, 156), (0, x1), (0, (v1 * 64) + 64), (9, 0), (9, 0)] [] (wr M V) o
  refine S_aload_n (i := 0) dX16_sha_14 rfl rfl ?_
  refine P2_gfr hM (a := 159) FLX16_16 rfl ⟨rfl, rfl⟩ dX16_sha_15 ?_
  refine S_iload_n (i := 1) dX16_sha_18 rfl rfl ?_
  refine S_sipush (z := 128) dX16_sha_19 rfl ?_
  refine P2_sai hM (a := 159) (n := 576) rfl dX16_sha_22 h (fun V1 h => ?_)
  refine S_iload_n (i := 1) dX16_sha_23 rfl rfl ?_
  refine S_iconst dX16_sha_24 rfl ?_
  refine S_iadd dX16_sha_25 ?_
  refine S_istore_n (i := 3) dX16_sha_26 rfl (Nat.le_of_ble_eq_true rfl) rfl rfl ?_
  change Sem g d YX16_sha 27 [(1, 156), (0, x1), (0, (v1 * 64) + 64), (0, x1 + 1), (9, 0)] [] (wr M V1) o
  exact sl_X16_sha_27 hD hM r0 h hz
theorem F_X16_sha {g : GG} {d : Nat} (hD : 2 ≤ d) {x1 : Int} {M : MM} (hM : LM M) {V : VV} {r : VV} (h : f_X16_sha x1 V = some r) : Sem g d YX16_sha 0 (ini YX16_sha [(1, 156), (0, x1)]) [] (wr M V) ((9, 0), (wr M r)) := by
  change Sem g d YX16_sha 0 [(1, 156), (0, x1), (9, 0), (9, 0), (9, 0)] [] (wr M V) ((9, 0), (wr M r))
  exact s_X16_sha_0 hD hM (P := fun x => x = r) (fun q e => by rw [e]) h rfl
/-! PeerSearchModel.hashFound(I)V -/
theorem dX16_hashFound_0 : decode cX16_hashFound 0 = .ok (.iconst 0, 1) := by decide +kernel
theorem dX16_hashFound_1 : decode cX16_hashFound 1 = .ok (.istore_n 2, 1) := by decide +kernel
theorem dX16_hashFound_2 : decode cX16_hashFound 2 = .ok (.iload_n 2, 1) := by decide +kernel
theorem dX16_hashFound_3 : decode cX16_hashFound 3 = .ok (.aload_n 0, 1) := by decide +kernel
theorem dX16_hashFound_4 : decode cX16_hashFound 4 = .ok (.getfield 82, 3) := by decide +kernel
theorem dX16_hashFound_7 : decode cX16_hashFound 7 = .ok (.iload_n 1, 1) := by decide +kernel
theorem dX16_hashFound_8 : decode cX16_hashFound 8 = .ok (.iaload, 1) := by decide +kernel
theorem dX16_hashFound_9 : decode cX16_hashFound 9 = .ok (.if_icmp .ge 26, 3) := by decide +kernel
theorem dX16_hashFound_12 : decode cX16_hashFound 12 = .ok (.aload_n 0, 1) := by decide +kernel
theorem dX16_hashFound_13 : decode cX16_hashFound 13 = .ok (.getfield 16, 3) := by decide +kernel
theorem dX16_hashFound_16 : decode cX16_hashFound 16 = .ok (.iload_n 2, 1) := by decide +kernel
theorem dX16_hashFound_17 : decode cX16_hashFound 17 = .ok (.aload_n 0, 1) := by decide +kernel
theorem dX16_hashFound_18 : decode cX16_hashFound 18 = .ok (.getfield 79, 3) := by decide +kernel
theorem dX16_hashFound_21 : decode cX16_hashFound 21 = .ok (.bipush 12, 2) := by decide +kernel
theorem dX16_hashFound_23 : decode cX16_hashFound 23 = .ok (.iload_n 1, 1) := by decide +kernel
theorem dX16_hashFound_24 : decode cX16_hashFound 24 = .ok (.imul, 1) := by decide +kernel
theorem dX16_hashFound_25 : decode cX16_hashFound 25 = .ok (.iload_n 2, 1) := by decide +kernel
theorem dX16_hashFound_26 : decode cX16_hashFound 26 = .ok (.iadd, 1) := by decide +kernel
theorem dX16_hashFound_27 : decode cX16_hashFound 27 = .ok (.iaload, 1) := by decide +kernel
theorem dX16_hashFound_28 : decode cX16_hashFound 28 = .ok (.iastore, 1) := by decide +kernel
theorem dX16_hashFound_29 : decode cX16_hashFound 29 = .ok (.iinc 2 1, 3) := by decide +kernel
theorem dX16_hashFound_32 : decode cX16_hashFound 32 = .ok (.goto (-30), 3) := by decide +kernel
theorem dX16_hashFound_35 : decode cX16_hashFound 35 = .ok (.aload_n 0, 1) := by decide +kernel
theorem dX16_hashFound_36 : decode cX16_hashFound 36 = .ok (.aload_n 0, 1) := by decide +kernel
theorem dX16_hashFound_37 : decode cX16_hashFound 37 = .ok (.getfield 82, 3) := by decide +kernel
theorem dX16_hashFound_40 : decode cX16_hashFound 40 = .ok (.iload_n 1, 1) := by decide +kernel
theorem dX16_hashFound_41 : decode cX16_hashFound 41 = .ok (.iaload, 1) := by decide +kernel
theorem dX16_hashFound_42 : decode cX16_hashFound 42 = .ok (.invokevirtual 407, 3) := by decide +kernel
theorem dX16_hashFound_45 : decode cX16_hashFound 45 = .ok (.return_, 1) := by decide +kernel
def j_X16_hashFound_35 (x1 : Int) (V : VV) : Option (VV) :=
  (l2 180 250 x1 V).bind fun v1 =>
  (f_X16_sha v1 V).bind fun V1 =>
  some V1
def b_X16_hashFound_2 (x1 x2 : Int) (V : VV) : Option ((Int × VV) ⊕ (VV)) :=
  (l2 180 250 x1 V).bind fun v1 =>
  if w32 x2 < w32 v1 then
    (l2 179 3000 ((12 * x1) + x2) V).bind fun v2 =>
    (s2 159 576 x2 v2 V).bind fun V1 =>
    cnt (x2 + 1, V1)
  else
    xit (j_X16_hashFound_35 x1 V)
def l_X16_hashFound_2 (x1 x2 : Int) (V : VV) : Option (VV) := lpN (fun s : Int × VV => b_X16_hashFound_2 x1 s.1 s.2) FU (x2, V)
def f_X16_hashFound (x1 : Int) (V : VV) : Option (VV) :=
  l_X16_hashFound_2 x1 0 V
theorem s_X16_hashFound_35 {g : GG} {d : Nat} (hD : 3 ≤ d) {x1 : Int} {M : MM} (hM : LM M) {V : VV} {o : AV × MM} {P : (VV) → Prop} (r0 : ∀ r : VV, P r → o = ((9, 0), (wr M r))) {z : VV} (h : j_X16_hashFound_35 x1 V = some z) (hz : P z) : Sem g d YX16_hashFound 35 [(1, 156), (0, x1), (9, 0)] [] (wr M V) o := by
  delta j_X16_hashFound_35 at h
  refine S_aload_n (i := 0) dX16_hashFound_35 rfl rfl ?_
  refine S_aload_n (i := 0) dX16_hashFound_36 rfl rfl ?_
  refine P2_gfr hM (a := 180) FLX16_82 rfl ⟨rfl, rfl⟩ dX16_hashFound_37 ?_
  refine S_iload_n (i := 1) dX16_hashFound_40 rfl rfl ?_
  refine P2_lai hM (a := 180) (n := 250) rfl dX16_hashFound_41 h (fun v1 h => ?_)
  refine P2_invVm hM [(0, v1)] [] CVX16_sha MLX16_407 dX16_hashFound_42 rfl rfl rfl rfl (by omega) h (fun r h => F_X16_sha (by omega) hM h) (fun V1 h => ?_)
  obtain rfl := r0 _ (some_P (P := fun r => P r) h hz)
  exact S_return dX16_hashFound_45 rfl
theorem s_X16_hashFound_2 {g : GG} {d : Nat} (hD : 3 ≤ d) {x1 x2 : Int} {M : MM} (hM : LM M) {V : VV} {o : AV × MM} {P : ((Int × VV) ⊕ (VV)) → Prop} (c0 : ∀ s : Int × VV, P (.inl s) → Sem g d YX16_hashFound 2 [(1, 156), (0, x1), (0, s.1)] [] (wr M s.2) o) (r0 : ∀ r : VV, P (.inr r) → o = ((9, 0), (wr M r))) {z : (Int × VV) ⊕ (VV)} (h : b_X16_hashFound_2 x1 x2 V = some z) (hz : P z) : Sem g d YX16_hashFound 2 [(1, 156), (0, x1), (0, x2)] [] (wr M V) o := by
  delta b_X16_hashFound_2 at h
  refine S_iload_n (i := 2) dX16_hashFound_2 rfl rfl ?_
  refine S_aload_n (i := 0) dX16_hashFound_3 rfl rfl ?_
  refine P2_gfr hM (a := 180) FLX16_82 rfl ⟨rfl, rfl⟩ dX16_hashFound_4 ?_
  refine S_iload_n (i := 1) dX16_hashFound_7 rfl rfl ?_
  refine P2_lai hM (a := 180) (n := 250) rfl dX16_hashFound_8 h (fun v1 h => ?_)
  refine P_icmp_ge (tgt := 35) dX16_hashFound_9 rfl h (fun h => ?_) (fun h => ?_)
  · refine S_weak (ls' := [(1, 156), (0, x1), (9, 0)]) ⟨Or.inr rfl, ⟨Or.inr rfl, ⟨Or.inl rfl, trivial⟩⟩⟩ ?_
    obtain ⟨z0, h, hz⟩ := xit_some' (P := fun r => P r) h hz
    exact s_X16_hashFound_35 hD hM (P := fun r => P (.inr r)) r0 h hz
  · refine S_aload_n (i := 0) dX16_hashFound_12 rfl rfl ?_
    refine P2_gfr hM (a := 159) FLX16_16 rfl ⟨rfl, rfl⟩ dX16_hashFound_13 ?_
    refine S_iload_n (i := 2) dX16_hashFound_16 rfl rfl ?_
    refine S_aload_n (i := 0) dX16_hashFound_17 rfl rfl ?_
    refine P2_gfr hM (a := 179) FLX16_79 rfl ⟨rfl, rfl⟩ dX16_hashFound_18 ?_
    refine S_bipush (z := 12) dX16_hashFound_21 rfl ?_
    refine S_iload_n (i := 1) dX16_hashFound_23 rfl rfl ?_
    refine S_imul dX16_hashFound_24 ?_
    refine S_iload_n (i := 2) dX16_hashFound_25 rfl rfl ?_
    refine S_iadd dX16_hashFound_26 ?_
    refine P2_lai hM (a := 179) (n := 3000) rfl dX16_hashFound_27 h (fun v2 h => ?_)
    refine P2_sai hM (a := 159) (n := 576) rfl dX16_hashFound_28 h (fun V1 h => ?_)
    refine S_iinc dX16_hashFound_29 rfl rfl rfl ?_
    change Sem g d YX16_hashFound 32 [(1, 156), (0, x1), (0, x2 + 1)] [] (wr M V1) o
    refine S_goto (tgt := 2) dX16_hashFound_32 rfl ?_
    exact c0 (x2 + 1, V1) (some_P (P := fun r => P r) h hz)
theorem sl_X16_hashFound_2 {g : GG} {d : Nat} (hD : 3 ≤ d) {x1 x2 : Int} {M : MM} (hM : LM M) {V : VV} {o : AV × MM} {P : (VV) → Prop} (r0 : ∀ r : VV, P r → o = ((9, 0), (wr M r))) {z : VV} (h : l_X16_hashFound_2 x1 x2 V = some z) (hz : P z) : Sem g d YX16_hashFound 2 [(1, 156), (0, x1), (0, x2)] [] (wr M V) o := by
  refine lp_sound (S := fun s : Int × VV => Sem g d YX16_hashFound 2 [(1, 156), (0, x1), (0, s.1)] [] (wr M s.2) o) (P := P) ?_ FU (x2, V) z h hz
  intro s x hx hP
  exact s_X16_hashFound_2 hD hM (P := Sum.elim (fun s : Int × VV => Sem g d YX16_hashFound 2 [(1, 156), (0, x1), (0, s.1)] [] (wr M s.2) o) P) (fun s h => h) (fun s h => r0 s h) hx hP
theorem s_X16_hashFound_0 {g : GG} {d : Nat} (hD : 3 ≤ d) {x1 : Int} {M : MM} (hM : LM M) {V : VV} {o : AV × MM} {P : (VV) → Prop} (r0 : ∀ r : VV, P r → o = ((9, 0), (wr M r))) {z : VV} (h : f_X16_hashFound x1 V = some z) (hz : P z) : Sem g d YX16_hashFound 0 [(1, 156), (0, x1), (9, 0)] [] (wr M V) o := by
  delta f_X16_hashFound at h
  refine S_iconst dX16_hashFound_0 rfl ?_
  refine S_istore_n (i := 2) dX16_hashFound_1 rfl (Nat.le_of_ble_eq_true rfl) rfl rfl ?_
  change Sem g d YX16_hashFound 2 [(1, 156), (0, x1), (0, 0)] [] (wr M V) o
  exact sl_X16_hashFound_2 hD hM r0 h hz
theorem F_X16_hashFound {g : GG} {d : Nat} (hD : 3 ≤ d) {x1 : Int} {M : MM} (hM : LM M) {V : VV} {r : VV} (h : f_X16_hashFound x1 V = some r) : Sem g d YX16_hashFound 0 (ini YX16_hashFound [(1, 156), (0, x1)]) [] (wr M V) ((9, 0), (wr M r)) := by
  change Sem g d YX16_hashFound 0 [(1, 156), (0, x1), (9, 0)] [] (wr M V) ((9, 0), (wr M r))
  exact s_X16_hashFound_0 hD hM (P := fun x => x = r) (fun q e => by rw [e]) h rfl
/-! PeerSearchModel.put([II[II)V -/
theorem dX16_put_0 : decode cX16_put 0 = .ok (.iconst 0, 1) := by decide +kernel
theorem dX16_put_1 : decode cX16_put 1 = .ok (.istore 4, 2) := by decide +kernel
theorem dX16_put_3 : decode cX16_put 3 = .ok (.iload 4, 2) := by decide +kernel
theorem dX16_put_5 : decode cX16_put 5 = .ok (.iconst 5, 1) := by decide +kernel
theorem dX16_put_6 : decode cX16_put 6 = .ok (.if_icmp .ge 21, 3) := by decide +kernel
theorem dX16_put_9 : decode cX16_put 9 = .ok (.aload_n 0, 1) := by decide +kernel
theorem dX16_put_10 : decode cX16_put 10 = .ok (.iload_n 1, 1) := by decide +kernel
theorem dX16_put_11 : decode cX16_put 11 = .ok (.iload 4, 2) := by decide +kernel
theorem dX16_put_13 : decode cX16_put 13 = .ok (.iadd, 1) := by decide +kernel
theorem dX16_put_14 : decode cX16_put 14 = .ok (.aload_n 2, 1) := by decide +kernel
theorem dX16_put_15 : decode cX16_put 15 = .ok (.iload_n 3, 1) := by decide +kernel
theorem dX16_put_16 : decode cX16_put 16 = .ok (.iload 4, 2) := by decide +kernel
theorem dX16_put_18 : decode cX16_put 18 = .ok (.iadd, 1) := by decide +kernel
theorem dX16_put_19 : decode cX16_put 19 = .ok (.iaload, 1) := by decide +kernel
theorem dX16_put_20 : decode cX16_put 20 = .ok (.iastore, 1) := by decide +kernel
theorem dX16_put_21 : decode cX16_put 21 = .ok (.iinc 4 1, 3) := by decide +kernel
theorem dX16_put_24 : decode cX16_put 24 = .ok (.goto (-21), 3) := by decide +kernel
theorem dX16_put_27 : decode cX16_put 27 = .ok (.return_, 1) := by decide +kernel
def b_X16_put_3 (x0 x1 x2 x3 x4 : Int) (V : VV) : Option ((Int × VV) ⊕ (VV)) :=
  if w32 x4 < w32 5 then
    (lp x2 (x3 + x4) V).bind fun v1 =>
    (sp x0 (x1 + x4) v1 V).bind fun V1 =>
    cnt (x4 + 1, V1)
  else
    xit (some V)
def l_X16_put_3 (x0 x1 x2 x3 x4 : Int) (V : VV) : Option (VV) := lpN (fun s : Int × VV => b_X16_put_3 x0 x1 x2 x3 s.1 s.2) FU (x4, V)
def f_X16_put (x0 x1 x2 x3 : Int) (V : VV) : Option (VV) :=
  l_X16_put_3 x0 x1 x2 x3 0 V
theorem s_X16_put_3 {g : GG} {d : Nat} (hD : 0 ≤ d) {x0 x1 x2 x3 x4 : Int} {M : MM} (hM : LM M) {V : VV} {o : AV × MM} {P : ((Int × VV) ⊕ (VV)) → Prop} (c0 : ∀ s : Int × VV, P (.inl s) → Sem g d YX16_put 3 [(1, x0), (0, x1), (1, x2), (0, x3), (0, s.1)] [] (wr M s.2) o) (r0 : ∀ r : VV, P (.inr r) → o = ((9, 0), (wr M r))) {z : (Int × VV) ⊕ (VV)} (h : b_X16_put_3 x0 x1 x2 x3 x4 V = some z) (hz : P z) : Sem g d YX16_put 3 [(1, x0), (0, x1), (1, x2), (0, x3), (0, x4)] [] (wr M V) o := by
  delta b_X16_put_3 at h
  refine S_iload dX16_put_3 rfl ?_
  refine S_iconst dX16_put_5 rfl ?_
  refine P_icmp_ge (tgt := 27) dX16_put_6 rfl h (fun h => ?_) (fun h => ?_)
  · obtain ⟨z0, h, hz⟩ := xit_some' (P := fun r => P r) h hz
    obtain rfl := r0 _ (some_P (P := fun r => P (.inr r)) h hz)
    exact S_return dX16_put_27 rfl
  · refine S_aload_n (i := 0) dX16_put_9 rfl rfl ?_
    refine S_iload_n (i := 1) dX16_put_10 rfl rfl ?_
    refine S_iload dX16_put_11 rfl ?_
    refine S_iadd dX16_put_13 ?_
    refine S_aload_n (i := 2) dX16_put_14 rfl rfl ?_
    refine S_iload_n (i := 3) dX16_put_15 rfl rfl ?_
    refine S_iload dX16_put_16 rfl ?_
    refine S_iadd dX16_put_18 ?_
    refine P2_lp hM dX16_put_19 h (fun v1 h => ?_)
    refine P2_sp hM dX16_put_20 h (fun V1 h => ?_)
    refine S_iinc dX16_put_21 rfl rfl rfl ?_
    change Sem g d YX16_put 24 [(1, x0), (0, x1), (1, x2), (0, x3), (0, x4 + 1)] [] (wr M V1) o
    refine S_goto (tgt := 3) dX16_put_24 rfl ?_
    exact c0 (x4 + 1, V1) (some_P (P := fun r => P r) h hz)
theorem sl_X16_put_3 {g : GG} {d : Nat} (hD : 0 ≤ d) {x0 x1 x2 x3 x4 : Int} {M : MM} (hM : LM M) {V : VV} {o : AV × MM} {P : (VV) → Prop} (r0 : ∀ r : VV, P r → o = ((9, 0), (wr M r))) {z : VV} (h : l_X16_put_3 x0 x1 x2 x3 x4 V = some z) (hz : P z) : Sem g d YX16_put 3 [(1, x0), (0, x1), (1, x2), (0, x3), (0, x4)] [] (wr M V) o := by
  refine lp_sound (S := fun s : Int × VV => Sem g d YX16_put 3 [(1, x0), (0, x1), (1, x2), (0, x3), (0, s.1)] [] (wr M s.2) o) (P := P) ?_ FU (x4, V) z h hz
  intro s x hx hP
  exact s_X16_put_3 hD hM (P := Sum.elim (fun s : Int × VV => Sem g d YX16_put 3 [(1, x0), (0, x1), (1, x2), (0, x3), (0, s.1)] [] (wr M s.2) o) P) (fun s h => h) (fun s h => r0 s h) hx hP
theorem s_X16_put_0 {g : GG} {d : Nat} (hD : 0 ≤ d) {x0 x1 x2 x3 : Int} {M : MM} (hM : LM M) {V : VV} {o : AV × MM} {P : (VV) → Prop} (r0 : ∀ r : VV, P r → o = ((9, 0), (wr M r))) {z : VV} (h : f_X16_put x0 x1 x2 x3 V = some z) (hz : P z) : Sem g d YX16_put 0 [(1, x0), (0, x1), (1, x2), (0, x3), (9, 0)] [] (wr M V) o := by
  delta f_X16_put at h
  refine S_iconst dX16_put_0 rfl ?_
  refine S_istore dX16_put_1 (Nat.le_of_ble_eq_true rfl) rfl rfl ?_
  change Sem g d YX16_put 3 [(1, x0), (0, x1), (1, x2), (0, x3), (0, 0)] [] (wr M V) o
  exact sl_X16_put_3 hD hM r0 h hz
theorem F_X16_put {g : GG} {d : Nat} (hD : 0 ≤ d) {x0 x1 x2 x3 : Int} {M : MM} (hM : LM M) {V : VV} {r : VV} (h : f_X16_put x0 x1 x2 x3 V = some r) : Sem g d YX16_put 0 (ini YX16_put [(1, x0), (0, x1), (1, x2), (0, x3)]) [] (wr M V) ((9, 0), (wr M r)) := by
  change Sem g d YX16_put 0 [(1, x0), (0, x1), (1, x2), (0, x3), (9, 0)] [] (wr M V) ((9, 0), (wr M r))
  exact s_X16_put_0 hD hM (P := fun x => x = r) (fun q e => by rw [e]) h rfl
/-! PeerSearchModel.alike([III[III)Z -/
theorem dX16_alike_0 : decode cX16_alike 0 = .ok (.iload_n 2, 1) := by decide +kernel
theorem dX16_alike_1 : decode cX16_alike 1 = .ok (.iload 5, 2) := by decide +kernel
theorem dX16_alike_3 : decode cX16_alike 3 = .ok (.if_icmp .ne 7, 3) := by decide +kernel
theorem dX16_alike_6 : decode cX16_alike 6 = .ok (.iconst 1, 1) := by decide +kernel
theorem dX16_alike_7 : decode cX16_alike 7 = .ok (.goto 4, 3) := by decide +kernel
theorem dX16_alike_10 : decode cX16_alike 10 = .ok (.iconst 0, 1) := by decide +kernel
theorem dX16_alike_11 : decode cX16_alike 11 = .ok (.istore 6, 2) := by decide +kernel
theorem dX16_alike_13 : decode cX16_alike 13 = .ok (.iconst 0, 1) := by decide +kernel
theorem dX16_alike_14 : decode cX16_alike 14 = .ok (.istore 7, 2) := by decide +kernel
theorem dX16_alike_16 : decode cX16_alike 16 = .ok (.iload 7, 2) := by decide +kernel
theorem dX16_alike_18 : decode cX16_alike 18 = .ok (.iload_n 2, 1) := by decide +kernel
theorem dX16_alike_19 : decode cX16_alike 19 = .ok (.if_icmp .ge 37, 3) := by decide +kernel
theorem dX16_alike_22 : decode cX16_alike 22 = .ok (.iload 6, 2) := by decide +kernel
theorem dX16_alike_24 : decode cX16_alike 24 = .ok (.ifCond .eq 32, 3) := by decide +kernel
theorem dX16_alike_27 : decode cX16_alike 27 = .ok (.aload_n 0, 1) := by decide +kernel
theorem dX16_alike_28 : decode cX16_alike 28 = .ok (.iload_n 1, 1) := by decide +kernel
theorem dX16_alike_29 : decode cX16_alike 29 = .ok (.iload 7, 2) := by decide +kernel
theorem dX16_alike_31 : decode cX16_alike 31 = .ok (.iadd, 1) := by decide +kernel
theorem dX16_alike_32 : decode cX16_alike 32 = .ok (.iaload, 1) := by decide +kernel
theorem dX16_alike_33 : decode cX16_alike 33 = .ok (.aload_n 3, 1) := by decide +kernel
theorem dX16_alike_34 : decode cX16_alike 34 = .ok (.iload 4, 2) := by decide +kernel
theorem dX16_alike_36 : decode cX16_alike 36 = .ok (.iload 7, 2) := by decide +kernel
theorem dX16_alike_38 : decode cX16_alike 38 = .ok (.iadd, 1) := by decide +kernel
theorem dX16_alike_39 : decode cX16_alike 39 = .ok (.iaload, 1) := by decide +kernel
theorem dX16_alike_40 : decode cX16_alike 40 = .ok (.if_icmp .ne 7, 3) := by decide +kernel
theorem dX16_alike_43 : decode cX16_alike 43 = .ok (.iconst 1, 1) := by decide +kernel
theorem dX16_alike_44 : decode cX16_alike 44 = .ok (.goto 4, 3) := by decide +kernel
theorem dX16_alike_47 : decode cX16_alike 47 = .ok (.iconst 0, 1) := by decide +kernel
theorem dX16_alike_48 : decode cX16_alike 48 = .ok (.istore 6, 2) := by decide +kernel
theorem dX16_alike_50 : decode cX16_alike 50 = .ok (.iinc 7 1, 3) := by decide +kernel
theorem dX16_alike_53 : decode cX16_alike 53 = .ok (.goto (-37), 3) := by decide +kernel
theorem dX16_alike_56 : decode cX16_alike 56 = .ok (.iload 6, 2) := by decide +kernel
theorem dX16_alike_58 : decode cX16_alike 58 = .ok (.ireturn, 1) := by decide +kernel
def j_X16_alike_56 (x6 : Int) (V : VV) : Option (Int) :=
  bz x6 (some x6)
def j_X16_alike_48 (x0 x1 x2 x3 x4 x7 y0 : Int) (V : VV) : Option ((Int × Int) ⊕ (Int)) :=
  cnt (y0, x7 + 1)
def b_X16_alike_16 (x0 x1 x2 x3 x4 x6 x7 : Int) (V : VV) : Option ((Int × Int) ⊕ (Int)) :=
  if w32 x7 < w32 x2 then
    if w32 x6 = 0 then
      xit (j_X16_alike_56 x6 V)
    else
      (lp x0 (x1 + x7) V).bind fun v1 =>
      (lp x3 (x4 + x7) V).bind fun v2 =>
      if w32 v1 = w32 v2 then
        j_X16_alike_48 x0 x1 x2 x3 x4 x7 1 V
      else
        j_X16_alike_48 x0 x1 x2 x3 x4 x7 0 V
  else
    xit (j_X16_alike_56 x6 V)
def l_X16_alike_16 (x0 x1 x2 x3 x4 x6 x7 : Int) (V : VV) : Option (Int) := lpN (fun s : Int × Int => b_X16_alike_16 x0 x1 x2 x3 x4 s.1 s.2 V) FU (x6, x7)
def j_X16_alike_11 (x0 x1 x2 x3 x4 y0 : Int) (V : VV) : Option (Int) :=
  l_X16_alike_16 x0 x1 x2 x3 x4 y0 0 V
def f_X16_alike (x0 x1 x2 x3 x4 x5 : Int) (V : VV) : Option (Int) :=
  if w32 x2 = w32 x5 then
    j_X16_alike_11 x0 x1 x2 x3 x4 1 V
  else
    j_X16_alike_11 x0 x1 x2 x3 x4 0 V
theorem s_X16_alike_56 {g : GG} {d : Nat} (hD : 0 ≤ d) {x6 : Int} {M : MM} (hM : LM M) {V : VV} {o : AV × MM} {P : (Int) → Prop} (r0 : ∀ r : Int, P r → o = ((0, r), (wr M V))) {z : Int} (h : j_X16_alike_56 x6 V = some z) (hz : P z) : Sem g d YX16_alike 56 [(9, 0), (9, 0), (9, 0), (9, 0), (9, 0), (9, 0), (0, x6), (9, 0)] [] (wr M V) o := by
  delta j_X16_alike_56 at h
  refine S_iload dX16_alike_56 rfl ?_
  obtain ⟨hb, h⟩ := bz_some h
  obtain rfl := r0 _ (some_P (P := fun r => P r) h hz)
  exact P_ret dX16_alike_58 rfl (Or.inr ⟨rfl, hb⟩)
theorem s_X16_alike_48 {g : GG} {d : Nat} (hD : 0 ≤ d) {x0 x1 x2 x3 x4 x7 y0 : Int} {M : MM} (hM : LM M) {V : VV} {o : AV × MM} {P : ((Int × Int) ⊕ (Int)) → Prop} (c0 : ∀ s : Int × Int, P (.inl s) → Sem g d YX16_alike 16 [(1, x0), (0, x1), (0, x2), (1, x3), (0, x4), (9, 0), (0, s.1), (0, s.2)] [] (wr M V) o) (r0 : ∀ r : Int, P (.inr r) → o = ((0, r), (wr M V))) {z : (Int × Int) ⊕ (Int)} (h : j_X16_alike_48 x0 x1 x2 x3 x4 x7 y0 V = some z) (hz : P z) : Sem g d YX16_alike 48 [(1, x0), (0, x1), (0, x2), (1, x3), (0, x4), (9, 0), (9, 0), (0, x7)] [(0, y0)] (wr M V) o := by
  delta j_X16_alike_48 at h
  refine S_istore dX16_alike_48 (Nat.le_of_ble_eq_true rfl) rfl rfl ?_
  change Sem g d YX16_alike 50 [(1, x0), (0, x1), (0, x2), (1, x3), (0, x4), (9, 0), (0, y0), (0, x7)] [] (wr M V) o
  refine S_iinc dX16_alike_50 rfl rfl rfl ?_
  change Sem g d YX16_alike 53 [(1, x0), (0, x1), (0, x2), (1, x3), (0, x4), (9, 0), (0, y0), (0, x7 + 1)] [] (wr M V) o
  refine S_goto (tgt := 16) dX16_alike_53 rfl ?_
  exact c0 (y0, x7 + 1) (some_P (P := fun r => P r) h hz)
theorem s_X16_alike_16 {g : GG} {d : Nat} (hD : 0 ≤ d) {x0 x1 x2 x3 x4 x6 x7 : Int} {M : MM} (hM : LM M) {V : VV} {o : AV × MM} {P : ((Int × Int) ⊕ (Int)) → Prop} (c0 : ∀ s : Int × Int, P (.inl s) → Sem g d YX16_alike 16 [(1, x0), (0, x1), (0, x2), (1, x3), (0, x4), (9, 0), (0, s.1), (0, s.2)] [] (wr M V) o) (r0 : ∀ r : Int, P (.inr r) → o = ((0, r), (wr M V))) {z : (Int × Int) ⊕ (Int)} (h : b_X16_alike_16 x0 x1 x2 x3 x4 x6 x7 V = some z) (hz : P z) : Sem g d YX16_alike 16 [(1, x0), (0, x1), (0, x2), (1, x3), (0, x4), (9, 0), (0, x6), (0, x7)] [] (wr M V) o := by
  delta b_X16_alike_16 at h
  refine S_iload dX16_alike_16 rfl ?_
  refine S_iload_n (i := 2) dX16_alike_18 rfl rfl ?_
  refine P_icmp_ge (tgt := 56) dX16_alike_19 rfl h (fun h => ?_) (fun h => ?_)
  · refine S_weak (ls' := [(9, 0), (9, 0), (9, 0), (9, 0), (9, 0), (9, 0), (0, x6), (9, 0)]) ⟨Or.inl rfl, ⟨Or.inl rfl, ⟨Or.inl rfl, ⟨Or.inl rfl, ⟨Or.inl rfl, ⟨Or.inl rfl, ⟨Or.inr rfl, ⟨Or.inl rfl, trivial⟩⟩⟩⟩⟩⟩⟩⟩ ?_
    obtain ⟨z0, h, hz⟩ := xit_some' (P := fun r => P r) h hz
    exact s_X16_alike_56 hD hM (P := fun r => P (.inr r)) r0 h hz
  · refine S_iload dX16_alike_22 rfl ?_
    refine P_if_eq (tgt := 56) dX16_alike_24 rfl h (fun h => ?_) (fun h => ?_)
    · refine S_weak (ls' := [(9, 0), (9, 0), (9, 0), (9, 0), (9, 0), (9, 0), (0, x6), (9, 0)]) ⟨Or.inl rfl, ⟨Or.inl rfl, ⟨Or.inl rfl, ⟨Or.inl rfl, ⟨Or.inl rfl, ⟨Or.inl rfl, ⟨Or.inr rfl, ⟨Or.inl rfl, trivial⟩⟩⟩⟩⟩⟩⟩⟩ ?_
      obtain ⟨z0, h, hz⟩ := xit_some' (P := fun r => P r) h hz
      exact s_X16_alike_56 hD hM (P := fun r => P (.inr r)) r0 h hz
    · refine S_aload_n (i := 0) dX16_alike_27 rfl rfl ?_
      refine S_iload_n (i := 1) dX16_alike_28 rfl rfl ?_
      refine S_iload dX16_alike_29 rfl ?_
      refine S_iadd dX16_alike_31 ?_
      refine P2_lp hM dX16_alike_32 h (fun v1 h => ?_)
      refine S_aload_n (i := 3) dX16_alike_33 rfl rfl ?_
      refine S_iload dX16_alike_34 rfl ?_
      refine S_iload dX16_alike_36 rfl ?_
      refine S_iadd dX16_alike_38 ?_
      refine P2_lp hM dX16_alike_39 h (fun v2 h => ?_)
      refine P_icmp_ne (tgt := 47) dX16_alike_40 rfl h (fun h => ?_) (fun h => ?_)
      · refine S_iconst dX16_alike_47 rfl ?_
        refine S_weak (ls' := [(1, x0), (0, x1), (0, x2), (1, x3), (0, x4), (9, 0), (9, 0), (0, x7)]) ⟨Or.inr rfl, ⟨Or.inr rfl, ⟨Or.inr rfl, ⟨Or.inr rfl, ⟨Or.inr rfl, ⟨Or.inl rfl, ⟨Or.inl rfl, ⟨Or.inr rfl, trivial⟩⟩⟩⟩⟩⟩⟩⟩ ?_
        exact s_X16_alike_48 hD hM c0 r0 h hz
      · refine S_iconst dX16_alike_43 rfl ?_
        refine S_goto (tgt := 48) dX16_alike_44 rfl ?_
        refine S_weak (ls' := [(1, x0), (0, x1), (0, x2), (1, x3), (0, x4), (9, 0), (9, 0), (0, x7)]) ⟨Or.inr rfl, ⟨Or.inr rfl, ⟨Or.inr rfl, ⟨Or.inr rfl, ⟨Or.inr rfl, ⟨Or.inl rfl, ⟨Or.inl rfl, ⟨Or.inr rfl, trivial⟩⟩⟩⟩⟩⟩⟩⟩ ?_
        exact s_X16_alike_48 hD hM c0 r0 h hz
theorem sl_X16_alike_16 {g : GG} {d : Nat} (hD : 0 ≤ d) {x0 x1 x2 x3 x4 x6 x7 : Int} {M : MM} (hM : LM M) {V : VV} {o : AV × MM} {P : (Int) → Prop} (r0 : ∀ r : Int, P r → o = ((0, r), (wr M V))) {z : Int} (h : l_X16_alike_16 x0 x1 x2 x3 x4 x6 x7 V = some z) (hz : P z) : Sem g d YX16_alike 16 [(1, x0), (0, x1), (0, x2), (1, x3), (0, x4), (9, 0), (0, x6), (0, x7)] [] (wr M V) o := by
  refine lp_sound (S := fun s : Int × Int => Sem g d YX16_alike 16 [(1, x0), (0, x1), (0, x2), (1, x3), (0, x4), (9, 0), (0, s.1), (0, s.2)] [] (wr M V) o) (P := P) ?_ FU (x6, x7) z h hz
  intro s x hx hP
  exact s_X16_alike_16 hD hM (P := Sum.elim (fun s : Int × Int => Sem g d YX16_alike 16 [(1, x0), (0, x1), (0, x2), (1, x3), (0, x4), (9, 0), (0, s.1), (0, s.2)] [] (wr M V) o) P) (fun s h => h) (fun s h => r0 s h) hx hP
theorem s_X16_alike_11 {g : GG} {d : Nat} (hD : 0 ≤ d) {x0 x1 x2 x3 x4 y0 : Int} {M : MM} (hM : LM M) {V : VV} {o : AV × MM} {P : (Int) → Prop} (r0 : ∀ r : Int, P r → o = ((0, r), (wr M V))) {z : Int} (h : j_X16_alike_11 x0 x1 x2 x3 x4 y0 V = some z) (hz : P z) : Sem g d YX16_alike 11 [(1, x0), (0, x1), (0, x2), (1, x3), (0, x4), (9, 0), (9, 0), (9, 0)] [(0, y0)] (wr M V) o := by
  delta j_X16_alike_11 at h
  refine S_istore dX16_alike_11 (Nat.le_of_ble_eq_true rfl) rfl rfl ?_
  change Sem g d YX16_alike 13 [(1, x0), (0, x1), (0, x2), (1, x3), (0, x4), (9, 0), (0, y0), (9, 0)] [] (wr M V) o
  refine S_iconst dX16_alike_13 rfl ?_
  refine S_istore dX16_alike_14 (Nat.le_of_ble_eq_true rfl) rfl rfl ?_
  change Sem g d YX16_alike 16 [(1, x0), (0, x1), (0, x2), (1, x3), (0, x4), (9, 0), (0, y0), (0, 0)] [] (wr M V) o
  exact sl_X16_alike_16 hD hM r0 h hz
theorem s_X16_alike_0 {g : GG} {d : Nat} (hD : 0 ≤ d) {x0 x1 x2 x3 x4 x5 : Int} {M : MM} (hM : LM M) {V : VV} {o : AV × MM} {P : (Int) → Prop} (r0 : ∀ r : Int, P r → o = ((0, r), (wr M V))) {z : Int} (h : f_X16_alike x0 x1 x2 x3 x4 x5 V = some z) (hz : P z) : Sem g d YX16_alike 0 [(1, x0), (0, x1), (0, x2), (1, x3), (0, x4), (0, x5), (9, 0), (9, 0)] [] (wr M V) o := by
  delta f_X16_alike at h
  refine S_iload_n (i := 2) dX16_alike_0 rfl rfl ?_
  refine S_iload dX16_alike_1 rfl ?_
  refine P_icmp_ne (tgt := 10) dX16_alike_3 rfl h (fun h => ?_) (fun h => ?_)
  · refine S_iconst dX16_alike_10 rfl ?_
    refine S_weak (ls' := [(1, x0), (0, x1), (0, x2), (1, x3), (0, x4), (9, 0), (9, 0), (9, 0)]) ⟨Or.inr rfl, ⟨Or.inr rfl, ⟨Or.inr rfl, ⟨Or.inr rfl, ⟨Or.inr rfl, ⟨Or.inl rfl, ⟨Or.inl rfl, ⟨Or.inl rfl, trivial⟩⟩⟩⟩⟩⟩⟩⟩ ?_
    exact s_X16_alike_11 hD hM r0 h hz
  · refine S_iconst dX16_alike_6 rfl ?_
    refine S_goto (tgt := 11) dX16_alike_7 rfl ?_
    refine S_weak (ls' := [(1, x0), (0, x1), (0, x2), (1, x3), (0, x4), (9, 0), (9, 0), (9, 0)]) ⟨Or.inr rfl, ⟨Or.inr rfl, ⟨Or.inr rfl, ⟨Or.inr rfl, ⟨Or.inr rfl, ⟨Or.inl rfl, ⟨Or.inl rfl, ⟨Or.inl rfl, trivial⟩⟩⟩⟩⟩⟩⟩⟩ ?_
    exact s_X16_alike_11 hD hM r0 h hz
theorem F_X16_alike {g : GG} {d : Nat} (hD : 0 ≤ d) {x0 x1 x2 x3 x4 x5 : Int} {M : MM} (hM : LM M) {V : VV} {r : Int} (h : f_X16_alike x0 x1 x2 x3 x4 x5 V = some r) : Sem g d YX16_alike 0 (ini YX16_alike [(1, x0), (0, x1), (0, x2), (1, x3), (0, x4), (0, x5)]) [] (wr M V) ((0, r), (wr M V)) := by
  change Sem g d YX16_alike 0 [(1, x0), (0, x1), (0, x2), (1, x3), (0, x4), (0, x5), (9, 0), (9, 0)] [] (wr M V) ((0, r), (wr M V))
  exact s_X16_alike_0 hD hM (P := fun x => x = r) (fun q e => by rw [e]) h rfl
/-! PeerSearchModel.termOf(I[III)I -/
theorem dX16_termOf_0 : decode cX16_termOf 0 = .ok (.iconst 0, 1) := by decide +kernel
theorem dX16_termOf_1 : decode cX16_termOf 1 = .ok (.istore 5, 2) := by decide +kernel
theorem dX16_termOf_3 : decode cX16_termOf 3 = .ok (.iload 5, 2) := by decide +kernel
theorem dX16_termOf_5 : decode cX16_termOf 5 = .ok (.aload_n 0, 1) := by decide +kernel
theorem dX16_termOf_6 : decode cX16_termOf 6 = .ok (.getfield 63, 3) := by decide +kernel
theorem dX16_termOf_9 : decode cX16_termOf 9 = .ok (.iload_n 1, 1) := by decide +kernel
theorem dX16_termOf_10 : decode cX16_termOf 10 = .ok (.iaload, 1) := by decide +kernel
theorem dX16_termOf_11 : decode cX16_termOf 11 = .ok (.if_icmp .ge 47, 3) := by decide +kernel
theorem dX16_termOf_14 : decode cX16_termOf 14 = .ok (.bipush 64, 2) := by decide +kernel
theorem dX16_termOf_16 : decode cX16_termOf 16 = .ok (.iload_n 1, 1) := by decide +kernel
theorem dX16_termOf_17 : decode cX16_termOf 17 = .ok (.imul, 1) := by decide +kernel
theorem dX16_termOf_18 : decode cX16_termOf 18 = .ok (.iload 5, 2) := by decide +kernel
theorem dX16_termOf_20 : decode cX16_termOf 20 = .ok (.iadd, 1) := by decide +kernel
theorem dX16_termOf_21 : decode cX16_termOf 21 = .ok (.istore 6, 2) := by decide +kernel
theorem dX16_termOf_23 : decode cX16_termOf 23 = .ok (.aload_n 0, 1) := by decide +kernel
theorem dX16_termOf_24 : decode cX16_termOf 24 = .ok (.getfield 66, 3) := by decide +kernel
theorem dX16_termOf_27 : decode cX16_termOf 27 = .ok (.bipush 12, 2) := by decide +kernel
theorem dX16_termOf_29 : decode cX16_termOf 29 = .ok (.iload 6, 2) := by decide +kernel
theorem dX16_termOf_31 : decode cX16_termOf 31 = .ok (.imul, 1) := by decide +kernel
theorem dX16_termOf_32 : decode cX16_termOf 32 = .ok (.aload_n 0, 1) := by decide +kernel
theorem dX16_termOf_33 : decode cX16_termOf 33 = .ok (.getfield 69, 3) := by decide +kernel
theorem dX16_termOf_36 : decode cX16_termOf 36 = .ok (.iload 6, 2) := by decide +kernel
theorem dX16_termOf_38 : decode cX16_termOf 38 = .ok (.iaload, 1) := by decide +kernel
theorem dX16_termOf_39 : decode cX16_termOf 39 = .ok (.aload_n 2, 1) := by decide +kernel
theorem dX16_termOf_40 : decode cX16_termOf 40 = .ok (.iload_n 3, 1) := by decide +kernel
theorem dX16_termOf_41 : decode cX16_termOf 41 = .ok (.iload 4, 2) := by decide +kernel
theorem dX16_termOf_43 : decode cX16_termOf 43 = .ok (.invokestatic 451, 3) := by decide +kernel
theorem dX16_termOf_46 : decode cX16_termOf 46 = .ok (.ifCond .eq 6, 3) := by decide +kernel
theorem dX16_termOf_49 : decode cX16_termOf 49 = .ok (.iload 5, 2) := by decide +kernel
theorem dX16_termOf_51 : decode cX16_termOf 51 = .ok (.ireturn, 1) := by decide +kernel
theorem dX16_termOf_52 : decode cX16_termOf 52 = .ok (.iinc 5 1, 3) := by decide +kernel
theorem dX16_termOf_55 : decode cX16_termOf 55 = .ok (.goto (-52), 3) := by decide +kernel
theorem dX16_termOf_58 : decode cX16_termOf 58 = .ok (.iconst (-1), 1) := by decide +kernel
theorem dX16_termOf_59 : decode cX16_termOf 59 = .ok (.ireturn, 1) := by decide +kernel
def b_X16_termOf_3 (x1 x2 x3 x4 x5 : Int) (V : VV) : Option ((Int) ⊕ (Int)) :=
  (l2 174 32 x1 V).bind fun v1 =>
  if w32 x5 < w32 v1 then
    (l2 176 2048 ((64 * x1) + x5) V).bind fun v2 =>
    (f_X16_alike 175 (12 * ((64 * x1) + x5)) v2 x2 x3 x4 V).bind fun v3 =>
    if w32 v3 = 0 then
      cnt (x5 + 1)
    else
      xit (some x5)
  else
    xit (some (-1))
def l_X16_termOf_3 (x1 x2 x3 x4 x5 : Int) (V : VV) : Option (Int) := lpN (fun s : Int => b_X16_termOf_3 x1 x2 x3 x4 s V) FU x5
def f_X16_termOf (x1 x2 x3 x4 : Int) (V : VV) : Option (Int) :=
  l_X16_termOf_3 x1 x2 x3 x4 0 V
theorem s_X16_termOf_3 {g : GG} {d : Nat} (hD : 1 ≤ d) {x1 x2 x3 x4 x5 : Int} {M : MM} (hM : LM M) {V : VV} {o : AV × MM} {P : ((Int) ⊕ (Int)) → Prop} (c0 : ∀ s : Int, P (.inl s) → Sem g d YX16_termOf 3 [(1, 156), (0, x1), (1, x2), (0, x3), (0, x4), (0, s), (9, 0)] [] (wr M V) o) (r0 : ∀ r : Int, P (.inr r) → o = ((0, r), (wr M V))) {z : (Int) ⊕ (Int)} (h : b_X16_termOf_3 x1 x2 x3 x4 x5 V = some z) (hz : P z) : Sem g d YX16_termOf 3 [(1, 156), (0, x1), (1, x2), (0, x3), (0, x4), (0, x5), (9, 0)] [] (wr M V) o := by
  delta b_X16_termOf_3 at h
  refine S_iload dX16_termOf_3 rfl ?_
  refine S_aload_n (i := 0) dX16_termOf_5 rfl rfl ?_
  refine P2_gfr hM (a := 174) FLX16_63 rfl ⟨rfl, rfl⟩ dX16_termOf_6 ?_
  refine S_iload_n (i := 1) dX16_termOf_9 rfl rfl ?_
  refine P2_lai hM (a := 174) (n := 32) rfl dX16_termOf_10 h (fun v1 h => ?_)
  refine P_icmp_ge (tgt := 58) dX16_termOf_11 rfl h (fun h => ?_) (fun h => ?_)
  · obtain ⟨z0, h, hz⟩ := xit_some' (P := fun r => P r) h hz
    refine S_iconst dX16_termOf_58 rfl ?_
    obtain rfl := r0 _ (some_P (P := fun r => P (.inr r)) h hz)
    exact P_ret dX16_termOf_59 rfl (Or.inl rfl)
  · refine S_bipush (z := 64) dX16_termOf_14 rfl ?_
    refine S_iload_n (i := 1) dX16_termOf_16 rfl rfl ?_
    refine S_imul dX16_termOf_17 ?_
    refine S_iload dX16_termOf_18 rfl ?_
    refine S_iadd dX16_termOf_20 ?_
    refine S_istore dX16_termOf_21 (Nat.le_of_ble_eq_true rfl) rfl rfl ?_
    change Sem g d YX16_termOf 23 [(1, 156), (0, x1), (1, x2), (0, x3), (0, x4), (0, x5), (0, (64 * x1) + x5)] [] (wr M V) o
    refine S_aload_n (i := 0) dX16_termOf_23 rfl rfl ?_
    refine P2_gfr hM (a := 175) FLX16_66 rfl ⟨rfl, rfl⟩ dX16_termOf_24 ?_
    refine S_bipush (z := 12) dX16_termOf_27 rfl ?_
    refine S_iload dX16_termOf_29 rfl ?_
    refine S_imul dX16_termOf_31 ?_
    refine S_aload_n (i := 0) dX16_termOf_32 rfl rfl ?_
    refine P2_gfr hM (a := 176) FLX16_69 rfl ⟨rfl, rfl⟩ dX16_termOf_33 ?_
    refine S_iload dX16_termOf_36 rfl ?_
    refine P2_lai hM (a := 176) (n := 2048) rfl dX16_termOf_38 h (fun v2 h => ?_)
    refine S_aload_n (i := 2) dX16_termOf_39 rfl rfl ?_
    refine S_iload_n (i := 3) dX16_termOf_40 rfl rfl ?_
    refine S_iload dX16_termOf_41 rfl ?_
    refine P_invSp 0 [(1, 175), (0, 12 * ((64 * x1) + x5)), (0, v2), (1, x2), (0, x3), (0, x4)] [] CSX16_alike MLX16_451 dX16_termOf_43 rfl rfl rfl rfl rfl (by omega) h (fun r h => F_X16_alike (by omega) hM h) (fun v3 h => ?_)
    refine P_if_eq (tgt := 52) dX16_termOf_46 rfl h (fun h => ?_) (fun h => ?_)
    · refine S_iinc dX16_termOf_52 rfl rfl rfl ?_
      change Sem g d YX16_termOf 55 [(1, 156), (0, x1), (1, x2), (0, x3), (0, x4), (0, x5 + 1), (0, (64 * x1) + x5)] [] (wr M V) o
      refine S_goto (tgt := 3) dX16_termOf_55 rfl ?_
      refine S_weak (ls' := [(1, 156), (0, x1), (1, x2), (0, x3), (0, x4), (0, x5 + 1), (9, 0)]) ⟨Or.inr rfl, ⟨Or.inr rfl, ⟨Or.inr rfl, ⟨Or.inr rfl, ⟨Or.inr rfl, ⟨Or.inr rfl, ⟨Or.inl rfl, trivial⟩⟩⟩⟩⟩⟩⟩ ?_
      exact c0 (x5 + 1) (some_P (P := fun r => P r) h hz)
    · obtain ⟨z0, h, hz⟩ := xit_some' (P := fun r => P r) h hz
      refine S_iload dX16_termOf_49 rfl ?_
      obtain rfl := r0 _ (some_P (P := fun r => P (.inr r)) h hz)
      exact P_ret dX16_termOf_51 rfl (Or.inl rfl)
theorem sl_X16_termOf_3 {g : GG} {d : Nat} (hD : 1 ≤ d) {x1 x2 x3 x4 x5 : Int} {M : MM} (hM : LM M) {V : VV} {o : AV × MM} {P : (Int) → Prop} (r0 : ∀ r : Int, P r → o = ((0, r), (wr M V))) {z : Int} (h : l_X16_termOf_3 x1 x2 x3 x4 x5 V = some z) (hz : P z) : Sem g d YX16_termOf 3 [(1, 156), (0, x1), (1, x2), (0, x3), (0, x4), (0, x5), (9, 0)] [] (wr M V) o := by
  refine lp_sound (S := fun s : Int => Sem g d YX16_termOf 3 [(1, 156), (0, x1), (1, x2), (0, x3), (0, x4), (0, s), (9, 0)] [] (wr M V) o) (P := P) ?_ FU x5 z h hz
  intro s x hx hP
  exact s_X16_termOf_3 hD hM (P := Sum.elim (fun s : Int => Sem g d YX16_termOf 3 [(1, 156), (0, x1), (1, x2), (0, x3), (0, x4), (0, s), (9, 0)] [] (wr M V) o) P) (fun s h => h) (fun s h => r0 s h) hx hP
theorem s_X16_termOf_0 {g : GG} {d : Nat} (hD : 1 ≤ d) {x1 x2 x3 x4 : Int} {M : MM} (hM : LM M) {V : VV} {o : AV × MM} {P : (Int) → Prop} (r0 : ∀ r : Int, P r → o = ((0, r), (wr M V))) {z : Int} (h : f_X16_termOf x1 x2 x3 x4 V = some z) (hz : P z) : Sem g d YX16_termOf 0 [(1, 156), (0, x1), (1, x2), (0, x3), (0, x4), (9, 0), (9, 0)] [] (wr M V) o := by
  delta f_X16_termOf at h
  refine S_iconst dX16_termOf_0 rfl ?_
  refine S_istore dX16_termOf_1 (Nat.le_of_ble_eq_true rfl) rfl rfl ?_
  change Sem g d YX16_termOf 3 [(1, 156), (0, x1), (1, x2), (0, x3), (0, x4), (0, 0), (9, 0)] [] (wr M V) o
  exact sl_X16_termOf_3 hD hM r0 h hz
theorem F_X16_termOf {g : GG} {d : Nat} (hD : 1 ≤ d) {x1 x2 x3 x4 : Int} {M : MM} (hM : LM M) {V : VV} {r : Int} (h : f_X16_termOf x1 x2 x3 x4 V = some r) : Sem g d YX16_termOf 0 (ini YX16_termOf [(1, 156), (0, x1), (1, x2), (0, x3), (0, x4)]) [] (wr M V) ((0, r), (wr M V)) := by
  change Sem g d YX16_termOf 0 [(1, 156), (0, x1), (1, x2), (0, x3), (0, x4), (9, 0), (9, 0)] [] (wr M V) ((0, r), (wr M V))
  exact s_X16_termOf_0 hD hM (P := fun x => x = r) (fun q e => by rw [e]) h rfl
/-! PeerSearchModel.isWord(I)Z -/
theorem dX16_isWord_0 : decode cX16_isWord 0 = .ok (.iload_n 0, 1) := by decide +kernel
theorem dX16_isWord_1 : decode cX16_isWord 1 = .ok (.bipush 48, 2) := by decide +kernel
theorem dX16_isWord_3 : decode cX16_isWord 3 = .ok (.if_icmp .lt 9, 3) := by decide +kernel
theorem dX16_isWord_6 : decode cX16_isWord 6 = .ok (.iload_n 0, 1) := by decide +kernel
theorem dX16_isWord_7 : decode cX16_isWord 7 = .ok (.bipush 57, 2) := by decide +kernel
theorem dX16_isWord_9 : decode cX16_isWord 9 = .ok (.if_icmp .le 27, 3) := by decide +kernel
theorem dX16_isWord_12 : decode cX16_isWord 12 = .ok (.iload_n 0, 1) := by decide +kernel
theorem dX16_isWord_13 : decode cX16_isWord 13 = .ok (.bipush 65, 2) := by decide +kernel
theorem dX16_isWord_15 : decode cX16_isWord 15 = .ok (.if_icmp .lt 9, 3) := by decide +kernel
theorem dX16_isWord_18 : decode cX16_isWord 18 = .ok (.iload_n 0, 1) := by decide +kernel
theorem dX16_isWord_19 : decode cX16_isWord 19 = .ok (.bipush 90, 2) := by decide +kernel
theorem dX16_isWord_21 : decode cX16_isWord 21 = .ok (.if_icmp .le 15, 3) := by decide +kernel
theorem dX16_isWord_24 : decode cX16_isWord 24 = .ok (.iload_n 0, 1) := by decide +kernel
theorem dX16_isWord_25 : decode cX16_isWord 25 = .ok (.bipush 97, 2) := by decide +kernel
theorem dX16_isWord_27 : decode cX16_isWord 27 = .ok (.if_icmp .lt 13, 3) := by decide +kernel
theorem dX16_isWord_30 : decode cX16_isWord 30 = .ok (.iload_n 0, 1) := by decide +kernel
theorem dX16_isWord_31 : decode cX16_isWord 31 = .ok (.bipush 122, 2) := by decide +kernel
theorem dX16_isWord_33 : decode cX16_isWord 33 = .ok (.if_icmp .gt 7, 3) := by decide +kernel
theorem dX16_isWord_36 : decode cX16_isWord 36 = .ok (.iconst 1, 1) := by decide +kernel
theorem dX16_isWord_37 : decode cX16_isWord 37 = .ok (.goto 4, 3) := by decide +kernel
theorem dX16_isWord_40 : decode cX16_isWord 40 = .ok (.iconst 0, 1) := by decide +kernel
theorem dX16_isWord_41 : decode cX16_isWord 41 = .ok (.ireturn, 1) := by decide +kernel
def j_X16_isWord_41 (y0 : Int) : Option (Int) :=
  bz y0 (some y0)
def j_X16_isWord_40 : Option (Int) :=
  j_X16_isWord_41 0
def j_X16_isWord_36 : Option (Int) :=
  j_X16_isWord_41 1
def j_X16_isWord_24 (x0 : Int) : Option (Int) :=
  if w32 x0 < w32 97 then
    j_X16_isWord_40
  else
    if w32 122 < w32 x0 then
      j_X16_isWord_40
    else
      j_X16_isWord_36
def j_X16_isWord_12 (x0 : Int) : Option (Int) :=
  if w32 x0 < w32 65 then
    j_X16_isWord_24 x0
  else
    if w32 90 < w32 x0 then
      j_X16_isWord_24 x0
    else
      j_X16_isWord_36
def f_X16_isWord (x0 : Int) : Option (Int) :=
  if w32 x0 < w32 48 then
    j_X16_isWord_12 x0
  else
    if w32 57 < w32 x0 then
      j_X16_isWord_12 x0
    else
      j_X16_isWord_36
theorem s_X16_isWord_41 {g : GG} {d : Nat} (hD : 0 ≤ d) {y0 : Int} {M : MM} (hM : LM M) {V : VV} {o : AV × MM} {P : (Int) → Prop} (r0 : ∀ r : Int, P r → o = ((0, r), (wr M V))) {z : Int} (h : j_X16_isWord_41 y0 = some z) (hz : P z) : Sem g d YX16_isWord 41 [(9, 0)] [(0, y0)] (wr M V) o := by
  delta j_X16_isWord_41 at h
  obtain ⟨hb, h⟩ := bz_some h
  obtain rfl := r0 _ (some_P (P := fun r => P r) h hz)
  exact P_ret dX16_isWord_41 rfl (Or.inr ⟨rfl, hb⟩)
theorem s_X16_isWord_40 {g : GG} {d : Nat} (hD : 0 ≤ d) {M : MM} (hM : LM M) {V : VV} {o : AV × MM} {P : (Int) → Prop} (r0 : ∀ r : Int, P r → o = ((0, r), (wr M V))) {z : Int} (h : j_X16_isWord_40 = some z) (hz : P z) : Sem g d YX16_isWord 40 [(9, 0)] [] (wr M V) o := by
  delta j_X16_isWord_40 at h
  refine S_iconst dX16_isWord_40 rfl ?_
  exact s_X16_isWord_41 hD hM r0 h hz
theorem s_X16_isWord_36 {g : GG} {d : Nat} (hD : 0 ≤ d) {M : MM} (hM : LM M) {V : VV} {o : AV × MM} {P : (Int) → Prop} (r0 : ∀ r : Int, P r → o = ((0, r), (wr M V))) {z : Int} (h : j_X16_isWord_36 = some z) (hz : P z) : Sem g d YX16_isWord 36 [(9, 0)] [] (wr M V) o := by
  delta j_X16_isWord_36 at h
  refine S_iconst dX16_isWord_36 rfl ?_
  refine S_goto (tgt := 41) dX16_isWord_37 rfl ?_
  exact s_X16_isWord_41 hD hM r0 h hz
theorem s_X16_isWord_24 {g : GG} {d : Nat} (hD : 0 ≤ d) {x0 : Int} {M : MM} (hM : LM M) {V : VV} {o : AV × MM} {P : (Int) → Prop} (r0 : ∀ r : Int, P r → o = ((0, r), (wr M V))) {z : Int} (h : j_X16_isWord_24 x0 = some z) (hz : P z) : Sem g d YX16_isWord 24 [(0, x0)] [] (wr M V) o := by
  delta j_X16_isWord_24 at h
  refine S_iload_n (i := 0) dX16_isWord_24 rfl rfl ?_
  refine S_bipush (z := 97) dX16_isWord_25 rfl ?_
  refine P_icmp_lt (tgt := 40) dX16_isWord_27 rfl h (fun h => ?_) (fun h => ?_)
  · refine S_weak (ls' := [(9, 0)]) ⟨Or.inl rfl, trivial⟩ ?_
    exact s_X16_isWord_40 hD hM r0 h hz
  · refine S_iload_n (i := 0) dX16_isWord_30 rfl rfl ?_
    refine S_bipush (z := 122) dX16_isWord_31 rfl ?_
    refine P_icmp_gt (tgt := 40) dX16_isWord_33 rfl h (fun h => ?_) (fun h => ?_)
    · refine S_weak (ls' := [(9, 0)]) ⟨Or.inl rfl, trivial⟩ ?_
      exact s_X16_isWord_40 hD hM r0 h hz
    · refine S_weak (ls' := [(9, 0)]) ⟨Or.inl rfl, trivial⟩ ?_
      exact s_X16_isWord_36 hD hM r0 h hz
theorem s_X16_isWord_12 {g : GG} {d : Nat} (hD : 0 ≤ d) {x0 : Int} {M : MM} (hM : LM M) {V : VV} {o : AV × MM} {P : (Int) → Prop} (r0 : ∀ r : Int, P r → o = ((0, r), (wr M V))) {z : Int} (h : j_X16_isWord_12 x0 = some z) (hz : P z) : Sem g d YX16_isWord 12 [(0, x0)] [] (wr M V) o := by
  delta j_X16_isWord_12 at h
  refine S_iload_n (i := 0) dX16_isWord_12 rfl rfl ?_
  refine S_bipush (z := 65) dX16_isWord_13 rfl ?_
  refine P_icmp_lt (tgt := 24) dX16_isWord_15 rfl h (fun h => ?_) (fun h => ?_)
  · exact s_X16_isWord_24 hD hM r0 h hz
  · refine S_iload_n (i := 0) dX16_isWord_18 rfl rfl ?_
    refine S_bipush (z := 90) dX16_isWord_19 rfl ?_
    refine P_icmp_le (tgt := 36) dX16_isWord_21 rfl h (fun h => ?_) (fun h => ?_)
    · refine S_weak (ls' := [(9, 0)]) ⟨Or.inl rfl, trivial⟩ ?_
      exact s_X16_isWord_36 hD hM r0 h hz
    · exact s_X16_isWord_24 hD hM r0 h hz
theorem s_X16_isWord_0 {g : GG} {d : Nat} (hD : 0 ≤ d) {x0 : Int} {M : MM} (hM : LM M) {V : VV} {o : AV × MM} {P : (Int) → Prop} (r0 : ∀ r : Int, P r → o = ((0, r), (wr M V))) {z : Int} (h : f_X16_isWord x0 = some z) (hz : P z) : Sem g d YX16_isWord 0 [(0, x0)] [] (wr M V) o := by
  delta f_X16_isWord at h
  refine S_iload_n (i := 0) dX16_isWord_0 rfl rfl ?_
  refine S_bipush (z := 48) dX16_isWord_1 rfl ?_
  refine P_icmp_lt (tgt := 12) dX16_isWord_3 rfl h (fun h => ?_) (fun h => ?_)
  · exact s_X16_isWord_12 hD hM r0 h hz
  · refine S_iload_n (i := 0) dX16_isWord_6 rfl rfl ?_
    refine S_bipush (z := 57) dX16_isWord_7 rfl ?_
    refine P_icmp_le (tgt := 36) dX16_isWord_9 rfl h (fun h => ?_) (fun h => ?_)
    · refine S_weak (ls' := [(9, 0)]) ⟨Or.inl rfl, trivial⟩ ?_
      exact s_X16_isWord_36 hD hM r0 h hz
    · exact s_X16_isWord_12 hD hM r0 h hz
theorem F_X16_isWord {g : GG} {d : Nat} (hD : 0 ≤ d) {x0 : Int} {M : MM} (hM : LM M) {V : VV} {r : Int} (h : f_X16_isWord x0 = some r) : Sem g d YX16_isWord 0 (ini YX16_isWord [(0, x0)]) [] (wr M V) ((0, r), (wr M V)) := by
  change Sem g d YX16_isWord 0 [(0, x0)] [] (wr M V) ((0, r), (wr M V))
  exact s_X16_isWord_0 hD hM (P := fun x => x = r) (fun q e => by rw [e]) h rfl
/-! PeerSearchModel.small(I)I -/
theorem dX16_small_0 : decode cX16_small 0 = .ok (.iload_n 0, 1) := by decide +kernel
theorem dX16_small_1 : decode cX16_small 1 = .ok (.bipush 65, 2) := by decide +kernel
theorem dX16_small_3 : decode cX16_small 3 = .ok (.if_icmp .lt 16, 3) := by decide +kernel
theorem dX16_small_6 : decode cX16_small 6 = .ok (.iload_n 0, 1) := by decide +kernel
theorem dX16_small_7 : decode cX16_small 7 = .ok (.bipush 90, 2) := by decide +kernel
theorem dX16_small_9 : decode cX16_small 9 = .ok (.if_icmp .gt 10, 3) := by decide +kernel
theorem dX16_small_12 : decode cX16_small 12 = .ok (.iload_n 0, 1) := by decide +kernel
theorem dX16_small_13 : decode cX16_small 13 = .ok (.bipush 32, 2) := by decide +kernel
theorem dX16_small_15 : decode cX16_small 15 = .ok (.iadd, 1) := by decide +kernel
theorem dX16_small_16 : decode cX16_small 16 = .ok (.goto 4, 3) := by decide +kernel
theorem dX16_small_19 : decode cX16_small 19 = .ok (.iload_n 0, 1) := by decide +kernel
theorem dX16_small_20 : decode cX16_small 20 = .ok (.ireturn, 1) := by decide +kernel
def j_X16_small_20 (y0 : Int) : Option (Int) :=
  some y0
def j_X16_small_19 (x0 : Int) : Option (Int) :=
  j_X16_small_20 x0
def f_X16_small (x0 : Int) : Option (Int) :=
  if w32 x0 < w32 65 then
    j_X16_small_19 x0
  else
    if w32 90 < w32 x0 then
      j_X16_small_19 x0
    else
      j_X16_small_20 (x0 + 32)
theorem s_X16_small_20 {g : GG} {d : Nat} (hD : 0 ≤ d) {y0 : Int} {M : MM} (hM : LM M) {V : VV} {o : AV × MM} {P : (Int) → Prop} (r0 : ∀ r : Int, P r → o = ((0, r), (wr M V))) {z : Int} (h : j_X16_small_20 y0 = some z) (hz : P z) : Sem g d YX16_small 20 [(9, 0)] [(0, y0)] (wr M V) o := by
  delta j_X16_small_20 at h
  obtain rfl := r0 _ (some_P (P := fun r => P r) h hz)
  exact P_ret dX16_small_20 rfl (Or.inl rfl)
theorem s_X16_small_19 {g : GG} {d : Nat} (hD : 0 ≤ d) {x0 : Int} {M : MM} (hM : LM M) {V : VV} {o : AV × MM} {P : (Int) → Prop} (r0 : ∀ r : Int, P r → o = ((0, r), (wr M V))) {z : Int} (h : j_X16_small_19 x0 = some z) (hz : P z) : Sem g d YX16_small 19 [(0, x0)] [] (wr M V) o := by
  delta j_X16_small_19 at h
  refine S_iload_n (i := 0) dX16_small_19 rfl rfl ?_
  refine S_weak (ls' := [(9, 0)]) ⟨Or.inl rfl, trivial⟩ ?_
  exact s_X16_small_20 hD hM r0 h hz
theorem s_X16_small_0 {g : GG} {d : Nat} (hD : 0 ≤ d) {x0 : Int} {M : MM} (hM : LM M) {V : VV} {o : AV × MM} {P : (Int) → Prop} (r0 : ∀ r : Int, P r → o = ((0, r), (wr M V))) {z : Int} (h : f_X16_small x0 = some z) (hz : P z) : Sem g d YX16_small 0 [(0, x0)] [] (wr M V) o := by
  delta f_X16_small at h
  refine S_iload_n (i := 0) dX16_small_0 rfl rfl ?_
  refine S_bipush (z := 65) dX16_small_1 rfl ?_
  refine P_icmp_lt (tgt := 19) dX16_small_3 rfl h (fun h => ?_) (fun h => ?_)
  · exact s_X16_small_19 hD hM r0 h hz
  · refine S_iload_n (i := 0) dX16_small_6 rfl rfl ?_
    refine S_bipush (z := 90) dX16_small_7 rfl ?_
    refine P_icmp_gt (tgt := 19) dX16_small_9 rfl h (fun h => ?_) (fun h => ?_)
    · exact s_X16_small_19 hD hM r0 h hz
    · refine S_iload_n (i := 0) dX16_small_12 rfl rfl ?_
      refine S_bipush (z := 32) dX16_small_13 rfl ?_
      refine S_iadd dX16_small_15 ?_
      refine S_goto (tgt := 20) dX16_small_16 rfl ?_
      refine S_weak (ls' := [(9, 0)]) ⟨Or.inl rfl, trivial⟩ ?_
      exact s_X16_small_20 hD hM r0 h hz
theorem F_X16_small {g : GG} {d : Nat} (hD : 0 ≤ d) {x0 : Int} {M : MM} (hM : LM M) {V : VV} {r : Int} (h : f_X16_small x0 = some r) : Sem g d YX16_small 0 (ini YX16_small [(0, x0)]) [] (wr M V) ((0, r), (wr M V)) := by
  change Sem g d YX16_small 0 [(0, x0)] [] (wr M V) ((0, r), (wr M V))
  exact s_X16_small_0 hD hM (P := fun x => x = r) (fun q e => by rw [e]) h rfl
/-! PeerSearchModel.terms()V -/
theorem dX16_terms_0 : decode cX16_terms 0 = .ok (.aload_n 0, 1) := by decide +kernel
theorem dX16_terms_1 : decode cX16_terms 1 = .ok (.iconst 0, 1) := by decide +kernel
theorem dX16_terms_2 : decode cX16_terms 2 = .ok (.putfield 442, 3) := by decide +kernel
theorem dX16_terms_5 : decode cX16_terms 5 = .ok (.iconst 0, 1) := by decide +kernel
theorem dX16_terms_6 : decode cX16_terms 6 = .ok (.istore_n 1, 1) := by decide +kernel
theorem dX16_terms_7 : decode cX16_terms 7 = .ok (.iload_n 1, 1) := by decide +kernel
theorem dX16_terms_8 : decode cX16_terms 8 = .ok (.aload_n 0, 1) := by decide +kernel
theorem dX16_terms_9 : decode cX16_terms 9 = .ok (.getfield 387, 3) := by decide +kernel
theorem dX16_terms_12 : decode cX16_terms 12 = .ok (.if_icmp .ge 192, 3) := by decide +kernel
theorem dX16_terms_15 : decode cX16_terms 15 = .ok (.aload_n 0, 1) := by decide +kernel
theorem dX16_terms_16 : decode cX16_terms 16 = .ok (.getfield 13, 3) := by decide +kernel
theorem dX16_terms_19 : decode cX16_terms 19 = .ok (.iload_n 1, 1) := by decide +kernel
theorem dX16_terms_20 : decode cX16_terms 20 = .ok (.iaload, 1) := by decide +kernel
theorem dX16_terms_21 : decode cX16_terms 21 = .ok (.invokestatic 445, 3) := by decide +kernel
theorem dX16_terms_24 : decode cX16_terms 24 = .ok (.ifCond .ne 9, 3) := by decide +kernel
theorem dX16_terms_27 : decode cX16_terms 27 = .ok (.iinc 1 1, 3) := by decide +kernel
theorem dX16_terms_30 : decode cX16_terms 30 = .ok (.goto (-23), 3) := by decide +kernel
theorem dX16_terms_33 : decode cX16_terms 33 = .ok (.iconst 0, 1) := by decide +kernel
theorem dX16_terms_34 : decode cX16_terms 34 = .ok (.istore_n 2, 1) := by decide +kernel
theorem dX16_terms_35 : decode cX16_terms 35 = .ok (.iload_n 1, 1) := by decide +kernel
theorem dX16_terms_36 : decode cX16_terms 36 = .ok (.aload_n 0, 1) := by decide +kernel
theorem dX16_terms_37 : decode cX16_terms 37 = .ok (.getfield 387, 3) := by decide +kernel
theorem dX16_terms_40 : decode cX16_terms 40 = .ok (.if_icmp .ge 65, 3) := by decide +kernel
theorem dX16_terms_43 : decode cX16_terms 43 = .ok (.aload_n 0, 1) := by decide +kernel
theorem dX16_terms_44 : decode cX16_terms 44 = .ok (.getfield 13, 3) := by decide +kernel
theorem dX16_terms_47 : decode cX16_terms 47 = .ok (.iload_n 1, 1) := by decide +kernel
theorem dX16_terms_48 : decode cX16_terms 48 = .ok (.aload_n 0, 1) := by decide +kernel
theorem dX16_terms_49 : decode cX16_terms 49 = .ok (.getfield 387, 3) := by decide +kernel
theorem dX16_terms_52 : decode cX16_terms 52 = .ok (.if_icmp .ge 7, 3) := by decide +kernel
theorem dX16_terms_55 : decode cX16_terms 55 = .ok (.iload_n 1, 1) := by decide +kernel
theorem dX16_terms_56 : decode cX16_terms 56 = .ok (.goto 4, 3) := by decide +kernel
theorem dX16_terms_59 : decode cX16_terms 59 = .ok (.iconst 0, 1) := by decide +kernel
theorem dX16_terms_60 : decode cX16_terms 60 = .ok (.iaload, 1) := by decide +kernel
theorem dX16_terms_61 : decode cX16_terms 61 = .ok (.invokestatic 445, 3) := by decide +kernel
theorem dX16_terms_64 : decode cX16_terms 64 = .ok (.ifCond .eq 41, 3) := by decide +kernel
theorem dX16_terms_67 : decode cX16_terms 67 = .ok (.iload_n 2, 1) := by decide +kernel
theorem dX16_terms_68 : decode cX16_terms 68 = .ok (.bipush 12, 2) := by decide +kernel
theorem dX16_terms_70 : decode cX16_terms 70 = .ok (.if_icmp .ge 29, 3) := by decide +kernel
theorem dX16_terms_73 : decode cX16_terms 73 = .ok (.aload_n 0, 1) := by decide +kernel
theorem dX16_terms_74 : decode cX16_terms 74 = .ok (.getfield 79, 3) := by decide +kernel
theorem dX16_terms_77 : decode cX16_terms 77 = .ok (.bipush 12, 2) := by decide +kernel
theorem dX16_terms_79 : decode cX16_terms 79 = .ok (.aload_n 0, 1) := by decide +kernel
theorem dX16_terms_80 : decode cX16_terms 80 = .ok (.getfield 442, 3) := by decide +kernel
theorem dX16_terms_83 : decode cX16_terms 83 = .ok (.imul, 1) := by decide +kernel
theorem dX16_terms_84 : decode cX16_terms 84 = .ok (.iload_n 2, 1) := by decide +kernel
theorem dX16_terms_85 : decode cX16_terms 85 = .ok (.iadd, 1) := by decide +kernel
theorem dX16_terms_86 : decode cX16_terms 86 = .ok (.aload_n 0, 1) := by decide +kernel
theorem dX16_terms_87 : decode cX16_terms 87 = .ok (.getfield 13, 3) := by decide +kernel
theorem dX16_terms_90 : decode cX16_terms 90 = .ok (.iload_n 1, 1) := by decide +kernel
theorem dX16_terms_91 : decode cX16_terms 91 = .ok (.iaload, 1) := by decide +kernel
theorem dX16_terms_92 : decode cX16_terms 92 = .ok (.invokestatic 448, 3) := by decide +kernel
theorem dX16_terms_95 : decode cX16_terms 95 = .ok (.iastore, 1) := by decide +kernel
theorem dX16_terms_96 : decode cX16_terms 96 = .ok (.iinc 2 1, 3) := by decide +kernel
theorem dX16_terms_99 : decode cX16_terms 99 = .ok (.iinc 1 1, 3) := by decide +kernel
theorem dX16_terms_102 : decode cX16_terms 102 = .ok (.goto (-67), 3) := by decide +kernel
theorem dX16_terms_105 : decode cX16_terms 105 = .ok (.iconst 0, 1) := by decide +kernel
theorem dX16_terms_106 : decode cX16_terms 106 = .ok (.istore_n 3, 1) := by decide +kernel
theorem dX16_terms_107 : decode cX16_terms 107 = .ok (.iload_n 3, 1) := by decide +kernel
theorem dX16_terms_108 : decode cX16_terms 108 = .ok (.aload_n 0, 1) := by decide +kernel
theorem dX16_terms_109 : decode cX16_terms 109 = .ok (.getfield 442, 3) := by decide +kernel
theorem dX16_terms_112 : decode cX16_terms 112 = .ok (.if_icmp .ge 41, 3) := by decide +kernel
theorem dX16_terms_115 : decode cX16_terms 115 = .ok (.aload_n 0, 1) := by decide +kernel
theorem dX16_terms_116 : decode cX16_terms 116 = .ok (.getfield 79, 3) := by decide +kernel
theorem dX16_terms_119 : decode cX16_terms 119 = .ok (.bipush 12, 2) := by decide +kernel
theorem dX16_terms_121 : decode cX16_terms 121 = .ok (.iload_n 3, 1) := by decide +kernel
theorem dX16_terms_122 : decode cX16_terms 122 = .ok (.imul, 1) := by decide +kernel
theorem dX16_terms_123 : decode cX16_terms 123 = .ok (.aload_n 0, 1) := by decide +kernel
theorem dX16_terms_124 : decode cX16_terms 124 = .ok (.getfield 82, 3) := by decide +kernel
theorem dX16_terms_127 : decode cX16_terms 127 = .ok (.iload_n 3, 1) := by decide +kernel
theorem dX16_terms_128 : decode cX16_terms 128 = .ok (.iaload, 1) := by decide +kernel
theorem dX16_terms_129 : decode cX16_terms 129 = .ok (.aload_n 0, 1) := by decide +kernel
theorem dX16_terms_130 : decode cX16_terms 130 = .ok (.getfield 79, 3) := by decide +kernel
theorem dX16_terms_133 : decode cX16_terms 133 = .ok (.bipush 12, 2) := by decide +kernel
theorem dX16_terms_135 : decode cX16_terms 135 = .ok (.aload_n 0, 1) := by decide +kernel
theorem dX16_terms_136 : decode cX16_terms 136 = .ok (.getfield 442, 3) := by decide +kernel
theorem dX16_terms_139 : decode cX16_terms 139 = .ok (.imul, 1) := by decide +kernel
theorem dX16_terms_140 : decode cX16_terms 140 = .ok (.iload_n 2, 1) := by decide +kernel
theorem dX16_terms_141 : decode cX16_terms 141 = .ok (.invokestatic 451, 3) := by decide +kernel
theorem dX16_terms_144 : decode cX16_terms 144 = .ok (.ifCond .ne 9, 3) := by decide +kernel
theorem dX16_terms_147 : decode cX16_terms 147 = .ok (.iinc 3 1, 3) := by decide +kernel
theorem dX16_terms_150 : decode cX16_terms 150 = .ok (.goto (-43), 3) := by decide +kernel
theorem dX16_terms_153 : decode cX16_terms 153 = .ok (.iload_n 3, 1) := by decide +kernel
theorem dX16_terms_154 : decode cX16_terms 154 = .ok (.aload_n 0, 1) := by decide +kernel
theorem dX16_terms_155 : decode cX16_terms 155 = .ok (.getfield 442, 3) := by decide +kernel
theorem dX16_terms_158 : decode cX16_terms 158 = .ok (.if_icmp .ne 33, 3) := by decide +kernel
theorem dX16_terms_161 : decode cX16_terms 161 = .ok (.aload_n 0, 1) := by decide +kernel
theorem dX16_terms_162 : decode cX16_terms 162 = .ok (.getfield 82, 3) := by decide +kernel
theorem dX16_terms_165 : decode cX16_terms 165 = .ok (.aload_n 0, 1) := by decide +kernel
theorem dX16_terms_166 : decode cX16_terms 166 = .ok (.getfield 442, 3) := by decide +kernel
theorem dX16_terms_169 : decode cX16_terms 169 = .ok (.iload_n 2, 1) := by decide +kernel
theorem dX16_terms_170 : decode cX16_terms 170 = .ok (.iastore, 1) := by decide +kernel
theorem dX16_terms_171 : decode cX16_terms 171 = .ok (.aload_n 0, 1) := by decide +kernel
theorem dX16_terms_172 : decode cX16_terms 172 = .ok (.getfield 85, 3) := by decide +kernel
theorem dX16_terms_175 : decode cX16_terms 175 = .ok (.aload_n 0, 1) := by decide +kernel
theorem dX16_terms_176 : decode cX16_terms 176 = .ok (.getfield 442, 3) := by decide +kernel
theorem dX16_terms_179 : decode cX16_terms 179 = .ok (.iconst 0, 1) := by decide +kernel
theorem dX16_terms_180 : decode cX16_terms 180 = .ok (.iastore, 1) := by decide +kernel
theorem dX16_terms_181 : decode cX16_terms 181 = .ok (.aload_n 0, 1) := by decide +kernel
theorem dX16_terms_182 : decode cX16_terms 182 = .ok (.dup, 1) := by decide +kernel
theorem dX16_terms_183 : decode cX16_terms 183 = .ok (.getfield 442, 3) := by decide +kernel
theorem dX16_terms_186 : decode cX16_terms 186 = .ok (.iconst 1, 1) := by decide +kernel
theorem dX16_terms_187 : decode cX16_terms 187 = .ok (.iadd, 1) := by decide +kernel
theorem dX16_terms_188 : decode cX16_terms 188 = .ok (.putfield 442, 3) := by decide +kernel
theorem dX16_terms_191 : decode cX16_terms 191 = .ok (.aload_n 0, 1) := by decide +kernel
theorem dX16_terms_192 : decode cX16_terms 192 = .ok (.getfield 85, 3) := by decide +kernel
theorem dX16_terms_195 : decode cX16_terms 195 = .ok (.iload_n 3, 1) := by decide +kernel
theorem dX16_terms_196 : decode cX16_terms 196 = .ok (.dup2, 1) := by decide +kernel
theorem dX16_terms_197 : decode cX16_terms 197 = .ok (.iaload, 1) := by decide +kernel
theorem dX16_terms_198 : decode cX16_terms 198 = .ok (.iconst 1, 1) := by decide +kernel
theorem dX16_terms_199 : decode cX16_terms 199 = .ok (.iadd, 1) := by decide +kernel
theorem dX16_terms_200 : decode cX16_terms 200 = .ok (.iastore, 1) := by decide +kernel
theorem dX16_terms_201 : decode cX16_terms 201 = .ok (.goto (-194), 3) := by decide +kernel
theorem dX16_terms_204 : decode cX16_terms 204 = .ok (.return_, 1) := by decide +kernel
def j_X16_terms_191 (x1 x3 : Int) (V : VV) : Option ((Int × VV) ⊕ (VV)) :=
  (l2 181 250 x3 V).bind fun v1 =>
  (s2 181 250 x3 (v1 + 1) V).bind fun V1 =>
  cnt (x1, V1)
def j_X16_terms_153 (x1 x2 x3 : Int) (V : VV) : Option ((Int × VV) ⊕ (VV)) :=
  if w32 x3 = w32 (w32 (V 156 28)) then
    (s2 180 250 (w32 (V 156 28)) x2 V).bind fun V1 =>
    (s2 181 250 (w32 (V1 156 28)) 0 V1).bind fun V2 =>
    (p2 28 ((w32 (V2 156 28)) + 1) V2).bind fun V3 =>
    j_X16_terms_191 x1 x3 V3
  else
    j_X16_terms_191 x1 x3 V
def b_X16_terms_107 (x1 x2 x3 : Int) (V : VV) : Option ((Int) ⊕ ((Int × VV) ⊕ (VV))) :=
  if w32 x3 < w32 (w32 (V 156 28)) then
    (l2 180 250 x3 V).bind fun v1 =>
    (f_X16_alike 179 (12 * x3) v1 179 (12 * (w32 (V 156 28))) x2 V).bind fun v2 =>
    if w32 v2 = 0 then
      cnt (x3 + 1)
    else
      xit (j_X16_terms_153 x1 x2 x3 V)
  else
    xit (j_X16_terms_153 x1 x2 x3 V)
def l_X16_terms_107 (x1 x2 x3 : Int) (V : VV) : Option ((Int × VV) ⊕ (VV)) := lpN (fun s : Int => b_X16_terms_107 x1 x2 s V) FU x3
def j_X16_terms_105 (x1 x2 : Int) (V : VV) : Option ((Int × VV) ⊕ (VV)) :=
  l_X16_terms_107 x1 x2 0 V
def j_X16_terms_99 (x1 x2 : Int) (V : VV) : Option ((Int × Int × VV) ⊕ ((Int × VV) ⊕ (VV))) :=
  cnt (x1 + 1, x2, V)
def j_X16_terms_60 (x1 x2 y1 : Int) (V : VV) : Option ((Int × Int × VV) ⊕ ((Int × VV) ⊕ (VV))) :=
  (l2 158 500 y1 V).bind fun v1 =>
  (f_X16_isWord v1).bind fun v2 =>
  if w32 v2 = 0 then
    xit (j_X16_terms_105 x1 x2 V)
  else
    if w32 x2 < w32 12 then
      (l2 158 500 x1 V).bind fun v3 =>
      (f_X16_small v3).bind fun v4 =>
      (s2 179 3000 ((12 * (w32 (V 156 28))) + x2) v4 V).bind fun V1 =>
      j_X16_terms_99 x1 (x2 + 1) V1
    else
      j_X16_terms_99 x1 x2 V
def b_X16_terms_35 (x1 x2 : Int) (V : VV) : Option ((Int × Int × VV) ⊕ ((Int × VV) ⊕ (VV))) :=
  if w32 x1 < w32 (w32 (V 156 4)) then
    if w32 x1 < w32 (w32 (V 156 4)) then
      j_X16_terms_60 x1 x2 x1 V
    else
      j_X16_terms_60 x1 x2 0 V
  else
    xit (j_X16_terms_105 x1 x2 V)
def l_X16_terms_35 (x1 x2 : Int) (V : VV) : Option ((Int × VV) ⊕ (VV)) := lpN (fun s : Int × Int × VV => b_X16_terms_35 s.1 s.2.1 s.2.2) FU (x1, x2, V)
def b_X16_terms_7 (x1 : Int) (V : VV) : Option ((Int × VV) ⊕ (VV)) :=
  if w32 x1 < w32 (w32 (V 156 4)) then
    (l2 158 500 x1 V).bind fun v1 =>
    (f_X16_isWord v1).bind fun v2 =>
    if w32 v2 = 0 then
      cnt (x1 + 1, V)
    else
      l_X16_terms_35 x1 0 V
  else
    xit (some V)
def l_X16_terms_7 (x1 : Int) (V : VV) : Option (VV) := lpN (fun s : Int × VV => b_X16_terms_7 s.1 s.2) FU (x1, V)
def f_X16_terms (V : VV) : Option (VV) :=
  (p2 28 0 V).bind fun V1 =>
  l_X16_terms_7 0 V1
theorem s_X16_terms_191 {g : GG} {d : Nat} (hD : 1 ≤ d) {x1 x3 : Int} {M : MM} (hM : LM M) {V : VV} {o : AV × MM} {P : ((Int × VV) ⊕ (VV)) → Prop} (c0 : ∀ s : Int × VV, P (.inl s) → Sem g d YX16_terms 7 [(1, 156), (0, s.1), (9, 0), (9, 0)] [] (wr M s.2) o) (r0 : ∀ r : VV, P (.inr r) → o = ((9, 0), (wr M r))) {z : (Int × VV) ⊕ (VV)} (h : j_X16_terms_191 x1 x3 V = some z) (hz : P z) : Sem g d YX16_terms 191 [(1, 156), (0, x1), (9, 0), (0, x3)] [] (wr M V) o := by
  delta j_X16_terms_191 at h
  refine S_aload_n (i := 0) dX16_terms_191 rfl rfl ?_
  refine P2_gfr hM (a := 181) FLX16_85 rfl ⟨rfl, rfl⟩ dX16_terms_192 ?_
  refine S_iload_n (i := 3) dX16_terms_195 rfl rfl ?_
  refine S_dup2 dX16_terms_196 (Nat.le_of_ble_eq_true rfl) (Nat.le_of_ble_eq_true rfl) ?_
  refine P2_lai hM (a := 181) (n := 250) rfl dX16_terms_197 h (fun v1 h => ?_)
  refine S_iconst dX16_terms_198 rfl ?_
  refine S_iadd dX16_terms_199 ?_
  refine P2_sai hM (a := 181) (n := 250) rfl dX16_terms_200 h (fun V1 h => ?_)
  refine S_goto (tgt := 7) dX16_terms_201 rfl ?_
  refine S_weak (ls' := [(1, 156), (0, x1), (9, 0), (9, 0)]) ⟨Or.inr rfl, ⟨Or.inr rfl, ⟨Or.inl rfl, ⟨Or.inl rfl, trivial⟩⟩⟩⟩ ?_
  exact c0 (x1, V1) (some_P (P := fun r => P r) h hz)
theorem s_X16_terms_153 {g : GG} {d : Nat} (hD : 1 ≤ d) {x1 x2 x3 : Int} {M : MM} (hM : LM M) {V : VV} {o : AV × MM} {P : ((Int × VV) ⊕ (VV)) → Prop} (c0 : ∀ s : Int × VV, P (.inl s) → Sem g d YX16_terms 7 [(1, 156), (0, s.1), (9, 0), (9, 0)] [] (wr M s.2) o) (r0 : ∀ r : VV, P (.inr r) → o = ((9, 0), (wr M r))) {z : (Int × VV) ⊕ (VV)} (h : j_X16_terms_153 x1 x2 x3 V = some z) (hz : P z) : Sem g d YX16_terms 153 [(1, 156), (0, x1), (0, x2), (0, x3)] [] (wr M V) o := by
  delta j_X16_terms_153 at h
  refine S_iload_n (i := 3) dX16_terms_153 rfl rfl ?_
  refine S_aload_n (i := 0) dX16_terms_154 rfl rfl ?_
  refine P2_gfi hM FLX16_442 rfl dX16_terms_155 ?_
  refine P_icmp_ne (tgt := 191) dX16_terms_158 rfl h (fun h => ?_) (fun h => ?_)
  · refine S_weak (ls' := [(1, 156), (0, x1), (9, 0), (0, x3)]) ⟨Or.inr rfl, ⟨Or.inr rfl, ⟨Or.inl rfl, ⟨Or.inr rfl, trivial⟩⟩⟩⟩ ?_
    exact s_X16_terms_191 hD hM c0 r0 h hz
  · refine S_aload_n (i := 0) dX16_terms_161 rfl rfl ?_
    refine P2_gfr hM (a := 180) FLX16_82 rfl ⟨rfl, rfl⟩ dX16_terms_162 ?_
    refine S_aload_n (i := 0) dX16_terms_165 rfl rfl ?_
    refine P2_gfi hM FLX16_442 rfl dX16_terms_166 ?_
    refine S_iload_n (i := 2) dX16_terms_169 rfl rfl ?_
    refine P2_sai hM (a := 180) (n := 250) rfl dX16_terms_170 h (fun V1 h => ?_)
    refine S_aload_n (i := 0) dX16_terms_171 rfl rfl ?_
    refine P2_gfr hM (a := 181) FLX16_85 rfl ⟨rfl, rfl⟩ dX16_terms_172 ?_
    refine S_aload_n (i := 0) dX16_terms_175 rfl rfl ?_
    refine P2_gfi hM FLX16_442 rfl dX16_terms_176 ?_
    refine S_iconst dX16_terms_179 rfl ?_
    refine P2_sai hM (a := 181) (n := 250) rfl dX16_terms_180 h (fun V2 h => ?_)
    refine S_aload_n (i := 0) dX16_terms_181 rfl rfl ?_
    refine S_dup dX16_terms_182 (Nat.le_of_ble_eq_true rfl) ?_
    refine P2_gfi hM FLX16_442 rfl dX16_terms_183 ?_
    refine S_iconst dX16_terms_186 rfl ?_
    refine S_iadd dX16_terms_187 ?_
    refine P2_pfi hM FLX16_442 FPX16_442 rfl dX16_terms_188 h (fun V3 h => ?_)
    refine S_weak (ls' := [(1, 156), (0, x1), (9, 0), (0, x3)]) ⟨Or.inr rfl, ⟨Or.inr rfl, ⟨Or.inl rfl, ⟨Or.inr rfl, trivial⟩⟩⟩⟩ ?_
    exact s_X16_terms_191 hD hM c0 r0 h hz
theorem s_X16_terms_107 {g : GG} {d : Nat} (hD : 1 ≤ d) {x1 x2 x3 : Int} {M : MM} (hM : LM M) {V : VV} {o : AV × MM} {P : ((Int) ⊕ ((Int × VV) ⊕ (VV))) → Prop} (c1 : ∀ s : Int, P (.inl s) → Sem g d YX16_terms 107 [(1, 156), (0, x1), (0, x2), (0, s)] [] (wr M V) o) (c0 : ∀ s : Int × VV, P (.inr (.inl s)) → Sem g d YX16_terms 7 [(1, 156), (0, s.1), (9, 0), (9, 0)] [] (wr M s.2) o) (r0 : ∀ r : VV, P (.inr (.inr r)) → o = ((9, 0), (wr M r))) {z : (Int) ⊕ ((Int × VV) ⊕ (VV))} (h : b_X16_terms_107 x1 x2 x3 V = some z) (hz : P z) : Sem g d YX16_terms 107 [(1, 156), (0, x1), (0, x2), (0, x3)] [] (wr M V) o := by
  delta b_X16_terms_107 at h
  refine S_iload_n (i := 3) dX16_terms_107 rfl rfl ?_
  refine S_aload_n (i := 0) dX16_terms_108 rfl rfl ?_
  refine P2_gfi hM FLX16_442 rfl dX16_terms_109 ?_
  refine P_icmp_ge (tgt := 153) dX16_terms_112 rfl h (fun h => ?_) (fun h => ?_)
  · obtain ⟨z0, h, hz⟩ := xit_some' (P := fun r => P r) h hz
    exact s_X16_terms_153 hD hM (P := fun r => P (.inr r)) c0 r0 h hz
  · refine S_aload_n (i := 0) dX16_terms_115 rfl rfl ?_
    refine P2_gfr hM (a := 179) FLX16_79 rfl ⟨rfl, rfl⟩ dX16_terms_116 ?_
    refine S_bipush (z := 12) dX16_terms_119 rfl ?_
    refine S_iload_n (i := 3) dX16_terms_121 rfl rfl ?_
    refine S_imul dX16_terms_122 ?_
    refine S_aload_n (i := 0) dX16_terms_123 rfl rfl ?_
    refine P2_gfr hM (a := 180) FLX16_82 rfl ⟨rfl, rfl⟩ dX16_terms_124 ?_
    refine S_iload_n (i := 3) dX16_terms_127 rfl rfl ?_
    refine P2_lai hM (a := 180) (n := 250) rfl dX16_terms_128 h (fun v1 h => ?_)
    refine S_aload_n (i := 0) dX16_terms_129 rfl rfl ?_
    refine P2_gfr hM (a := 179) FLX16_79 rfl ⟨rfl, rfl⟩ dX16_terms_130 ?_
    refine S_bipush (z := 12) dX16_terms_133 rfl ?_
    refine S_aload_n (i := 0) dX16_terms_135 rfl rfl ?_
    refine P2_gfi hM FLX16_442 rfl dX16_terms_136 ?_
    refine S_imul dX16_terms_139 ?_
    refine S_iload_n (i := 2) dX16_terms_140 rfl rfl ?_
    refine P_invSp 0 [(1, 179), (0, 12 * x3), (0, v1), (1, 179), (0, 12 * (w32 (V 156 28))), (0, x2)] [] CSX16_alike MLX16_451 dX16_terms_141 rfl rfl rfl rfl rfl (by omega) h (fun r h => F_X16_alike (by omega) hM h) (fun v2 h => ?_)
    refine P_if_ne (tgt := 153) dX16_terms_144 rfl h (fun h => ?_) (fun h => ?_)
    · obtain ⟨z0, h, hz⟩ := xit_some' (P := fun r => P r) h hz
      exact s_X16_terms_153 hD hM (P := fun r => P (.inr r)) c0 r0 h hz
    · refine S_iinc dX16_terms_147 rfl rfl rfl ?_
      change Sem g d YX16_terms 150 [(1, 156), (0, x1), (0, x2), (0, x3 + 1)] [] (wr M V) o
      refine S_goto (tgt := 107) dX16_terms_150 rfl ?_
      exact c1 (x3 + 1) (some_P (P := fun r => P r) h hz)
theorem sl_X16_terms_107 {g : GG} {d : Nat} (hD : 1 ≤ d) {x1 x2 x3 : Int} {M : MM} (hM : LM M) {V : VV} {o : AV × MM} {P : ((Int × VV) ⊕ (VV)) → Prop} (c0 : ∀ s : Int × VV, P (.inl s) → Sem g d YX16_terms 7 [(1, 156), (0, s.1), (9, 0), (9, 0)] [] (wr M s.2) o) (r0 : ∀ r : VV, P (.inr r) → o = ((9, 0), (wr M r))) {z : (Int × VV) ⊕ (VV)} (h : l_X16_terms_107 x1 x2 x3 V = some z) (hz : P z) : Sem g d YX16_terms 107 [(1, 156), (0, x1), (0, x2), (0, x3)] [] (wr M V) o := by
  refine lp_sound (S := fun s : Int => Sem g d YX16_terms 107 [(1, 156), (0, x1), (0, x2), (0, s)] [] (wr M V) o) (P := P) ?_ FU x3 z h hz
  intro s x hx hP
  exact s_X16_terms_107 hD hM (P := Sum.elim (fun s : Int => Sem g d YX16_terms 107 [(1, 156), (0, x1), (0, x2), (0, s)] [] (wr M V) o) P) (fun s h => h) (fun s h => c0 s h) (fun s h => r0 s h) hx hP
theorem s_X16_terms_105 {g : GG} {d : Nat} (hD : 1 ≤ d) {x1 x2 : Int} {M : MM} (hM : LM M) {V : VV} {o : AV × MM} {P : ((Int × VV) ⊕ (VV)) → Prop} (c0 : ∀ s : Int × VV, P (.inl s) → Sem g d YX16_terms 7 [(1, 156), (0, s.1), (9, 0), (9, 0)] [] (wr M s.2) o) (r0 : ∀ r : VV, P (.inr r) → o = ((9, 0), (wr M r))) {z : (Int × VV) ⊕ (VV)} (h : j_X16_terms_105 x1 x2 V = some z) (hz : P z) : Sem g d YX16_terms 105 [(1, 156), (0, x1), (0, x2), (9, 0)] [] (wr M V) o := by
  delta j_X16_terms_105 at h
  refine S_iconst dX16_terms_105 rfl ?_
  refine S_istore_n (i := 3) dX16_terms_106 rfl (Nat.le_of_ble_eq_true rfl) rfl rfl ?_
  change Sem g d YX16_terms 107 [(1, 156), (0, x1), (0, x2), (0, 0)] [] (wr M V) o
  exact sl_X16_terms_107 hD hM c0 r0 h hz
theorem s_X16_terms_99 {g : GG} {d : Nat} (hD : 1 ≤ d) {x1 x2 : Int} {M : MM} (hM : LM M) {V : VV} {o : AV × MM} {P : ((Int × Int × VV) ⊕ ((Int × VV) ⊕ (VV))) → Prop} (c1 : ∀ s : Int × Int × VV, P (.inl s) → Sem g d YX16_terms 35 [(1, 156), (0, s.1), (0, s.2.1), (9, 0)] [] (wr M s.2.2) o) (c0 : ∀ s : Int × VV, P (.inr (.inl s)) → Sem g d YX16_terms 7 [(1, 156), (0, s.1), (9, 0), (9, 0)] [] (wr M s.2) o) (r0 : ∀ r : VV, P (.inr (.inr r)) → o = ((9, 0), (wr M r))) {z : (Int × Int × VV) ⊕ ((Int × VV) ⊕ (VV))} (h : j_X16_terms_99 x1 x2 V = some z) (hz : P z) : Sem g d YX16_terms 99 [(1, 156), (0, x1), (0, x2), (9, 0)] [] (wr M V) o := by
  delta j_X16_terms_99 at h
  refine S_iinc dX16_terms_99 rfl rfl rfl ?_
  change Sem g d YX16_terms 102 [(1, 156), (0, x1 + 1), (0, x2), (9, 0)] [] (wr M V) o
  refine S_goto (tgt := 35) dX16_terms_102 rfl ?_
  exact c1 (x1 + 1, x2, V) (some_P (P := fun r => P r) h hz)
theorem s_X16_terms_60 {g : GG} {d : Nat} (hD : 1 ≤ d) {x1 x2 y1 : Int} {M : MM} (hM : LM M) {V : VV} {o : AV × MM} {P : ((Int × Int × VV) ⊕ ((Int × VV) ⊕ (VV))) → Prop} (c1 : ∀ s : Int × Int × VV, P (.inl s) → Sem g d YX16_terms 35 [(1, 156), (0, s.1), (0, s.2.1), (9, 0)] [] (wr M s.2.2) o) (c0 : ∀ s : Int × VV, P (.inr (.inl s)) → Sem g d YX16_terms 7 [(1, 156), (0, s.1), (9, 0), (9, 0)] [] (wr M s.2) o) (r0 : ∀ r : VV, P (.inr (.inr r)) → o = ((9, 0), (wr M r))) {z : (Int × Int × VV) ⊕ ((Int × VV) ⊕ (VV))} (h : j_X16_terms_60 x1 x2 y1 V = some z) (hz : P z) : Sem g d YX16_terms 60 [(1, 156), (0, x1), (0, x2), (9, 0)] [(0, y1), (1, 158)] (wr M V) o := by
  delta j_X16_terms_60 at h
  refine P2_lai hM (a := 158) (n := 500) rfl dX16_terms_60 h (fun v1 h => ?_)
  refine P_invSp 0 [(0, v1)] [] CSX16_isWord MLX16_445 dX16_terms_61 rfl rfl rfl rfl rfl (by omega) h (fun r h => F_X16_isWord (by omega) hM h) (fun v2 h => ?_)
  refine P_if_eq (tgt := 105) dX16_terms_64 rfl h (fun h => ?_) (fun h => ?_)
  · obtain ⟨z0, h, hz⟩ := xit_some' (P := fun r => P r) h hz
    exact s_X16_terms_105 hD hM (P := fun r => P (.inr r)) c0 r0 h hz
  · refine S_iload_n (i := 2) dX16_terms_67 rfl rfl ?_
    refine S_bipush (z := 12) dX16_terms_68 rfl ?_
    refine P_icmp_ge (tgt := 99) dX16_terms_70 rfl h (fun h => ?_) (fun h => ?_)
    · exact s_X16_terms_99 hD hM c1 c0 r0 h hz
    · refine S_aload_n (i := 0) dX16_terms_73 rfl rfl ?_
      refine P2_gfr hM (a := 179) FLX16_79 rfl ⟨rfl, rfl⟩ dX16_terms_74 ?_
      refine S_bipush (z := 12) dX16_terms_77 rfl ?_
      refine S_aload_n (i := 0) dX16_terms_79 rfl rfl ?_
      refine P2_gfi hM FLX16_442 rfl dX16_terms_80 ?_
      refine S_imul dX16_terms_83 ?_
      refine S_iload_n (i := 2) dX16_terms_84 rfl rfl ?_
      refine S_iadd dX16_terms_85 ?_
      refine S_aload_n (i := 0) dX16_terms_86 rfl rfl ?_
      refine P2_gfr hM (a := 158) FLX16_13 rfl ⟨rfl, rfl⟩ dX16_terms_87 ?_
      refine S_iload_n (i := 1) dX16_terms_90 rfl rfl ?_
      refine P2_lai hM (a := 158) (n := 500) rfl dX16_terms_91 h (fun v3 h => ?_)
      refine P_invSp 0 [(0, v3)] [(0, (12 * (w32 (V 156 28))) + x2), (1, 179)] CSX16_small MLX16_448 dX16_terms_92 rfl rfl rfl rfl rfl (by omega) h (fun r h => F_X16_small (by omega) hM h) (fun v4 h => ?_)
      refine P2_sai hM (a := 179) (n := 3000) rfl dX16_terms_95 h (fun V1 h => ?_)
      refine S_iinc dX16_terms_96 rfl rfl rfl ?_
      change Sem g d YX16_terms 99 [(1, 156), (0, x1), (0, x2 + 1), (9, 0)] [] (wr M V1) o
      exact s_X16_terms_99 hD hM c1 c0 r0 h hz
theorem s_X16_terms_35 {g : GG} {d : Nat} (hD : 1 ≤ d) {x1 x2 : Int} {M : MM} (hM : LM M) {V : VV} {o : AV × MM} {P : ((Int × Int × VV) ⊕ ((Int × VV) ⊕ (VV))) → Prop} (c1 : ∀ s : Int × Int × VV, P (.inl s) → Sem g d YX16_terms 35 [(1, 156), (0, s.1), (0, s.2.1), (9, 0)] [] (wr M s.2.2) o) (c0 : ∀ s : Int × VV, P (.inr (.inl s)) → Sem g d YX16_terms 7 [(1, 156), (0, s.1), (9, 0), (9, 0)] [] (wr M s.2) o) (r0 : ∀ r : VV, P (.inr (.inr r)) → o = ((9, 0), (wr M r))) {z : (Int × Int × VV) ⊕ ((Int × VV) ⊕ (VV))} (h : b_X16_terms_35 x1 x2 V = some z) (hz : P z) : Sem g d YX16_terms 35 [(1, 156), (0, x1), (0, x2), (9, 0)] [] (wr M V) o := by
  delta b_X16_terms_35 at h
  refine S_iload_n (i := 1) dX16_terms_35 rfl rfl ?_
  refine S_aload_n (i := 0) dX16_terms_36 rfl rfl ?_
  refine P2_gfi hM FLX16_387 rfl dX16_terms_37 ?_
  refine P_icmp_ge (tgt := 105) dX16_terms_40 rfl h (fun h => ?_) (fun h => ?_)
  · obtain ⟨z0, h, hz⟩ := xit_some' (P := fun r => P r) h hz
    exact s_X16_terms_105 hD hM (P := fun r => P (.inr r)) c0 r0 h hz
  · refine S_aload_n (i := 0) dX16_terms_43 rfl rfl ?_
    refine P2_gfr hM (a := 158) FLX16_13 rfl ⟨rfl, rfl⟩ dX16_terms_44 ?_
    refine S_iload_n (i := 1) dX16_terms_47 rfl rfl ?_
    refine S_aload_n (i := 0) dX16_terms_48 rfl rfl ?_
    refine P2_gfi hM FLX16_387 rfl dX16_terms_49 ?_
    refine P_icmp_ge (tgt := 59) dX16_terms_52 rfl h (fun h => ?_) (fun h => ?_)
    · refine S_iconst dX16_terms_59 rfl ?_
      exact s_X16_terms_60 hD hM c1 c0 r0 h hz
    · refine S_iload_n (i := 1) dX16_terms_55 rfl rfl ?_
      refine S_goto (tgt := 60) dX16_terms_56 rfl ?_
      exact s_X16_terms_60 hD hM c1 c0 r0 h hz
theorem sl_X16_terms_35 {g : GG} {d : Nat} (hD : 1 ≤ d) {x1 x2 : Int} {M : MM} (hM : LM M) {V : VV} {o : AV × MM} {P : ((Int × VV) ⊕ (VV)) → Prop} (c0 : ∀ s : Int × VV, P (.inl s) → Sem g d YX16_terms 7 [(1, 156), (0, s.1), (9, 0), (9, 0)] [] (wr M s.2) o) (r0 : ∀ r : VV, P (.inr r) → o = ((9, 0), (wr M r))) {z : (Int × VV) ⊕ (VV)} (h : l_X16_terms_35 x1 x2 V = some z) (hz : P z) : Sem g d YX16_terms 35 [(1, 156), (0, x1), (0, x2), (9, 0)] [] (wr M V) o := by
  refine lp_sound (S := fun s : Int × Int × VV => Sem g d YX16_terms 35 [(1, 156), (0, s.1), (0, s.2.1), (9, 0)] [] (wr M s.2.2) o) (P := P) ?_ FU (x1, x2, V) z h hz
  intro s x hx hP
  exact s_X16_terms_35 hD hM (P := Sum.elim (fun s : Int × Int × VV => Sem g d YX16_terms 35 [(1, 156), (0, s.1), (0, s.2.1), (9, 0)] [] (wr M s.2.2) o) P) (fun s h => h) (fun s h => c0 s h) (fun s h => r0 s h) hx hP
theorem s_X16_terms_7 {g : GG} {d : Nat} (hD : 1 ≤ d) {x1 : Int} {M : MM} (hM : LM M) {V : VV} {o : AV × MM} {P : ((Int × VV) ⊕ (VV)) → Prop} (c0 : ∀ s : Int × VV, P (.inl s) → Sem g d YX16_terms 7 [(1, 156), (0, s.1), (9, 0), (9, 0)] [] (wr M s.2) o) (r0 : ∀ r : VV, P (.inr r) → o = ((9, 0), (wr M r))) {z : (Int × VV) ⊕ (VV)} (h : b_X16_terms_7 x1 V = some z) (hz : P z) : Sem g d YX16_terms 7 [(1, 156), (0, x1), (9, 0), (9, 0)] [] (wr M V) o := by
  delta b_X16_terms_7 at h
  refine S_iload_n (i := 1) dX16_terms_7 rfl rfl ?_
  refine S_aload_n (i := 0) dX16_terms_8 rfl rfl ?_
  refine P2_gfi hM FLX16_387 rfl dX16_terms_9 ?_
  refine P_icmp_ge (tgt := 204) dX16_terms_12 rfl h (fun h => ?_) (fun h => ?_)
  · obtain ⟨z0, h, hz⟩ := xit_some' (P := fun r => P r) h hz
    obtain rfl := r0 _ (some_P (P := fun r => P (.inr r)) h hz)
    exact S_return dX16_terms_204 rfl
  · refine S_aload_n (i := 0) dX16_terms_15 rfl rfl ?_
    refine P2_gfr hM (a := 158) FLX16_13 rfl ⟨rfl, rfl⟩ dX16_terms_16 ?_
    refine S_iload_n (i := 1) dX16_terms_19 rfl rfl ?_
    refine P2_lai hM (a := 158) (n := 500) rfl dX16_terms_20 h (fun v1 h => ?_)
    refine P_invSp 0 [(0, v1)] [] CSX16_isWord MLX16_445 dX16_terms_21 rfl rfl rfl rfl rfl (by omega) h (fun r h => F_X16_isWord (by omega) hM h) (fun v2 h => ?_)
    refine P_if_ne (tgt := 33) dX16_terms_24 rfl h (fun h => ?_) (fun h => ?_)
    · refine S_iconst dX16_terms_33 rfl ?_
      refine S_istore_n (i := 2) dX16_terms_34 rfl (Nat.le_of_ble_eq_true rfl) rfl rfl ?_
      change Sem g d YX16_terms 35 [(1, 156), (0, x1), (0, 0), (9, 0)] [] (wr M V) o
      exact sl_X16_terms_35 hD hM c0 r0 h hz
    · refine S_iinc dX16_terms_27 rfl rfl rfl ?_
      change Sem g d YX16_terms 30 [(1, 156), (0, x1 + 1), (9, 0), (9, 0)] [] (wr M V) o
      refine S_goto (tgt := 7) dX16_terms_30 rfl ?_
      exact c0 (x1 + 1, V) (some_P (P := fun r => P r) h hz)
theorem sl_X16_terms_7 {g : GG} {d : Nat} (hD : 1 ≤ d) {x1 : Int} {M : MM} (hM : LM M) {V : VV} {o : AV × MM} {P : (VV) → Prop} (r0 : ∀ r : VV, P r → o = ((9, 0), (wr M r))) {z : VV} (h : l_X16_terms_7 x1 V = some z) (hz : P z) : Sem g d YX16_terms 7 [(1, 156), (0, x1), (9, 0), (9, 0)] [] (wr M V) o := by
  refine lp_sound (S := fun s : Int × VV => Sem g d YX16_terms 7 [(1, 156), (0, s.1), (9, 0), (9, 0)] [] (wr M s.2) o) (P := P) ?_ FU (x1, V) z h hz
  intro s x hx hP
  exact s_X16_terms_7 hD hM (P := Sum.elim (fun s : Int × VV => Sem g d YX16_terms 7 [(1, 156), (0, s.1), (9, 0), (9, 0)] [] (wr M s.2) o) P) (fun s h => h) (fun s h => r0 s h) hx hP
theorem s_X16_terms_0 {g : GG} {d : Nat} (hD : 1 ≤ d) {M : MM} (hM : LM M) {V : VV} {o : AV × MM} {P : (VV) → Prop} (r0 : ∀ r : VV, P r → o = ((9, 0), (wr M r))) {z : VV} (h : f_X16_terms V = some z) (hz : P z) : Sem g d YX16_terms 0 [(1, 156), (9, 0), (9, 0), (9, 0)] [] (wr M V) o := by
  delta f_X16_terms at h
  refine S_aload_n (i := 0) dX16_terms_0 rfl rfl ?_
  refine S_iconst dX16_terms_1 rfl ?_
  refine P2_pfi hM FLX16_442 FPX16_442 rfl dX16_terms_2 h (fun V1 h => ?_)
  refine S_iconst dX16_terms_5 rfl ?_
  refine S_istore_n (i := 1) dX16_terms_6 rfl (Nat.le_of_ble_eq_true rfl) rfl rfl ?_
  change Sem g d YX16_terms 7 [(1, 156), (0, 0), (9, 0), (9, 0)] [] (wr M V1) o
  exact sl_X16_terms_7 hD hM r0 h hz
theorem F_X16_terms {g : GG} {d : Nat} (hD : 1 ≤ d) {M : MM} (hM : LM M) {V : VV} {r : VV} (h : f_X16_terms V = some r) : Sem g d YX16_terms 0 (ini YX16_terms [(1, 156)]) [] (wr M V) ((9, 0), (wr M r)) := by
  change Sem g d YX16_terms 0 [(1, 156), (9, 0), (9, 0), (9, 0)] [] (wr M V) ((9, 0), (wr M r))
  exact s_X16_terms_0 hD hM (P := fun x => x = r) (fun q e => by rw [e]) h rfl
/-! PeerSearchModel.document(I)I -/
theorem dX16_document_0 : decode cX16_document 0 = .ok (.aload_n 0, 1) := by decide +kernel
theorem dX16_document_1 : decode cX16_document 1 = .ok (.invokevirtual 455, 3) := by decide +kernel
theorem dX16_document_4 : decode cX16_document 4 = .ok (.aload_n 0, 1) := by decide +kernel
theorem dX16_document_5 : decode cX16_document 5 = .ok (.iconst 0, 1) := by decide +kernel
theorem dX16_document_6 : decode cX16_document 6 = .ok (.putfield 387, 3) := by decide +kernel
theorem dX16_document_9 : decode cX16_document 9 = .ok (.aload_n 0, 1) := by decide +kernel
theorem dX16_document_10 : decode cX16_document 10 = .ok (.iload_n 1, 1) := by decide +kernel
theorem dX16_document_11 : decode cX16_document 11 = .ok (.invokevirtual 427, 3) := by decide +kernel
theorem dX16_document_14 : decode cX16_document 14 = .ok (.ifCond .eq 30, 3) := by decide +kernel
theorem dX16_document_17 : decode cX16_document 17 = .ok (.aload_n 0, 1) := by decide +kernel
theorem dX16_document_18 : decode cX16_document 18 = .ok (.getfield 60, 3) := by decide +kernel
theorem dX16_document_21 : decode cX16_document 21 = .ok (.iload_n 1, 1) := by decide +kernel
theorem dX16_document_22 : decode cX16_document 22 = .ok (.iaload, 1) := by decide +kernel
theorem dX16_document_23 : decode cX16_document 23 = .ok (.bipush 16, 2) := by decide +kernel
theorem dX16_document_25 : decode cX16_document 25 = .ok (.if_icmp .eq 19, 3) := by decide +kernel
theorem dX16_document_28 : decode cX16_document 28 = .ok (.aload_n 0, 1) := by decide +kernel
theorem dX16_document_29 : decode cX16_document 29 = .ok (.getfield 442, 3) := by decide +kernel
theorem dX16_document_32 : decode cX16_document 32 = .ok (.ifCond .eq 12, 3) := by decide +kernel
theorem dX16_document_35 : decode cX16_document 35 = .ok (.aload_n 0, 1) := by decide +kernel
theorem dX16_document_36 : decode cX16_document 36 = .ok (.getfield 442, 3) := by decide +kernel
theorem dX16_document_39 : decode cX16_document 39 = .ok (.bipush 24, 2) := by decide +kernel
theorem dX16_document_41 : decode cX16_document 41 = .ok (.if_icmp .le 5, 3) := by decide +kernel
theorem dX16_document_44 : decode cX16_document 44 = .ok (.iconst (-1), 1) := by decide +kernel
theorem dX16_document_45 : decode cX16_document 45 = .ok (.ireturn, 1) := by decide +kernel
theorem dX16_document_46 : decode cX16_document 46 = .ok (.iconst 0, 1) := by decide +kernel
theorem dX16_document_47 : decode cX16_document 47 = .ok (.istore_n 2, 1) := by decide +kernel
theorem dX16_document_48 : decode cX16_document 48 = .ok (.iconst 0, 1) := by decide +kernel
theorem dX16_document_49 : decode cX16_document 49 = .ok (.istore_n 3, 1) := by decide +kernel
theorem dX16_document_50 : decode cX16_document 50 = .ok (.iload_n 3, 1) := by decide +kernel
theorem dX16_document_51 : decode cX16_document 51 = .ok (.aload_n 0, 1) := by decide +kernel
theorem dX16_document_52 : decode cX16_document 52 = .ok (.getfield 442, 3) := by decide +kernel
theorem dX16_document_55 : decode cX16_document 55 = .ok (.if_icmp .ge 39, 3) := by decide +kernel
theorem dX16_document_58 : decode cX16_document 58 = .ok (.iload_n 2, 1) := by decide +kernel
theorem dX16_document_59 : decode cX16_document 59 = .ok (.aload_n 0, 1) := by decide +kernel
theorem dX16_document_60 : decode cX16_document 60 = .ok (.iload_n 1, 1) := by decide +kernel
theorem dX16_document_61 : decode cX16_document 61 = .ok (.aload_n 0, 1) := by decide +kernel
theorem dX16_document_62 : decode cX16_document 62 = .ok (.getfield 79, 3) := by decide +kernel
theorem dX16_document_65 : decode cX16_document 65 = .ok (.bipush 12, 2) := by decide +kernel
theorem dX16_document_67 : decode cX16_document 67 = .ok (.iload_n 3, 1) := by decide +kernel
theorem dX16_document_68 : decode cX16_document 68 = .ok (.imul, 1) := by decide +kernel
theorem dX16_document_69 : decode cX16_document 69 = .ok (.aload_n 0, 1) := by decide +kernel
theorem dX16_document_70 : decode cX16_document 70 = .ok (.getfield 82, 3) := by decide +kernel
theorem dX16_document_73 : decode cX16_document 73 = .ok (.iload_n 3, 1) := by decide +kernel
theorem dX16_document_74 : decode cX16_document 74 = .ok (.iaload, 1) := by decide +kernel
theorem dX16_document_75 : decode cX16_document 75 = .ok (.invokevirtual 457, 3) := by decide +kernel
theorem dX16_document_78 : decode cX16_document 78 = .ok (.ifCond .ge 7, 3) := by decide +kernel
theorem dX16_document_81 : decode cX16_document 81 = .ok (.iconst 1, 1) := by decide +kernel
theorem dX16_document_82 : decode cX16_document 82 = .ok (.goto 4, 3) := by decide +kernel
theorem dX16_document_85 : decode cX16_document 85 = .ok (.iconst 0, 1) := by decide +kernel
theorem dX16_document_86 : decode cX16_document 86 = .ok (.iadd, 1) := by decide +kernel
theorem dX16_document_87 : decode cX16_document 87 = .ok (.istore_n 2, 1) := by decide +kernel
theorem dX16_document_88 : decode cX16_document 88 = .ok (.iinc 3 1, 3) := by decide +kernel
theorem dX16_document_91 : decode cX16_document 91 = .ok (.goto (-41), 3) := by decide +kernel
theorem dX16_document_94 : decode cX16_document 94 = .ok (.aload_n 0, 1) := by decide +kernel
theorem dX16_document_95 : decode cX16_document 95 = .ok (.getfield 63, 3) := by decide +kernel
theorem dX16_document_98 : decode cX16_document 98 = .ok (.iload_n 1, 1) := by decide +kernel
theorem dX16_document_99 : decode cX16_document 99 = .ok (.iaload, 1) := by decide +kernel
theorem dX16_document_100 : decode cX16_document 100 = .ok (.iload_n 2, 1) := by decide +kernel
theorem dX16_document_101 : decode cX16_document 101 = .ok (.iadd, 1) := by decide +kernel
theorem dX16_document_102 : decode cX16_document 102 = .ok (.bipush 64, 2) := by decide +kernel
theorem dX16_document_104 : decode cX16_document 104 = .ok (.if_icmp .le 5, 3) := by decide +kernel
theorem dX16_document_107 : decode cX16_document 107 = .ok (.iconst (-1), 1) := by decide +kernel
theorem dX16_document_108 : decode cX16_document 108 = .ok (.ireturn, 1) := by decide +kernel
theorem dX16_document_109 : decode cX16_document 109 = .ok (.aload_n 0, 1) := by decide +kernel
theorem dX16_document_110 : decode cX16_document 110 = .ok (.getfield 60, 3) := by decide +kernel
theorem dX16_document_113 : decode cX16_document 113 = .ok (.iload_n 1, 1) := by decide +kernel
theorem dX16_document_114 : decode cX16_document 114 = .ok (.iaload, 1) := by decide +kernel
theorem dX16_document_115 : decode cX16_document 115 = .ok (.istore_n 3, 1) := by decide +kernel
theorem dX16_document_116 : decode cX16_document 116 = .ok (.aload_n 0, 1) := by decide +kernel
theorem dX16_document_117 : decode cX16_document 117 = .ok (.getfield 60, 3) := by decide +kernel
theorem dX16_document_120 : decode cX16_document 120 = .ok (.iload_n 1, 1) := by decide +kernel
theorem dX16_document_121 : decode cX16_document 121 = .ok (.dup2, 1) := by decide +kernel
theorem dX16_document_122 : decode cX16_document 122 = .ok (.iaload, 1) := by decide +kernel
theorem dX16_document_123 : decode cX16_document 123 = .ok (.iconst 1, 1) := by decide +kernel
theorem dX16_document_124 : decode cX16_document 124 = .ok (.iadd, 1) := by decide +kernel
theorem dX16_document_125 : decode cX16_document 125 = .ok (.iastore, 1) := by decide +kernel
theorem dX16_document_126 : decode cX16_document 126 = .ok (.iconst 0, 1) := by decide +kernel
theorem dX16_document_127 : decode cX16_document 127 = .ok (.istore 4, 2) := by decide +kernel
theorem dX16_document_129 : decode cX16_document 129 = .ok (.iload 4, 2) := by decide +kernel
theorem dX16_document_131 : decode cX16_document 131 = .ok (.aload_n 0, 1) := by decide +kernel
theorem dX16_document_132 : decode cX16_document 132 = .ok (.getfield 442, 3) := by decide +kernel
theorem dX16_document_135 : decode cX16_document 135 = .ok (.if_icmp .ge 189, 3) := by decide +kernel
theorem dX16_document_138 : decode cX16_document 138 = .ok (.aload_n 0, 1) := by decide +kernel
theorem dX16_document_139 : decode cX16_document 139 = .ok (.iload_n 1, 1) := by decide +kernel
theorem dX16_document_140 : decode cX16_document 140 = .ok (.aload_n 0, 1) := by decide +kernel
theorem dX16_document_141 : decode cX16_document 141 = .ok (.getfield 79, 3) := by decide +kernel
theorem dX16_document_144 : decode cX16_document 144 = .ok (.bipush 12, 2) := by decide +kernel
theorem dX16_document_146 : decode cX16_document 146 = .ok (.iload 4, 2) := by decide +kernel
theorem dX16_document_148 : decode cX16_document 148 = .ok (.imul, 1) := by decide +kernel
theorem dX16_document_149 : decode cX16_document 149 = .ok (.aload_n 0, 1) := by decide +kernel
theorem dX16_document_150 : decode cX16_document 150 = .ok (.getfield 82, 3) := by decide +kernel
theorem dX16_document_153 : decode cX16_document 153 = .ok (.iload 4, 2) := by decide +kernel
theorem dX16_document_155 : decode cX16_document 155 = .ok (.iaload, 1) := by decide +kernel
theorem dX16_document_156 : decode cX16_document 156 = .ok (.invokevirtual 457, 3) := by decide +kernel
theorem dX16_document_159 : decode cX16_document 159 = .ok (.istore 5, 2) := by decide +kernel
theorem dX16_document_161 : decode cX16_document 161 = .ok (.iload 5, 2) := by decide +kernel
theorem dX16_document_163 : decode cX16_document 163 = .ok (.ifCond .ge 113, 3) := by decide +kernel
theorem dX16_document_166 : decode cX16_document 166 = .ok (.aload_n 0, 1) := by decide +kernel
theorem dX16_document_167 : decode cX16_document 167 = .ok (.getfield 63, 3) := by decide +kernel
theorem dX16_document_170 : decode cX16_document 170 = .ok (.iload_n 1, 1) := by decide +kernel
theorem dX16_document_171 : decode cX16_document 171 = .ok (.iaload, 1) := by decide +kernel
theorem dX16_document_172 : decode cX16_document 172 = .ok (.istore 5, 2) := by decide +kernel
theorem dX16_document_174 : decode cX16_document 174 = .ok (.aload_n 0, 1) := by decide +kernel
theorem dX16_document_175 : decode cX16_document 175 = .ok (.getfield 63, 3) := by decide +kernel
theorem dX16_document_178 : decode cX16_document 178 = .ok (.iload_n 1, 1) := by decide +kernel
theorem dX16_document_179 : decode cX16_document 179 = .ok (.dup2, 1) := by decide +kernel
theorem dX16_document_180 : decode cX16_document 180 = .ok (.iaload, 1) := by decide +kernel
theorem dX16_document_181 : decode cX16_document 181 = .ok (.iconst 1, 1) := by decide +kernel
theorem dX16_document_182 : decode cX16_document 182 = .ok (.iadd, 1) := by decide +kernel
theorem dX16_document_183 : decode cX16_document 183 = .ok (.iastore, 1) := by decide +kernel
theorem dX16_document_184 : decode cX16_document 184 = .ok (.bipush 64, 2) := by decide +kernel
theorem dX16_document_186 : decode cX16_document 186 = .ok (.iload_n 1, 1) := by decide +kernel
theorem dX16_document_187 : decode cX16_document 187 = .ok (.imul, 1) := by decide +kernel
theorem dX16_document_188 : decode cX16_document 188 = .ok (.iload 5, 2) := by decide +kernel
theorem dX16_document_190 : decode cX16_document 190 = .ok (.iadd, 1) := by decide +kernel
theorem dX16_document_191 : decode cX16_document 191 = .ok (.istore 6, 2) := by decide +kernel
theorem dX16_document_193 : decode cX16_document 193 = .ok (.aload_n 0, 1) := by decide +kernel
theorem dX16_document_194 : decode cX16_document 194 = .ok (.getfield 69, 3) := by decide +kernel
theorem dX16_document_197 : decode cX16_document 197 = .ok (.iload 6, 2) := by decide +kernel
theorem dX16_document_199 : decode cX16_document 199 = .ok (.aload_n 0, 1) := by decide +kernel
theorem dX16_document_200 : decode cX16_document 200 = .ok (.getfield 82, 3) := by decide +kernel
theorem dX16_document_203 : decode cX16_document 203 = .ok (.iload 4, 2) := by decide +kernel
theorem dX16_document_205 : decode cX16_document 205 = .ok (.iaload, 1) := by decide +kernel
theorem dX16_document_206 : decode cX16_document 206 = .ok (.iastore, 1) := by decide +kernel
theorem dX16_document_207 : decode cX16_document 207 = .ok (.iconst 0, 1) := by decide +kernel
theorem dX16_document_208 : decode cX16_document 208 = .ok (.istore 7, 2) := by decide +kernel
theorem dX16_document_210 : decode cX16_document 210 = .ok (.iload 7, 2) := by decide +kernel
theorem dX16_document_212 : decode cX16_document 212 = .ok (.aload_n 0, 1) := by decide +kernel
theorem dX16_document_213 : decode cX16_document 213 = .ok (.getfield 82, 3) := by decide +kernel
theorem dX16_document_216 : decode cX16_document 216 = .ok (.iload 4, 2) := by decide +kernel
theorem dX16_document_218 : decode cX16_document 218 = .ok (.iaload, 1) := by decide +kernel
theorem dX16_document_219 : decode cX16_document 219 = .ok (.if_icmp .ge 35, 3) := by decide +kernel
theorem dX16_document_222 : decode cX16_document 222 = .ok (.aload_n 0, 1) := by decide +kernel
theorem dX16_document_223 : decode cX16_document 223 = .ok (.getfield 66, 3) := by decide +kernel
theorem dX16_document_226 : decode cX16_document 226 = .ok (.bipush 12, 2) := by decide +kernel
theorem dX16_document_228 : decode cX16_document 228 = .ok (.iload 6, 2) := by decide +kernel
theorem dX16_document_230 : decode cX16_document 230 = .ok (.imul, 1) := by decide +kernel
theorem dX16_document_231 : decode cX16_document 231 = .ok (.iload 7, 2) := by decide +kernel
theorem dX16_document_233 : decode cX16_document 233 = .ok (.iadd, 1) := by decide +kernel
theorem dX16_document_234 : decode cX16_document 234 = .ok (.aload_n 0, 1) := by decide +kernel
theorem dX16_document_235 : decode cX16_document 235 = .ok (.getfield 79, 3) := by decide +kernel
theorem dX16_document_238 : decode cX16_document 238 = .ok (.bipush 12, 2) := by decide +kernel
theorem dX16_document_240 : decode cX16_document 240 = .ok (.iload 4, 2) := by decide +kernel
theorem dX16_document_242 : decode cX16_document 242 = .ok (.imul, 1) := by decide +kernel
theorem dX16_document_243 : decode cX16_document 243 = .ok (.iload 7, 2) := by decide +kernel
theorem dX16_document_245 : decode cX16_document 245 = .ok (.iadd, 1) := by decide +kernel
theorem dX16_document_246 : decode cX16_document 246 = .ok (.iaload, 1) := by decide +kernel
theorem dX16_document_247 : decode cX16_document 247 = .ok (.iastore, 1) := by decide +kernel
theorem dX16_document_248 : decode cX16_document 248 = .ok (.iinc 7 1, 3) := by decide +kernel
theorem dX16_document_251 : decode cX16_document 251 = .ok (.goto (-41), 3) := by decide +kernel
theorem dX16_document_254 : decode cX16_document 254 = .ok (.aload_n 0, 1) := by decide +kernel
theorem dX16_document_255 : decode cX16_document 255 = .ok (.iload 4, 2) := by decide +kernel
theorem dX16_document_257 : decode cX16_document 257 = .ok (.invokevirtual 461, 3) := by decide +kernel
theorem dX16_document_260 : decode cX16_document 260 = .ok (.aload_n 0, 1) := by decide +kernel
theorem dX16_document_261 : decode cX16_document 261 = .ok (.getfield 72, 3) := by decide +kernel
theorem dX16_document_264 : decode cX16_document 264 = .ok (.iconst 5, 1) := by decide +kernel
theorem dX16_document_265 : decode cX16_document 265 = .ok (.iload 6, 2) := by decide +kernel
theorem dX16_document_267 : decode cX16_document 267 = .ok (.imul, 1) := by decide +kernel
theorem dX16_document_268 : decode cX16_document 268 = .ok (.aload_n 0, 1) := by decide +kernel
theorem dX16_document_269 : decode cX16_document 269 = .ok (.getfield 22, 3) := by decide +kernel
theorem dX16_document_272 : decode cX16_document 272 = .ok (.iconst 0, 1) := by decide +kernel
theorem dX16_document_273 : decode cX16_document 273 = .ok (.invokestatic 438, 3) := by decide +kernel
theorem dX16_document_276 : decode cX16_document 276 = .ok (.aload_n 0, 1) := by decide +kernel
theorem dX16_document_277 : decode cX16_document 277 = .ok (.getfield 76, 3) := by decide +kernel
theorem dX16_document_280 : decode cX16_document 280 = .ok (.sipush 1024, 3) := by decide +kernel
theorem dX16_document_283 : decode cX16_document 283 = .ok (.iload_n 1, 1) := by decide +kernel
theorem dX16_document_284 : decode cX16_document 284 = .ok (.imul, 1) := by decide +kernel
theorem dX16_document_285 : decode cX16_document 285 = .ok (.bipush 64, 2) := by decide +kernel
theorem dX16_document_287 : decode cX16_document 287 = .ok (.iload_n 3, 1) := by decide +kernel
theorem dX16_document_288 : decode cX16_document 288 = .ok (.imul, 1) := by decide +kernel
theorem dX16_document_289 : decode cX16_document 289 = .ok (.iadd, 1) := by decide +kernel
theorem dX16_document_290 : decode cX16_document 290 = .ok (.iload 5, 2) := by decide +kernel
theorem dX16_document_292 : decode cX16_document 292 = .ok (.iadd, 1) := by decide +kernel
theorem dX16_document_293 : decode cX16_document 293 = .ok (.aload_n 0, 1) := by decide +kernel
theorem dX16_document_294 : decode cX16_document 294 = .ok (.getfield 85, 3) := by decide +kernel
theorem dX16_document_297 : decode cX16_document 297 = .ok (.iload 4, 2) := by decide +kernel
theorem dX16_document_299 : decode cX16_document 299 = .ok (.iaload, 1) := by decide +kernel
theorem dX16_document_300 : decode cX16_document 300 = .ok (.bipush 15, 2) := by decide +kernel
theorem dX16_document_302 : decode cX16_document 302 = .ok (.if_icmp .le 8, 3) := by decide +kernel
theorem dX16_document_305 : decode cX16_document 305 = .ok (.bipush 15, 2) := by decide +kernel
theorem dX16_document_307 : decode cX16_document 307 = .ok (.goto 10, 3) := by decide +kernel
theorem dX16_document_310 : decode cX16_document 310 = .ok (.aload_n 0, 1) := by decide +kernel
theorem dX16_document_311 : decode cX16_document 311 = .ok (.getfield 85, 3) := by decide +kernel
theorem dX16_document_314 : decode cX16_document 314 = .ok (.iload 4, 2) := by decide +kernel
theorem dX16_document_316 : decode cX16_document 316 = .ok (.iaload, 1) := by decide +kernel
theorem dX16_document_317 : decode cX16_document 317 = .ok (.iastore, 1) := by decide +kernel
theorem dX16_document_318 : decode cX16_document 318 = .ok (.iinc 4 1, 3) := by decide +kernel
theorem dX16_document_321 : decode cX16_document 321 = .ok (.goto (-192), 3) := by decide +kernel
theorem dX16_document_324 : decode cX16_document 324 = .ok (.iload_n 3, 1) := by decide +kernel
theorem dX16_document_325 : decode cX16_document 325 = .ok (.ireturn, 1) := by decide +kernel
def j_X16_document_317 (x1 x3 x4 y1 y2 : Int) (V : VV) : Option ((Int × VV) ⊕ (Int × VV)) :=
  (s2 178 32768 y1 y2 V).bind fun V1 =>
  cnt (x4 + 1, V1)
def j_X16_document_276 (x1 x3 x4 x5 : Int) (V : VV) : Option ((Int × VV) ⊕ (Int × VV)) :=
  (l2 181 250 x4 V).bind fun v1 =>
  if w32 15 < w32 v1 then
    j_X16_document_317 x1 x3 x4 (((1024 * x1) + (64 * x3)) + x5) 15 V
  else
    (l2 181 250 x4 V).bind fun v2 =>
    j_X16_document_317 x1 x3 x4 (((1024 * x1) + (64 * x3)) + x5) v2 V
def j_X16_document_254 (x1 x3 x4 x5 x6 : Int) (V : VV) : Option ((Int × VV) ⊕ (Int × VV)) :=
  (f_X16_hashFound x4 V).bind fun V1 =>
  (f_X16_put 177 (5 * x6) 161 0 V1).bind fun V2 =>
  j_X16_document_276 x1 x3 x4 x5 V2
def b_X16_document_210 (x1 x3 x4 x5 x6 x7 : Int) (V : VV) : Option ((Int × VV) ⊕ ((Int × VV) ⊕ (Int × VV))) :=
  (l2 180 250 x4 V).bind fun v1 =>
  if w32 x7 < w32 v1 then
    (l2 179 3000 ((12 * x4) + x7) V).bind fun v2 =>
    (s2 175 24576 ((12 * x6) + x7) v2 V).bind fun V1 =>
    cnt (x7 + 1, V1)
  else
    xit (j_X16_document_254 x1 x3 x4 x5 x6 V)
def l_X16_document_210 (x1 x3 x4 x5 x6 x7 : Int) (V : VV) : Option ((Int × VV) ⊕ (Int × VV)) := lpN (fun s : Int × VV => b_X16_document_210 x1 x3 x4 x5 x6 s.1 s.2) FU (x7, V)
def b_X16_document_129 (x1 x3 x4 : Int) (V : VV) : Option ((Int × VV) ⊕ (Int × VV)) :=
  if w32 x4 < w32 (w32 (V 156 28)) then
    (l2 180 250 x4 V).bind fun v1 =>
    (f_X16_termOf x1 179 (12 * x4) v1 V).bind fun v2 =>
    if w32 v2 < 0 then
      (l2 174 32 x1 V).bind fun v3 =>
      (l2 174 32 x1 V).bind fun v4 =>
      (s2 174 32 x1 (v4 + 1) V).bind fun V1 =>
      (l2 180 250 x4 V1).bind fun v5 =>
      (s2 176 2048 ((64 * x1) + v3) v5 V1).bind fun V2 =>
      l_X16_document_210 x1 x3 x4 v3 ((64 * x1) + v3) 0 V2
    else
      j_X16_document_276 x1 x3 x4 v2 V
  else
    xit (some (x3, V))
def l_X16_document_129 (x1 x3 x4 : Int) (V : VV) : Option (Int × VV) := lpN (fun s : Int × VV => b_X16_document_129 x1 x3 s.1 s.2) FU (x4, V)
def j_X16_document_94 (x1 x2 : Int) (V : VV) : Option (Int × VV) :=
  (l2 174 32 x1 V).bind fun v1 =>
  if w32 64 < w32 (v1 + x2) then
    some ((-1), V)
  else
    (l2 173 32 x1 V).bind fun v2 =>
    (l2 173 32 x1 V).bind fun v3 =>
    (s2 173 32 x1 (v3 + 1) V).bind fun V1 =>
    l_X16_document_129 x1 v2 0 V1
def j_X16_document_86 (x1 x3 y0 y1 : Int) (V : VV) : Option ((Int × Int) ⊕ (Int × VV)) :=
  cnt (y0 + y1, x3 + 1)
def b_X16_document_50 (x1 x2 x3 : Int) (V : VV) : Option ((Int × Int) ⊕ (Int × VV)) :=
  if w32 x3 < w32 (w32 (V 156 28)) then
    (l2 180 250 x3 V).bind fun v1 =>
    (f_X16_termOf x1 179 (12 * x3) v1 V).bind fun v2 =>
    if w32 v2 < 0 then
      j_X16_document_86 x1 x3 x2 1 V
    else
      j_X16_document_86 x1 x3 x2 0 V
  else
    xit (j_X16_document_94 x1 x2 V)
def l_X16_document_50 (x1 x2 x3 : Int) (V : VV) : Option (Int × VV) := lpN (fun s : Int × Int => b_X16_document_50 x1 s.1 s.2 V) FU (x2, x3)
def j_X16_document_44 (V : VV) : Option (Int × VV) :=
  some ((-1), V)
def f_X16_document (x1 : Int) (V : VV) : Option (Int × VV) :=
  (f_X16_terms V).bind fun V1 =>
  (p2 4 0 V1).bind fun V2 =>
  (f_X16_isPeer x1 V2).bind fun v1 =>
  if w32 v1 = 0 then
    j_X16_document_44 V2
  else
    (l2 173 32 x1 V2).bind fun v2 =>
    if w32 v2 = w32 16 then
      j_X16_document_44 V2
    else
      if w32 (w32 (V2 156 28)) = 0 then
        j_X16_document_44 V2
      else
        if w32 24 < w32 (w32 (V2 156 28)) then
          j_X16_document_44 V2
        else
          l_X16_document_50 x1 0 0 V2
theorem s_X16_document_317 {g : GG} {d : Nat} (hD : 4 ≤ d) {x1 x3 x4 y1 y2 : Int} {M : MM} (hM : LM M) {V : VV} {o : AV × MM} {P : ((Int × VV) ⊕ (Int × VV)) → Prop} (c0 : ∀ s : Int × VV, P (.inl s) → Sem g d YX16_document 129 [(1, 156), (0, x1), (9, 0), (0, x3), (0, s.1), (9, 0), (9, 0), (9, 0)] [] (wr M s.2) o) (r0 : ∀ r : Int × VV, P (.inr r) → o = ((0, r.1), (wr M r.2))) {z : (Int × VV) ⊕ (Int × VV)} (h : j_X16_document_317 x1 x3 x4 y1 y2 V = some z) (hz : P z) : Sem g d YX16_document 317 [(1, 156), (0, x1), (9, 0), (0, x3), (0, x4), (9, 0), (9, 0), (9, 0)] [(0, y2), (0, y1), (1, 178)] (wr M V) o := by
  delta j_X16_document_317 at h
  refine P2_sai hM (a := 178) (n := 32768) rfl dX16_document_317 h (fun V1 h => ?_)
  refine S_iinc dX16_document_318 rfl rfl rfl ?_
  change Sem g d YX16_document 321 [(1, 156), (0, x1), (9, 0), (0, x3), (0, x4 + 1), (9, 0), (9, 0), (9, 0)] [] (wr M V1) o
  refine S_goto (tgt := 129) dX16_document_321 rfl ?_
  exact c0 (x4 + 1, V1) (some_P (P := fun r => P r) h hz)
theorem s_X16_document_276 {g : GG} {d : Nat} (hD : 4 ≤ d) {x1 x3 x4 x5 : Int} {M : MM} (hM : LM M) {V : VV} {o : AV × MM} {P : ((Int × VV) ⊕ (Int × VV)) → Prop} (c0 : ∀ s : Int × VV, P (.inl s) → Sem g d YX16_document 129 [(1, 156), (0, x1), (9, 0), (0, x3), (0, s.1), (9, 0), (9, 0), (9, 0)] [] (wr M s.2) o) (r0 : ∀ r : Int × VV, P (.inr r) → o = ((0, r.1), (wr M r.2))) {z : (Int × VV) ⊕ (Int × VV)} (h : j_X16_document_276 x1 x3 x4 x5 V = some z) (hz : P z) : Sem g d YX16_document 276 [(1, 156), (0, x1), (9, 0), (0, x3), (0, x4), (0, x5), (9, 0), (9, 0)] [] (wr M V) o := by
  delta j_X16_document_276 at h
  refine S_aload_n (i := 0) dX16_document_276 rfl rfl ?_
  refine P2_gfr hM (a := 178) FLX16_76 rfl ⟨rfl, rfl⟩ dX16_document_277 ?_
  refine S_sipush (z := 1024) dX16_document_280 rfl ?_
  refine S_iload_n (i := 1) dX16_document_283 rfl rfl ?_
  refine S_imul dX16_document_284 ?_
  refine S_bipush (z := 64) dX16_document_285 rfl ?_
  refine S_iload_n (i := 3) dX16_document_287 rfl rfl ?_
  refine S_imul dX16_document_288 ?_
  refine S_iadd dX16_document_289 ?_
  refine S_iload dX16_document_290 rfl ?_
  refine S_iadd dX16_document_292 ?_
  refine S_aload_n (i := 0) dX16_document_293 rfl rfl ?_
  refine P2_gfr hM (a := 181) FLX16_85 rfl ⟨rfl, rfl⟩ dX16_document_294 ?_
  refine S_iload dX16_document_297 rfl ?_
  refine P2_lai hM (a := 181) (n := 250) rfl dX16_document_299 h (fun v1 h => ?_)
  refine S_bipush (z := 15) dX16_document_300 rfl ?_
  refine P_icmp_le (tgt := 310) dX16_document_302 rfl h (fun h => ?_) (fun h => ?_)
  · refine S_aload_n (i := 0) dX16_document_310 rfl rfl ?_
    refine P2_gfr hM (a := 181) FLX16_85 rfl ⟨rfl, rfl⟩ dX16_document_311 ?_
    refine S_iload dX16_document_314 rfl ?_
    refine P2_lai hM (a := 181) (n := 250) rfl dX16_document_316 h (fun v2 h => ?_)
    refine S_weak (ls' := [(1, 156), (0, x1), (9, 0), (0, x3), (0, x4), (9, 0), (9, 0), (9, 0)]) ⟨Or.inr rfl, ⟨Or.inr rfl, ⟨Or.inl rfl, ⟨Or.inr rfl, ⟨Or.inr rfl, ⟨Or.inl rfl, ⟨Or.inl rfl, ⟨Or.inl rfl, trivial⟩⟩⟩⟩⟩⟩⟩⟩ ?_
    exact s_X16_document_317 hD hM c0 r0 h hz
  · refine S_bipush (z := 15) dX16_document_305 rfl ?_
    refine S_goto (tgt := 317) dX16_document_307 rfl ?_
    refine S_weak (ls' := [(1, 156), (0, x1), (9, 0), (0, x3), (0, x4), (9, 0), (9, 0), (9, 0)]) ⟨Or.inr rfl, ⟨Or.inr rfl, ⟨Or.inl rfl, ⟨Or.inr rfl, ⟨Or.inr rfl, ⟨Or.inl rfl, ⟨Or.inl rfl, ⟨Or.inl rfl, trivial⟩⟩⟩⟩⟩⟩⟩⟩ ?_
    exact s_X16_document_317 hD hM c0 r0 h hz
theorem s_X16_document_254 {g : GG} {d : Nat} (hD : 4 ≤ d) {x1 x3 x4 x5 x6 : Int} {M : MM} (hM : LM M) {V : VV} {o : AV × MM} {P : ((Int × VV) ⊕ (Int × VV)) → Prop} (c0 : ∀ s : Int × VV, P (.inl s) → Sem g d YX16_document 129 [(1, 156), (0, x1), (9, 0), (0, x3), (0, s.1), (9, 0), (9, 0), (9, 0)] [] (wr M s.2) o) (r0 : ∀ r : Int × VV, P (.inr r) → o = ((0, r.1), (wr M r.2))) {z : (Int × VV) ⊕ (Int × VV)} (h : j_X16_document_254 x1 x3 x4 x5 x6 V = some z) (hz : P z) : Sem g d YX16_document 254 [(1, 156), (0, x1), (9, 0), (0, x3), (0, x4), (0, x5), (0, x6), (9, 0)] [] (wr M V) o := by
  delta j_X16_document_254 at h
  refine S_aload_n (i := 0) dX16_document_254 rfl rfl ?_
  refine S_iload dX16_document_255 rfl ?_
  refine P2_invVm hM [(0, x4)] [] CVX16_hashFound MLX16_461 dX16_document_257 rfl rfl rfl rfl (by omega) h (fun r h => F_X16_hashFound (by omega) hM h) (fun V1 h => ?_)
  refine S_aload_n (i := 0) dX16_document_260 rfl rfl ?_
  refine P2_gfr hM (a := 177) FLX16_72 rfl ⟨rfl, rfl⟩ dX16_document_261 ?_
  refine S_iconst dX16_document_264 rfl ?_
  refine S_iload dX16_document_265 rfl ?_
  refine S_imul dX16_document_267 ?_
  refine S_aload_n (i := 0) dX16_document_268 rfl rfl ?_
  refine P2_gfr hM (a := 161) FLX16_22 rfl ⟨rfl, rfl⟩ dX16_document_269 ?_
  refine S_iconst dX16_document_272 rfl ?_
  refine P2_invSm hM [(1, 177), (0, 5 * x6), (1, 161), (0, 0)] [] CSX16_put MLX16_438 dX16_document_273 rfl rfl rfl rfl (by omega) h (fun r h => F_X16_put (by omega) hM h) (fun V2 h => ?_)
  refine S_weak (ls' := [(1, 156), (0, x1), (9, 0), (0, x3), (0, x4), (0, x5), (9, 0), (9, 0)]) ⟨Or.inr rfl, ⟨Or.inr rfl, ⟨Or.inl rfl, ⟨Or.inr rfl, ⟨Or.inr rfl, ⟨Or.inr rfl, ⟨Or.inl rfl, ⟨Or.inl rfl, trivial⟩⟩⟩⟩⟩⟩⟩⟩ ?_
  exact s_X16_document_276 hD hM c0 r0 h hz
theorem s_X16_document_210 {g : GG} {d : Nat} (hD : 4 ≤ d) {x1 x3 x4 x5 x6 x7 : Int} {M : MM} (hM : LM M) {V : VV} {o : AV × MM} {P : ((Int × VV) ⊕ ((Int × VV) ⊕ (Int × VV))) → Prop} (c1 : ∀ s : Int × VV, P (.inl s) → Sem g d YX16_document 210 [(1, 156), (0, x1), (9, 0), (0, x3), (0, x4), (0, x5), (0, x6), (0, s.1)] [] (wr M s.2) o) (c0 : ∀ s : Int × VV, P (.inr (.inl s)) → Sem g d YX16_document 129 [(1, 156), (0, x1), (9, 0), (0, x3), (0, s.1), (9, 0), (9, 0), (9, 0)] [] (wr M s.2) o) (r0 : ∀ r : Int × VV, P (.inr (.inr r)) → o = ((0, r.1), (wr M r.2))) {z : (Int × VV) ⊕ ((Int × VV) ⊕ (Int × VV))} (h : b_X16_document_210 x1 x3 x4 x5 x6 x7 V = some z) (hz : P z) : Sem g d YX16_document 210 [(1, 156), (0, x1), (9, 0), (0, x3), (0, x4), (0, x5), (0, x6), (0, x7)] [] (wr M V) o := by
  delta b_X16_document_210 at h
  refine S_iload dX16_document_210 rfl ?_
  refine S_aload_n (i := 0) dX16_document_212 rfl rfl ?_
  refine P2_gfr hM (a := 180) FLX16_82 rfl ⟨rfl, rfl⟩ dX16_document_213 ?_
  refine S_iload dX16_document_216 rfl ?_
  refine P2_lai hM (a := 180) (n := 250) rfl dX16_document_218 h (fun v1 h => ?_)
  refine P_icmp_ge (tgt := 254) dX16_document_219 rfl h (fun h => ?_) (fun h => ?_)
  · refine S_weak (ls' := [(1, 156), (0, x1), (9, 0), (0, x3), (0, x4), (0, x5), (0, x6), (9, 0)]) ⟨Or.inr rfl, ⟨Or.inr rfl, ⟨Or.inl rfl, ⟨Or.inr rfl, ⟨Or.inr rfl, ⟨Or.inr rfl, ⟨Or.inr rfl, ⟨Or.inl rfl, trivial⟩⟩⟩⟩⟩⟩⟩⟩ ?_
    obtain ⟨z0, h, hz⟩ := xit_some' (P := fun r => P r) h hz
    exact s_X16_document_254 hD hM (P := fun r => P (.inr r)) c0 r0 h hz
  · refine S_aload_n (i := 0) dX16_document_222 rfl rfl ?_
    refine P2_gfr hM (a := 175) FLX16_66 rfl ⟨rfl, rfl⟩ dX16_document_223 ?_
    refine S_bipush (z := 12) dX16_document_226 rfl ?_
    refine S_iload dX16_document_228 rfl ?_
    refine S_imul dX16_document_230 ?_
    refine S_iload dX16_document_231 rfl ?_
    refine S_iadd dX16_document_233 ?_
    refine S_aload_n (i := 0) dX16_document_234 rfl rfl ?_
    refine P2_gfr hM (a := 179) FLX16_79 rfl ⟨rfl, rfl⟩ dX16_document_235 ?_
    refine S_bipush (z := 12) dX16_document_238 rfl ?_
    refine S_iload dX16_document_240 rfl ?_
    refine S_imul dX16_document_242 ?_
    refine S_iload dX16_document_243 rfl ?_
    refine S_iadd dX16_document_245 ?_
    refine P2_lai hM (a := 179) (n := 3000) rfl dX16_document_246 h (fun v2 h => ?_)
    refine P2_sai hM (a := 175) (n := 24576) rfl dX16_document_247 h (fun V1 h => ?_)
    refine S_iinc dX16_document_248 rfl rfl rfl ?_
    change Sem g d YX16_document 251 [(1, 156), (0, x1), (9, 0), (0, x3), (0, x4), (0, x5), (0, x6), (0, x7 + 1)] [] (wr M V1) o
    refine S_goto (tgt := 210) dX16_document_251 rfl ?_
    exact c1 (x7 + 1, V1) (some_P (P := fun r => P r) h hz)
theorem sl_X16_document_210 {g : GG} {d : Nat} (hD : 4 ≤ d) {x1 x3 x4 x5 x6 x7 : Int} {M : MM} (hM : LM M) {V : VV} {o : AV × MM} {P : ((Int × VV) ⊕ (Int × VV)) → Prop} (c0 : ∀ s : Int × VV, P (.inl s) → Sem g d YX16_document 129 [(1, 156), (0, x1), (9, 0), (0, x3), (0, s.1), (9, 0), (9, 0), (9, 0)] [] (wr M s.2) o) (r0 : ∀ r : Int × VV, P (.inr r) → o = ((0, r.1), (wr M r.2))) {z : (Int × VV) ⊕ (Int × VV)} (h : l_X16_document_210 x1 x3 x4 x5 x6 x7 V = some z) (hz : P z) : Sem g d YX16_document 210 [(1, 156), (0, x1), (9, 0), (0, x3), (0, x4), (0, x5), (0, x6), (0, x7)] [] (wr M V) o := by
  refine lp_sound (S := fun s : Int × VV => Sem g d YX16_document 210 [(1, 156), (0, x1), (9, 0), (0, x3), (0, x4), (0, x5), (0, x6), (0, s.1)] [] (wr M s.2) o) (P := P) ?_ FU (x7, V) z h hz
  intro s x hx hP
  exact s_X16_document_210 hD hM (P := Sum.elim (fun s : Int × VV => Sem g d YX16_document 210 [(1, 156), (0, x1), (9, 0), (0, x3), (0, x4), (0, x5), (0, x6), (0, s.1)] [] (wr M s.2) o) P) (fun s h => h) (fun s h => c0 s h) (fun s h => r0 s h) hx hP
theorem s_X16_document_129 {g : GG} {d : Nat} (hD : 4 ≤ d) {x1 x3 x4 : Int} {M : MM} (hM : LM M) {V : VV} {o : AV × MM} {P : ((Int × VV) ⊕ (Int × VV)) → Prop} (c0 : ∀ s : Int × VV, P (.inl s) → Sem g d YX16_document 129 [(1, 156), (0, x1), (9, 0), (0, x3), (0, s.1), (9, 0), (9, 0), (9, 0)] [] (wr M s.2) o) (r0 : ∀ r : Int × VV, P (.inr r) → o = ((0, r.1), (wr M r.2))) {z : (Int × VV) ⊕ (Int × VV)} (h : b_X16_document_129 x1 x3 x4 V = some z) (hz : P z) : Sem g d YX16_document 129 [(1, 156), (0, x1), (9, 0), (0, x3), (0, x4), (9, 0), (9, 0), (9, 0)] [] (wr M V) o := by
  delta b_X16_document_129 at h
  refine S_iload dX16_document_129 rfl ?_
  refine S_aload_n (i := 0) dX16_document_131 rfl rfl ?_
  refine P2_gfi hM FLX16_442 rfl dX16_document_132 ?_
  refine P_icmp_ge (tgt := 324) dX16_document_135 rfl h (fun h => ?_) (fun h => ?_)
  · obtain ⟨z0, h, hz⟩ := xit_some' (P := fun r => P r) h hz
    refine S_iload_n (i := 3) dX16_document_324 rfl rfl ?_
    obtain rfl := r0 _ (some_P (P := fun r => P (.inr r)) h hz)
    exact P_ret dX16_document_325 rfl (Or.inl rfl)
  · refine S_aload_n (i := 0) dX16_document_138 rfl rfl ?_
    refine S_iload_n (i := 1) dX16_document_139 rfl rfl ?_
    refine S_aload_n (i := 0) dX16_document_140 rfl rfl ?_
    refine P2_gfr hM (a := 179) FLX16_79 rfl ⟨rfl, rfl⟩ dX16_document_141 ?_
    refine S_bipush (z := 12) dX16_document_144 rfl ?_
    refine S_iload dX16_document_146 rfl ?_
    refine S_imul dX16_document_148 ?_
    refine S_aload_n (i := 0) dX16_document_149 rfl rfl ?_
    refine P2_gfr hM (a := 180) FLX16_82 rfl ⟨rfl, rfl⟩ dX16_document_150 ?_
    refine S_iload dX16_document_153 rfl ?_
    refine P2_lai hM (a := 180) (n := 250) rfl dX16_document_155 h (fun v1 h => ?_)
    refine P2_invVp hM 0 [(0, x1), (1, 179), (0, 12 * x4), (0, v1)] [] CVX16_termOf MLX16_457 dX16_document_156 rfl rfl rfl rfl rfl (by omega) h (fun r h => F_X16_termOf (by omega) hM h) (fun v2 h => ?_)
    refine S_istore dX16_document_159 (Nat.le_of_ble_eq_true rfl) rfl rfl ?_
    change Sem g d YX16_document 161 [(1, 156), (0, x1), (9, 0), (0, x3), (0, x4), (0, v2), (9, 0), (9, 0)] [] (wr M V) o
    refine S_iload dX16_document_161 rfl ?_
    refine P_if_ge (tgt := 276) dX16_document_163 rfl h (fun h => ?_) (fun h => ?_)
    · exact s_X16_document_276 hD hM c0 r0 h hz
    · refine S_aload_n (i := 0) dX16_document_166 rfl rfl ?_
      refine P2_gfr hM (a := 174) FLX16_63 rfl ⟨rfl, rfl⟩ dX16_document_167 ?_
      refine S_iload_n (i := 1) dX16_document_170 rfl rfl ?_
      refine P2_lai hM (a := 174) (n := 32) rfl dX16_document_171 h (fun v3 h => ?_)
      refine S_istore dX16_document_172 (Nat.le_of_ble_eq_true rfl) rfl rfl ?_
      change Sem g d YX16_document 174 [(1, 156), (0, x1), (9, 0), (0, x3), (0, x4), (0, v3), (9, 0), (9, 0)] [] (wr M V) o
      refine S_aload_n (i := 0) dX16_document_174 rfl rfl ?_
      refine P2_gfr hM (a := 174) FLX16_63 rfl ⟨rfl, rfl⟩ dX16_document_175 ?_
      refine S_iload_n (i := 1) dX16_document_178 rfl rfl ?_
      refine S_dup2 dX16_document_179 (Nat.le_of_ble_eq_true rfl) (Nat.le_of_ble_eq_true rfl) ?_
      refine P2_lai hM (a := 174) (n := 32) rfl dX16_document_180 h (fun v4 h => ?_)
      refine S_iconst dX16_document_181 rfl ?_
      refine S_iadd dX16_document_182 ?_
      refine P2_sai hM (a := 174) (n := 32) rfl dX16_document_183 h (fun V1 h => ?_)
      refine S_bipush (z := 64) dX16_document_184 rfl ?_
      refine S_iload_n (i := 1) dX16_document_186 rfl rfl ?_
      refine S_imul dX16_document_187 ?_
      refine S_iload dX16_document_188 rfl ?_
      refine S_iadd dX16_document_190 ?_
      refine S_istore dX16_document_191 (Nat.le_of_ble_eq_true rfl) rfl rfl ?_
      change Sem g d YX16_document 193 [(1, 156), (0, x1), (9, 0), (0, x3), (0, x4), (0, v3), (0, (64 * x1) + v3), (9, 0)] [] (wr M V1) o
      refine S_aload_n (i := 0) dX16_document_193 rfl rfl ?_
      refine P2_gfr hM (a := 176) FLX16_69 rfl ⟨rfl, rfl⟩ dX16_document_194 ?_
      refine S_iload dX16_document_197 rfl ?_
      refine S_aload_n (i := 0) dX16_document_199 rfl rfl ?_
      refine P2_gfr hM (a := 180) FLX16_82 rfl ⟨rfl, rfl⟩ dX16_document_200 ?_
      refine S_iload dX16_document_203 rfl ?_
      refine P2_lai hM (a := 180) (n := 250) rfl dX16_document_205 h (fun v5 h => ?_)
      refine P2_sai hM (a := 176) (n := 2048) rfl dX16_document_206 h (fun V2 h => ?_)
      refine S_iconst dX16_document_207 rfl ?_
      refine S_istore dX16_document_208 (Nat.le_of_ble_eq_true rfl) rfl rfl ?_
      change Sem g d YX16_document 210 [(1, 156), (0, x1), (9, 0), (0, x3), (0, x4), (0, v3), (0, (64 * x1) + v3), (0, 0)] [] (wr M V2) o
      exact sl_X16_document_210 hD hM c0 r0 h hz
theorem sl_X16_document_129 {g : GG} {d : Nat} (hD : 4 ≤ d) {x1 x3 x4 : Int} {M : MM} (hM : LM M) {V : VV} {o : AV × MM} {P : (Int × VV) → Prop} (r0 : ∀ r : Int × VV, P r → o = ((0, r.1), (wr M r.2))) {z : Int × VV} (h : l_X16_document_129 x1 x3 x4 V = some z) (hz : P z) : Sem g d YX16_document 129 [(1, 156), (0, x1), (9, 0), (0, x3), (0, x4), (9, 0), (9, 0), (9, 0)] [] (wr M V) o := by
  refine lp_sound (S := fun s : Int × VV => Sem g d YX16_document 129 [(1, 156), (0, x1), (9, 0), (0, x3), (0, s.1), (9, 0), (9, 0), (9, 0)] [] (wr M s.2) o) (P := P) ?_ FU (x4, V) z h hz
  intro s x hx hP
  exact s_X16_document_129 hD hM (P := Sum.elim (fun s : Int × VV => Sem g d YX16_document 129 [(1, 156), (0, x1), (9, 0), (0, x3), (0, s.1), (9, 0), (9, 0), (9, 0)] [] (wr M s.2) o) P) (fun s h => h) (fun s h => r0 s h) hx hP
theorem s_X16_document_94 {g : GG} {d : Nat} (hD : 4 ≤ d) {x1 x2 : Int} {M : MM} (hM : LM M) {V : VV} {o : AV × MM} {P : (Int × VV) → Prop} (r0 : ∀ r : Int × VV, P r → o = ((0, r.1), (wr M r.2))) {z : Int × VV} (h : j_X16_document_94 x1 x2 V = some z) (hz : P z) : Sem g d YX16_document 94 [(1, 156), (0, x1), (0, x2), (9, 0), (9, 0), (9, 0), (9, 0), (9, 0)] [] (wr M V) o := by
  delta j_X16_document_94 at h
  refine S_aload_n (i := 0) dX16_document_94 rfl rfl ?_
  refine P2_gfr hM (a := 174) FLX16_63 rfl ⟨rfl, rfl⟩ dX16_document_95 ?_
  refine S_iload_n (i := 1) dX16_document_98 rfl rfl ?_
  refine P2_lai hM (a := 174) (n := 32) rfl dX16_document_99 h (fun v1 h => ?_)
  refine S_iload_n (i := 2) dX16_document_100 rfl rfl ?_
  refine S_iadd dX16_document_101 ?_
  refine S_bipush (z := 64) dX16_document_102 rfl ?_
  refine P_icmp_le (tgt := 109) dX16_document_104 rfl h (fun h => ?_) (fun h => ?_)
  · refine S_aload_n (i := 0) dX16_document_109 rfl rfl ?_
    refine P2_gfr hM (a := 173) FLX16_60 rfl ⟨rfl, rfl⟩ dX16_document_110 ?_
    refine S_iload_n (i := 1) dX16_document_113 rfl rfl ?_
    refine P2_lai hM (a := 173) (n := 32) rfl dX16_document_114 h (fun v2 h => ?_)
    refine S_istore_n (i := 3) dX16_document_115 rfl (Nat.le_of_ble_eq_true rfl) rfl rfl ?_
    change Sem g d YX16_document 116 [(1, 156), (0, x1), (0, x2), (0, v2), (9, 0), (9, 0), (9, 0), (9, 0)] [] (wr M V) o
    refine S_aload_n (i := 0) dX16_document_116 rfl rfl ?_
    refine P2_gfr hM (a := 173) FLX16_60 rfl ⟨rfl, rfl⟩ dX16_document_117 ?_
    refine S_iload_n (i := 1) dX16_document_120 rfl rfl ?_
    refine S_dup2 dX16_document_121 (Nat.le_of_ble_eq_true rfl) (Nat.le_of_ble_eq_true rfl) ?_
    refine P2_lai hM (a := 173) (n := 32) rfl dX16_document_122 h (fun v3 h => ?_)
    refine S_iconst dX16_document_123 rfl ?_
    refine S_iadd dX16_document_124 ?_
    refine P2_sai hM (a := 173) (n := 32) rfl dX16_document_125 h (fun V1 h => ?_)
    refine S_iconst dX16_document_126 rfl ?_
    refine S_istore dX16_document_127 (Nat.le_of_ble_eq_true rfl) rfl rfl ?_
    change Sem g d YX16_document 129 [(1, 156), (0, x1), (0, x2), (0, v2), (0, 0), (9, 0), (9, 0), (9, 0)] [] (wr M V1) o
    refine S_weak (ls' := [(1, 156), (0, x1), (9, 0), (0, v2), (0, 0), (9, 0), (9, 0), (9, 0)]) ⟨Or.inr rfl, ⟨Or.inr rfl, ⟨Or.inl rfl, ⟨Or.inr rfl, ⟨Or.inr rfl, ⟨Or.inl rfl, ⟨Or.inl rfl, ⟨Or.inl rfl, trivial⟩⟩⟩⟩⟩⟩⟩⟩ ?_
    exact sl_X16_document_129 hD hM r0 h hz
  · refine S_iconst dX16_document_107 rfl ?_
    obtain rfl := r0 _ (some_P (P := fun r => P r) h hz)
    exact P_ret dX16_document_108 rfl (Or.inl rfl)
theorem s_X16_document_86 {g : GG} {d : Nat} (hD : 4 ≤ d) {x1 x3 y0 y1 : Int} {M : MM} (hM : LM M) {V : VV} {o : AV × MM} {P : ((Int × Int) ⊕ (Int × VV)) → Prop} (c0 : ∀ s : Int × Int, P (.inl s) → Sem g d YX16_document 50 [(1, 156), (0, x1), (0, s.1), (0, s.2), (9, 0), (9, 0), (9, 0), (9, 0)] [] (wr M V) o) (r0 : ∀ r : Int × VV, P (.inr r) → o = ((0, r.1), (wr M r.2))) {z : (Int × Int) ⊕ (Int × VV)} (h : j_X16_document_86 x1 x3 y0 y1 V = some z) (hz : P z) : Sem g d YX16_document 86 [(1, 156), (0, x1), (9, 0), (0, x3), (9, 0), (9, 0), (9, 0), (9, 0)] [(0, y1), (0, y0)] (wr M V) o := by
  delta j_X16_document_86 at h
  refine S_iadd dX16_document_86 ?_
  refine S_istore_n (i := 2) dX16_document_87 rfl (Nat.le_of_ble_eq_true rfl) rfl rfl ?_
  change Sem g d YX16_document 88 [(1, 156), (0, x1), (0, y0 + y1), (0, x3), (9, 0), (9, 0), (9, 0), (9, 0)] [] (wr M V) o
  refine S_iinc dX16_document_88 rfl rfl rfl ?_
  change Sem g d YX16_document 91 [(1, 156), (0, x1), (0, y0 + y1), (0, x3 + 1), (9, 0), (9, 0), (9, 0), (9, 0)] [] (wr M V) o
  refine S_goto (tgt := 50) dX16_document_91 rfl ?_
  exact c0 (y0 + y1, x3 + 1) (some_P (P := fun r => P r) h hz)
theorem s_X16_document_50 {g : GG} {d : Nat} (hD : 4 ≤ d) {x1 x2 x3 : Int} {M : MM} (hM : LM M) {V : VV} {o : AV × MM} {P : ((Int × Int) ⊕ (Int × VV)) → Prop} (c0 : ∀ s : Int × Int, P (.inl s) → Sem g d YX16_document 50 [(1, 156), (0, x1), (0, s.1), (0, s.2), (9, 0), (9, 0), (9, 0), (9, 0)] [] (wr M V) o) (r0 : ∀ r : Int × VV, P (.inr r) → o = ((0, r.1), (wr M r.2))) {z : (Int × Int) ⊕ (Int × VV)} (h : b_X16_document_50 x1 x2 x3 V = some z) (hz : P z) : Sem g d YX16_document 50 [(1, 156), (0, x1), (0, x2), (0, x3), (9, 0), (9, 0), (9, 0), (9, 0)] [] (wr M V) o := by
  delta b_X16_document_50 at h
  refine S_iload_n (i := 3) dX16_document_50 rfl rfl ?_
  refine S_aload_n (i := 0) dX16_document_51 rfl rfl ?_
  refine P2_gfi hM FLX16_442 rfl dX16_document_52 ?_
  refine P_icmp_ge (tgt := 94) dX16_document_55 rfl h (fun h => ?_) (fun h => ?_)
  · refine S_weak (ls' := [(1, 156), (0, x1), (0, x2), (9, 0), (9, 0), (9, 0), (9, 0), (9, 0)]) ⟨Or.inr rfl, ⟨Or.inr rfl, ⟨Or.inr rfl, ⟨Or.inl rfl, ⟨Or.inl rfl, ⟨Or.inl rfl, ⟨Or.inl rfl, ⟨Or.inl rfl, trivial⟩⟩⟩⟩⟩⟩⟩⟩ ?_
    obtain ⟨z0, h, hz⟩ := xit_some' (P := fun r => P r) h hz
    exact s_X16_document_94 hD hM (P := fun r => P (.inr r)) r0 h hz
  · refine S_iload_n (i := 2) dX16_document_58 rfl rfl ?_
    refine S_aload_n (i := 0) dX16_document_59 rfl rfl ?_
    refine S_iload_n (i := 1) dX16_document_60 rfl rfl ?_
    refine S_aload_n (i := 0) dX16_document_61 rfl rfl ?_
    refine P2_gfr hM (a := 179) FLX16_79 rfl ⟨rfl, rfl⟩ dX16_document_62 ?_
    refine S_bipush (z := 12) dX16_document_65 rfl ?_
    refine S_iload_n (i := 3) dX16_document_67 rfl rfl ?_
    refine S_imul dX16_document_68 ?_
    refine S_aload_n (i := 0) dX16_document_69 rfl rfl ?_
    refine P2_gfr hM (a := 180) FLX16_82 rfl ⟨rfl, rfl⟩ dX16_document_70 ?_
    refine S_iload_n (i := 3) dX16_document_73 rfl rfl ?_
    refine P2_lai hM (a := 180) (n := 250) rfl dX16_document_74 h (fun v1 h => ?_)
    refine P2_invVp hM 0 [(0, x1), (1, 179), (0, 12 * x3), (0, v1)] [(0, x2)] CVX16_termOf MLX16_457 dX16_document_75 rfl rfl rfl rfl rfl (by omega) h (fun r h => F_X16_termOf (by omega) hM h) (fun v2 h => ?_)
    refine P_if_ge (tgt := 85) dX16_document_78 rfl h (fun h => ?_) (fun h => ?_)
    · refine S_iconst dX16_document_85 rfl ?_
      refine S_weak (ls' := [(1, 156), (0, x1), (9, 0), (0, x3), (9, 0), (9, 0), (9, 0), (9, 0)]) ⟨Or.inr rfl, ⟨Or.inr rfl, ⟨Or.inl rfl, ⟨Or.inr rfl, ⟨Or.inl rfl, ⟨Or.inl rfl, ⟨Or.inl rfl, ⟨Or.inl rfl, trivial⟩⟩⟩⟩⟩⟩⟩⟩ ?_
      exact s_X16_document_86 hD hM c0 r0 h hz
    · refine S_iconst dX16_document_81 rfl ?_
      refine S_goto (tgt := 86) dX16_document_82 rfl ?_
      refine S_weak (ls' := [(1, 156), (0, x1), (9, 0), (0, x3), (9, 0), (9, 0), (9, 0), (9, 0)]) ⟨Or.inr rfl, ⟨Or.inr rfl, ⟨Or.inl rfl, ⟨Or.inr rfl, ⟨Or.inl rfl, ⟨Or.inl rfl, ⟨Or.inl rfl, ⟨Or.inl rfl, trivial⟩⟩⟩⟩⟩⟩⟩⟩ ?_
      exact s_X16_document_86 hD hM c0 r0 h hz
theorem sl_X16_document_50 {g : GG} {d : Nat} (hD : 4 ≤ d) {x1 x2 x3 : Int} {M : MM} (hM : LM M) {V : VV} {o : AV × MM} {P : (Int × VV) → Prop} (r0 : ∀ r : Int × VV, P r → o = ((0, r.1), (wr M r.2))) {z : Int × VV} (h : l_X16_document_50 x1 x2 x3 V = some z) (hz : P z) : Sem g d YX16_document 50 [(1, 156), (0, x1), (0, x2), (0, x3), (9, 0), (9, 0), (9, 0), (9, 0)] [] (wr M V) o := by
  refine lp_sound (S := fun s : Int × Int => Sem g d YX16_document 50 [(1, 156), (0, x1), (0, s.1), (0, s.2), (9, 0), (9, 0), (9, 0), (9, 0)] [] (wr M V) o) (P := P) ?_ FU (x2, x3) z h hz
  intro s x hx hP
  exact s_X16_document_50 hD hM (P := Sum.elim (fun s : Int × Int => Sem g d YX16_document 50 [(1, 156), (0, x1), (0, s.1), (0, s.2), (9, 0), (9, 0), (9, 0), (9, 0)] [] (wr M V) o) P) (fun s h => h) (fun s h => r0 s h) hx hP
theorem s_X16_document_44 {g : GG} {d : Nat} (hD : 4 ≤ d) {M : MM} (hM : LM M) {V : VV} {o : AV × MM} {P : (Int × VV) → Prop} (r0 : ∀ r : Int × VV, P r → o = ((0, r.1), (wr M r.2))) {z : Int × VV} (h : j_X16_document_44 V = some z) (hz : P z) : Sem g d YX16_document 44 [(9, 0), (9, 0), (9, 0), (9, 0), (9, 0), (9, 0), (9, 0), (9, 0)] [] (wr M V) o := by
  delta j_X16_document_44 at h
  refine S_iconst dX16_document_44 rfl ?_
  obtain rfl := r0 _ (some_P (P := fun r => P r) h hz)
  exact P_ret dX16_document_45 rfl (Or.inl rfl)
theorem s_X16_document_0 {g : GG} {d : Nat} (hD : 4 ≤ d) {x1 : Int} {M : MM} (hM : LM M) {V : VV} {o : AV × MM} {P : (Int × VV) → Prop} (r0 : ∀ r : Int × VV, P r → o = ((0, r.1), (wr M r.2))) {z : Int × VV} (h : f_X16_document x1 V = some z) (hz : P z) : Sem g d YX16_document 0 [(1, 156), (0, x1), (9, 0), (9, 0), (9, 0), (9, 0), (9, 0), (9, 0)] [] (wr M V) o := by
  delta f_X16_document at h
  refine S_aload_n (i := 0) dX16_document_0 rfl rfl ?_
  refine P2_invVm hM [] [] CVX16_terms MLX16_455 dX16_document_1 rfl rfl rfl rfl (by omega) h (fun r h => F_X16_terms (by omega) hM h) (fun V1 h => ?_)
  refine S_aload_n (i := 0) dX16_document_4 rfl rfl ?_
  refine S_iconst dX16_document_5 rfl ?_
  refine P2_pfi hM FLX16_387 FPX16_387 rfl dX16_document_6 h (fun V2 h => ?_)
  refine S_aload_n (i := 0) dX16_document_9 rfl rfl ?_
  refine S_iload_n (i := 1) dX16_document_10 rfl rfl ?_
  refine P2_invVp hM 0 [(0, x1)] [] CVX16_isPeer MLX16_427 dX16_document_11 rfl rfl rfl rfl rfl (by omega) h (fun r h => F_X16_isPeer (by omega) hM h) (fun v1 h => ?_)
  refine P_if_eq (tgt := 44) dX16_document_14 rfl h (fun h => ?_) (fun h => ?_)
  · refine S_weak (ls' := [(9, 0), (9, 0), (9, 0), (9, 0), (9, 0), (9, 0), (9, 0), (9, 0)]) ⟨Or.inl rfl, ⟨Or.inl rfl, ⟨Or.inl rfl, ⟨Or.inl rfl, ⟨Or.inl rfl, ⟨Or.inl rfl, ⟨Or.inl rfl, ⟨Or.inl rfl, trivial⟩⟩⟩⟩⟩⟩⟩⟩ ?_
    exact s_X16_document_44 hD hM r0 h hz
  · refine S_aload_n (i := 0) dX16_document_17 rfl rfl ?_
    refine P2_gfr hM (a := 173) FLX16_60 rfl ⟨rfl, rfl⟩ dX16_document_18 ?_
    refine S_iload_n (i := 1) dX16_document_21 rfl rfl ?_
    refine P2_lai hM (a := 173) (n := 32) rfl dX16_document_22 h (fun v2 h => ?_)
    refine S_bipush (z := 16) dX16_document_23 rfl ?_
    refine P_icmp_eq (tgt := 44) dX16_document_25 rfl h (fun h => ?_) (fun h => ?_)
    · refine S_weak (ls' := [(9, 0), (9, 0), (9, 0), (9, 0), (9, 0), (9, 0), (9, 0), (9, 0)]) ⟨Or.inl rfl, ⟨Or.inl rfl, ⟨Or.inl rfl, ⟨Or.inl rfl, ⟨Or.inl rfl, ⟨Or.inl rfl, ⟨Or.inl rfl, ⟨Or.inl rfl, trivial⟩⟩⟩⟩⟩⟩⟩⟩ ?_
      exact s_X16_document_44 hD hM r0 h hz
    · refine S_aload_n (i := 0) dX16_document_28 rfl rfl ?_
      refine P2_gfi hM FLX16_442 rfl dX16_document_29 ?_
      refine P_if_eq (tgt := 44) dX16_document_32 rfl h (fun h => ?_) (fun h => ?_)
      · refine S_weak (ls' := [(9, 0), (9, 0), (9, 0), (9, 0), (9, 0), (9, 0), (9, 0), (9, 0)]) ⟨Or.inl rfl, ⟨Or.inl rfl, ⟨Or.inl rfl, ⟨Or.inl rfl, ⟨Or.inl rfl, ⟨Or.inl rfl, ⟨Or.inl rfl, ⟨Or.inl rfl, trivial⟩⟩⟩⟩⟩⟩⟩⟩ ?_
        exact s_X16_document_44 hD hM r0 h hz
      · refine S_aload_n (i := 0) dX16_document_35 rfl rfl ?_
        refine P2_gfi hM FLX16_442 rfl dX16_document_36 ?_
        refine S_bipush (z := 24) dX16_document_39 rfl ?_
        refine P_icmp_le (tgt := 46) dX16_document_41 rfl h (fun h => ?_) (fun h => ?_)
        · refine S_iconst dX16_document_46 rfl ?_
          refine S_istore_n (i := 2) dX16_document_47 rfl (Nat.le_of_ble_eq_true rfl) rfl rfl ?_
          change Sem g d YX16_document 48 [(1, 156), (0, x1), (0, 0), (9, 0), (9, 0), (9, 0), (9, 0), (9, 0)] [] (wr M V2) o
          refine S_iconst dX16_document_48 rfl ?_
          refine S_istore_n (i := 3) dX16_document_49 rfl (Nat.le_of_ble_eq_true rfl) rfl rfl ?_
          change Sem g d YX16_document 50 [(1, 156), (0, x1), (0, 0), (0, 0), (9, 0), (9, 0), (9, 0), (9, 0)] [] (wr M V2) o
          exact sl_X16_document_50 hD hM r0 h hz
        · refine S_weak (ls' := [(9, 0), (9, 0), (9, 0), (9, 0), (9, 0), (9, 0), (9, 0), (9, 0)]) ⟨Or.inl rfl, ⟨Or.inl rfl, ⟨Or.inl rfl, ⟨Or.inl rfl, ⟨Or.inl rfl, ⟨Or.inl rfl, ⟨Or.inl rfl, ⟨Or.inl rfl, trivial⟩⟩⟩⟩⟩⟩⟩⟩ ?_
          exact s_X16_document_44 hD hM r0 h hz
theorem F_X16_document {g : GG} {d : Nat} (hD : 4 ≤ d) {x1 : Int} {M : MM} (hM : LM M) {V : VV} {r : Int × VV} (h : f_X16_document x1 V = some r) : Sem g d YX16_document 0 (ini YX16_document [(1, 156), (0, x1)]) [] (wr M V) ((0, r.1), (wr M r.2)) := by
  change Sem g d YX16_document 0 [(1, 156), (0, x1), (9, 0), (9, 0), (9, 0), (9, 0), (9, 0), (9, 0)] [] (wr M V) ((0, r.1), (wr M r.2))
  exact s_X16_document_0 hD hM (P := fun x => x = r) (fun q e => by rw [e]) h rfl
