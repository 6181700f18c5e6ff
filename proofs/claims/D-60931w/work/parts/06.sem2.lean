section SEM2
variable {g : GG} {d : Nat} {Y : YY} {pc : Nat} {ls st : List AV} {M : MM} {o : AV × MM}
theorem S_dup2 {v v' : AV} (hd : decode Y.2.1 pc = .ok (.dup2, 1)) (hv : v.1 < 2) (hv' : v'.1 < 2) (k : Sem g d Y (pc + 1) ls (v :: v' :: v :: v' :: st) M o) : Sem g d Y pc ls (v :: v' :: st) M o :=
  S_pure (fun p l e R s m args below meth c H locs cells slots Q arr hx hb ho ht hl w => lv_dup2_11 hx hb hd (cv_cat1 hv) (cv_cat1 hv') w) k
theorem lsv_set {i : Nat} {v : AV} {q : Nat × Value} (hn : ((ls.getD (i - 1) (9, 0)).1 == 2) = false) (hi : i < ls.length) (hq : q ∈ lsv g (ls.set i v)) :
    q = (i, cv g v) ∨ q ∈ (lsv g ls).filter (fun q => !(q.1 == i) && !(q.1 + 1 == i && q.2.category == 2)) := by
  unfold lsv at hq
  obtain ⟨⟨a, j⟩, h1, h2⟩ := List.mem_filterMap.mp hq
  have h3 := List.mk_mem_zipIdx_iff_getElem?.mp h1
  simp only at h2
  by_cases hij : j = i
  · subst hij
    rw [List.getElem?_set_self hi] at h3
    cases h3
    left
    split at h2
    · exact (Option.some.inj h2).symm
    · cases h2
  · rw [List.getElem?_set_ne (Ne.symm hij)] at h3
    right
    split at h2
    · next ha =>
      have e := Option.some.inj h2
      subst e
      refine List.mem_filter.mpr ⟨lsv_mem h3 ha, ?_⟩
      simp only [Bool.and_eq_true, Bool.not_eq_true', beq_eq_false_iff_ne, ne_eq, Bool.and_eq_false_iff]
      refine ⟨hij, ?_⟩
      by_cases hj : j + 1 = i
      · right
        have hji : i - 1 = j := by omega
        rw [hji, List.getD_eq_getElem?_getD, h3] at hn
        simp only [Option.getD_some, beq_eq_false_iff_ne, ne_eq] at hn
        have : a.1 < 2 := by omega
        rw [cv_cat1 this]
        decide
      · left
        exact hj
    · cases h2
theorem S_store {pc' i : Nat} {v : AV} (hi : i < Y.2.2.1) (hlen : ls.length = Y.2.2.1) (hn : ((ls.getD (i - 1) (9, 0)).1 == 2) = false)
    (h : ∀ (p : Program) (l : Launch) (e : Env) (R : Room) (s : State) (m : MethodId) (args : Array Value) (below : List Frame) (meth : Method) (c : Code) (H : Heap) (locs : List Loc) (cells slots : Nat) (Q : State → Prop) (arr : Array Slot), p.tables.exec = Jvm.exec → c.code = Y.2.1 → lv_has arr Y.2.2.1 (lsv g ls) →
      (∀ arr', lv_has arr' Y.2.2.1 ((i, cv g v) :: (lsv g ls).filter (fun q => !(q.1 == i) && !(q.1 + 1 == i && q.2.category == 2))) → W p l e R s m args below meth c H locs cells slots Q (F0 m pc' arr' (st.map (cv g)))) →
      ∀ st0, st0 = cv g v → W p l e R s m args below meth c H locs cells slots Q (F0 m pc arr (st0 :: st.map (cv g))))
    (k : Sem g d Y pc' (ls.set i v) st M o) : Sem g d Y pc ls (v :: st) M o := by
  refine ⟨k.1, ?_⟩
  intro p l e R s m args below meth c H locs cells slots Q arr cx hr hH hS hl kk
  refine h p l e R s m args below meth c H locs cells slots Q arr cx.1 cx.2.1 hl (fun arr' hl' => ?_) _ rfl
  refine k.2 p l e R s m args below meth c H locs cells slots Q arr' cx hr hH hS ⟨hl'.1, hl'.2.1, fun q hq => ?_⟩ kk
  refine hl'.2.2 q ?_
  rcases lsv_set hn (by rw [hlen]; exact hi) hq with e | e
  · rw [e]; exact List.mem_cons_self
  · exact List.mem_cons_of_mem _ e
theorem S_istore_n {n : Fin 4} {i : Nat} {z : Int} (hd : decode Y.2.1 pc = .ok (.istore_n n, 1)) (hni : (n : Nat) = i) (hi : i < Y.2.2.1) (hlen : ls.length = Y.2.2.1) (hn : ((ls.getD (i - 1) (9, 0)).1 == 2) = false) (k : Sem g d Y (pc + 1) (ls.set i (0, z)) st M o) : Sem g d Y pc ls ((0, z) :: st) M o :=
  S_store hi hlen hn (fun p l e R s m args below meth c H locs cells slots Q arr hx hb hl w st0 e0 => by subst e0; exact lv_istore_n hx hb hd hni hl hi rfl w) k
theorem S_istore {i : Nat} {z : Int} (hd : decode Y.2.1 pc = .ok (.istore i, 2)) (hi : i < Y.2.2.1) (hlen : ls.length = Y.2.2.1) (hn : ((ls.getD (i - 1) (9, 0)).1 == 2) = false) (k : Sem g d Y (pc + 2) (ls.set i (0, z)) st M o) : Sem g d Y pc ls ((0, z) :: st) M o :=
  S_store hi hlen hn (fun p l e R s m args below meth c H locs cells slots Q arr hx hb hl w st0 e0 => by subst e0; exact lv_istore hx hb hd hl hi rfl w) k
theorem S_astore_n {n : Fin 4} {i : Nat} {z : Int} (hd : decode Y.2.1 pc = .ok (.astore_n n, 1)) (hni : (n : Nat) = i) (hi : i < Y.2.2.1) (hlen : ls.length = Y.2.2.1) (hn : ((ls.getD (i - 1) (9, 0)).1 == 2) = false) (k : Sem g d Y (pc + 1) (ls.set i (1, z)) st M o) : Sem g d Y pc ls ((1, z) :: st) M o :=
  S_store hi hlen hn (fun p l e R s m args below meth c H locs cells slots Q arr hx hb hl w st0 e0 => by
    rw [cv1] at e0 w
    subst e0
    cases hc : cvr g z with
    | none => rw [hc] at w; exact lv_astore_nN hx hb hd hni hl hi rfl w
    | some a => rw [hc] at w; exact lv_astore_n hx hb hd hni hl hi rfl w) k
theorem S_astore {i : Nat} {z : Int} (hd : decode Y.2.1 pc = .ok (.astore i, 2)) (hi : i < Y.2.2.1) (hlen : ls.length = Y.2.2.1) (hn : ((ls.getD (i - 1) (9, 0)).1 == 2) = false) (k : Sem g d Y (pc + 2) (ls.set i (1, z)) st M o) : Sem g d Y pc ls ((1, z) :: st) M o :=
  S_store hi hlen hn (fun p l e R s m args below meth c H locs cells slots Q arr hx hb hl w st0 e0 => by
    rw [cv1] at e0 w
    subst e0
    cases hc : cvr g z with
    | none => rw [hc] at w; exact lv_astoreN hx hb hd hl hi rfl w
    | some a => rw [hc] at w; exact lv_astore hx hb hd hl hi rfl w) k
theorem S_iinc {i : Nat} {n x : Int} (hd : decode Y.2.1 pc = .ok (.iinc i n, 3)) (h : ls[i]? = some (0, x)) (hlen : ls.length = Y.2.2.1) (hn : ((ls.getD (i - 1) (9, 0)).1 == 2) = false) (k : Sem g d Y (pc + 3) (ls.set i (0, x + n)) st M o) : Sem g d Y pc ls st M o := by
  refine ⟨k.1, ?_⟩
  intro p l e R s m args below meth c H locs cells slots Q arr cx hr hH hS hl kk
  have hil : i < ls.length := (List.getElem?_eq_some_iff.mp h).1
  obtain ⟨q0, hq0⟩ := List.getElem?_of_mem (lsv_mem (g := g) h (Nat.le_of_ble_eq_true rfl))
  refine lv_iinc (v := Int32.ofInt (x + n)) cx.1 cx.2.1 hd hl hq0 (by rw [← Int32.ofInt_add]) (by rw [← hlen]; exact hil) rfl (fun arr' hl' => ?_)
  refine k.2 p l e R s m args below meth c H locs cells slots Q arr' cx hr hH hS ⟨hl'.1, hl'.2.1, fun q hq => ?_⟩ kk
  refine hl'.2.2 q ?_
  rcases lsv_set hn hil hq with e | e
  · rw [e]; exact List.mem_cons_self
  · exact List.mem_cons_of_mem _ e
theorem S_lstore {pc' i : Nat} {z : Int} (hd : (∃ n : Fin 4, (n : Nat) = i ∧ pc' = pc + 1 ∧ decode Y.2.1 pc = .ok (.lstore_n n, 1)) ∨ (pc' = pc + 2 ∧ decode Y.2.1 pc = .ok (.lstore i, 2))) (hi : i + 1 < Y.2.2.1) (hlen : ls.length = Y.2.2.1) (hn : ((ls.getD (i - 1) (9, 0)).1 == 2) = false) (hn2 : (ls.getD (i + 1) (9, 0)).1 = 9) (k : Sem g d Y pc' (ls.set i (2, z)) st M o) : Sem g d Y pc ls ((2, z) :: st) M o := by
  refine ⟨k.1, ?_⟩
  intro p l e R s m args below meth c H locs cells slots Q arr cx hr hH hS hl kk
  have key : ∀ arr', lv_has arr' Y.2.2.1 ((i, Value.long (Int64.ofInt z)) :: (lsv g ls).filter (fun q => !(q.1 == i) && (!(q.1 == i + 1) && !(q.1 + 1 == i && q.2.category == 2)))) → W p l e R s m args below meth c H locs cells slots Q (F0 m pc' arr' (st.map (cv g))) := by
    intro arr' hl'
    refine k.2 p l e R s m args below meth c H locs cells slots Q arr' cx hr hH hS ⟨hl'.1, hl'.2.1, fun q hq => ?_⟩ kk
    refine hl'.2.2 q ?_
    rcases lsv_set hn (by rw [hlen]; omega) hq with e | e
    · rw [e]; exact List.mem_cons_self
    · refine List.mem_cons_of_mem _ ?_
      obtain ⟨e1, e2⟩ := List.mem_filter.mp e
      refine List.mem_filter.mpr ⟨e1, ?_⟩
      simp only [Bool.and_eq_true] at e2 ⊢
      refine ⟨e2.1, ?_, e2.2⟩
      simp only [Bool.not_eq_true', beq_eq_false_iff_ne, ne_eq]
      intro hq1
      unfold lsv at e1
      obtain ⟨⟨a, j⟩, h1, h2⟩ := List.mem_filterMap.mp e1
      have h3 := List.mk_mem_zipIdx_iff_getElem?.mp h1
      simp only at h2
      split at h2
      · next ha =>
        have e := Option.some.inj h2
        subst e
        simp only at hq1
        subst hq1
        rw [List.getD_eq_getElem?_getD, h3] at hn2
        simp only [Option.getD_some] at hn2
        omega
      · cases h2
  rcases hd with ⟨n, h1, h2, h3⟩ | ⟨h2, h3⟩
  · subst h2
    exact lv_lstore_n cx.1 cx.2.1 h3 h1 hl hi rfl key
  · subst h2
    exact lv_lstore cx.1 cx.2.1 h3 hl hi rfl key
theorem S_br {tgt pc' : Nat} {st' : List AV} {C : Prop}
    (h : ∀ (p : Program) (l : Launch) (e : Env) (R : Room) (s : State) (m : MethodId) (args : Array Value) (below : List Frame) (meth : Method) (c : Code) (H : Heap) (locs : List Loc) (cells slots : Nat) (Q : State → Prop) (arr : Array Slot), p.tables.exec = Jvm.exec → c.code = Y.2.1 → gs g < gb g →
      (C → W p l e R s m args below meth c H locs cells slots Q (F0 m tgt arr (st'.map (cv g)))) → (¬ C → W p l e R s m args below meth c H locs cells slots Q (F0 m pc' arr (st'.map (cv g)))) → W p l e R s m args below meth c H locs cells slots Q (F0 m pc arr (st.map (cv g))))
    (kt : C → Sem g d Y tgt ls st' M o) (kf : ¬ C → Sem g d Y pc' ls st' M o) : Sem g d Y pc ls st M o := by
  refine ⟨?_, ?_⟩
  · by_cases hc : C
    · exact (kt hc).1
    · exact (kf hc).1
  intro p l e R s m args below meth c H locs cells slots Q arr cx hr hH hS hl kk
  refine h p l e R s m args below meth c H locs cells slots Q arr cx.1 cx.2.1 cx.2.2.2.2.2.1.2.2.2 (fun hc => ?_) (fun hc => ?_)
  · exact (kt hc).2 p l e R s m args below meth c H locs cells slots Q arr cx hr hH hS hl kk
  · exact (kf hc).2 p l e R s m args below meth c H locs cells slots Q arr cx hr hH hS hl kk
theorem S_icmp_eq {x y off : Int} {tgt : Nat} (hd : decode Y.2.1 pc = .ok (.if_icmp .eq off, 3)) (ht : (pc : Int) + off = (tgt : Int)) (kt : w32 x = w32 y → Sem g d Y tgt ls st M o) (kf : ¬ w32 x = w32 y → Sem g d Y (pc + 3) ls st M o) : Sem g d Y pc ls ((0, y) :: (0, x) :: st) M o :=
  S_br (fun p l e R s m args below meth c H locs cells slots Q arr hx hb _ a b => lv_icmp_eq hx hb hd ht (fun h => a (w32_eq.mp h)) (fun h => b (fun q => h (w32_eq.mpr q)))) kt kf
theorem S_icmp_ne {x y off : Int} {tgt : Nat} (hd : decode Y.2.1 pc = .ok (.if_icmp .ne off, 3)) (ht : (pc : Int) + off = (tgt : Int)) (kt : ¬ w32 x = w32 y → Sem g d Y tgt ls st M o) (kf : w32 x = w32 y → Sem g d Y (pc + 3) ls st M o) : Sem g d Y pc ls ((0, y) :: (0, x) :: st) M o :=
  S_br (fun p l e R s m args below meth c H locs cells slots Q arr hx hb _ a b => lv_icmp_ne hx hb hd ht (fun h => a (fun q => h (w32_eq.mpr q))) (fun h => b (fun q => q (w32_eq.mp h)))) kt (fun h => kf (Classical.not_not.mp h))
theorem S_icmp_lt {x y off : Int} {tgt : Nat} (hd : decode Y.2.1 pc = .ok (.if_icmp .lt off, 3)) (ht : (pc : Int) + off = (tgt : Int)) (kt : w32 x < w32 y → Sem g d Y tgt ls st M o) (kf : ¬ w32 x < w32 y → Sem g d Y (pc + 3) ls st M o) : Sem g d Y pc ls ((0, y) :: (0, x) :: st) M o :=
  S_br (fun p l e R s m args below meth c H locs cells slots Q arr hx hb _ a b => lv_icmp_lt hx hb hd ht (fun h => a (w32_lt.mp h)) (fun h => b (fun q => h (w32_lt.mpr q)))) kt kf
theorem S_icmp_ge {x y off : Int} {tgt : Nat} (hd : decode Y.2.1 pc = .ok (.if_icmp .ge off, 3)) (ht : (pc : Int) + off = (tgt : Int)) (kt : ¬ w32 x < w32 y → Sem g d Y tgt ls st M o) (kf : w32 x < w32 y → Sem g d Y (pc + 3) ls st M o) : Sem g d Y pc ls ((0, y) :: (0, x) :: st) M o :=
  S_br (C := ¬ w32 x < w32 y) (fun p l e R s m args below meth c H locs cells slots Q arr hx hb _ a b => lv_icmp_ge hx hb hd ht (fun h => a (Int.not_lt.mpr (w32_le.mp h))) (fun h => b (fun q => h (w32_le.mpr (Int.not_lt.mp q))))) kt (fun h => kf (by omega))
theorem S_icmp_gt {x y off : Int} {tgt : Nat} (hd : decode Y.2.1 pc = .ok (.if_icmp .gt off, 3)) (ht : (pc : Int) + off = (tgt : Int)) (kt : w32 y < w32 x → Sem g d Y tgt ls st M o) (kf : ¬ w32 y < w32 x → Sem g d Y (pc + 3) ls st M o) : Sem g d Y pc ls ((0, y) :: (0, x) :: st) M o :=
  S_br (fun p l e R s m args below meth c H locs cells slots Q arr hx hb _ a b => lv_icmp_gt hx hb hd ht (fun h => a (w32_lt.mp h)) (fun h => b (fun q => h (w32_lt.mpr q)))) kt kf
theorem S_icmp_le {x y off : Int} {tgt : Nat} (hd : decode Y.2.1 pc = .ok (.if_icmp .le off, 3)) (ht : (pc : Int) + off = (tgt : Int)) (kt : ¬ w32 y < w32 x → Sem g d Y tgt ls st M o) (kf : w32 y < w32 x → Sem g d Y (pc + 3) ls st M o) : Sem g d Y pc ls ((0, y) :: (0, x) :: st) M o :=
  S_br (C := ¬ w32 y < w32 x) (fun p l e R s m args below meth c H locs cells slots Q arr hx hb _ a b => lv_icmp_le hx hb hd ht (fun h => a (Int.not_lt.mpr (w32_le.mp h))) (fun h => b (fun q => h (w32_le.mpr (Int.not_lt.mp q))))) kt (fun h => kf (by omega))
theorem S_if_eq {x off : Int} {tgt : Nat} (hd : decode Y.2.1 pc = .ok (.ifCond .eq off, 3)) (ht : (pc : Int) + off = (tgt : Int)) (kt : w32 x = 0 → Sem g d Y tgt ls st M o) (kf : ¬ w32 x = 0 → Sem g d Y (pc + 3) ls st M o) : Sem g d Y pc ls ((0, x) :: st) M o :=
  S_br (fun p l e R s m args below meth c H locs cells slots Q arr hx hb _ a b => lv_if_eq hx hb hd ht (fun h => a (w32_eq0.mp h)) (fun h => b (fun q => h (w32_eq0.mpr q)))) kt kf
theorem S_if_ne {x off : Int} {tgt : Nat} (hd : decode Y.2.1 pc = .ok (.ifCond .ne off, 3)) (ht : (pc : Int) + off = (tgt : Int)) (kt : ¬ w32 x = 0 → Sem g d Y tgt ls st M o) (kf : w32 x = 0 → Sem g d Y (pc + 3) ls st M o) : Sem g d Y pc ls ((0, x) :: st) M o :=
  S_br (fun p l e R s m args below meth c H locs cells slots Q arr hx hb _ a b => lv_if_ne hx hb hd ht (fun h => a (fun q => h (w32_eq0.mpr q))) (fun h => b (fun q => q (w32_eq0.mp h)))) kt (fun h => kf (Classical.not_not.mp h))
theorem S_if_lt {x off : Int} {tgt : Nat} (hd : decode Y.2.1 pc = .ok (.ifCond .lt off, 3)) (ht : (pc : Int) + off = (tgt : Int)) (kt : w32 x < 0 → Sem g d Y tgt ls st M o) (kf : ¬ w32 x < 0 → Sem g d Y (pc + 3) ls st M o) : Sem g d Y pc ls ((0, x) :: st) M o :=
  S_br (fun p l e R s m args below meth c H locs cells slots Q arr hx hb _ a b => lv_if_lt hx hb hd ht (fun h => a (w32_lt0.mp h)) (fun h => b (fun q => h (w32_lt0.mpr q)))) kt kf
theorem S_if_ge {x off : Int} {tgt : Nat} (hd : decode Y.2.1 pc = .ok (.ifCond .ge off, 3)) (ht : (pc : Int) + off = (tgt : Int)) (kt : ¬ w32 x < 0 → Sem g d Y tgt ls st M o) (kf : w32 x < 0 → Sem g d Y (pc + 3) ls st M o) : Sem g d Y pc ls ((0, x) :: st) M o :=
  S_br (C := ¬ w32 x < 0) (fun p l e R s m args below meth c H locs cells slots Q arr hx hb _ a b => lv_if_ge hx hb hd ht (fun h => a (Int.not_lt.mpr (w32_0le.mp h))) (fun h => b (fun q => h (w32_0le.mpr (Int.not_lt.mp q))))) kt (fun h => kf (by omega))
theorem S_if_gt {x off : Int} {tgt : Nat} (hd : decode Y.2.1 pc = .ok (.ifCond .gt off, 3)) (ht : (pc : Int) + off = (tgt : Int)) (kt : 0 < w32 x → Sem g d Y tgt ls st M o) (kf : ¬ 0 < w32 x → Sem g d Y (pc + 3) ls st M o) : Sem g d Y pc ls ((0, x) :: st) M o :=
  S_br (fun p l e R s m args below meth c H locs cells slots Q arr hx hb _ a b => lv_if_gt hx hb hd ht (fun h => a (w32_0lt.mp h)) (fun h => b (fun q => h (w32_0lt.mpr q)))) kt kf
theorem S_if_le {x off : Int} {tgt : Nat} (hd : decode Y.2.1 pc = .ok (.ifCond .le off, 3)) (ht : (pc : Int) + off = (tgt : Int)) (kt : ¬ 0 < w32 x → Sem g d Y tgt ls st M o) (kf : 0 < w32 x → Sem g d Y (pc + 3) ls st M o) : Sem g d Y pc ls ((0, x) :: st) M o :=
  S_br (C := ¬ 0 < w32 x) (fun p l e R s m args below meth c H locs cells slots Q arr hx hb _ a b => lv_if_le hx hb hd ht (fun h => a (Int.not_lt.mpr (w32_le0.mp h))) (fun h => b (fun q => h (w32_le0.mpr (Int.not_lt.mp q))))) kt (fun h => kf (by omega))
theorem S_ifnull {z off : Int} {tgt : Nat} (hd : decode Y.2.1 pc = .ok (.ifnull off, 3)) (ht : (pc : Int) + off = (tgt : Int)) (kt : z = -1 → Sem g d Y tgt ls st M o) (kf : ¬ z = -1 → Sem g d Y (pc + 3) ls st M o) : Sem g d Y pc ls ((1, z) :: st) M o :=
  S_br (fun p l e R s m args below meth c H locs cells slots Q arr hx hb _ a b => by
    simp only [List.map_cons, cv1]
    by_cases h : z = -1
    · have : cvr g z = none := by simp [cvr, h]
      rw [this]
      exact lv_ifnullN hx hb hd ht (a h)
    · have : ∃ q, cvr g z = some q := by
        unfold cvr
        rw [if_neg h]
        split <;> exact ⟨_, rfl⟩
      obtain ⟨q, hq⟩ := this
      rw [hq]
      exact lv_ifnull hx hb hd (b h)) kt kf
theorem S_ifnonnull {z off : Int} {tgt : Nat} (hd : decode Y.2.1 pc = .ok (.ifnonnull off, 3)) (ht : (pc : Int) + off = (tgt : Int)) (kt : ¬ z = -1 → Sem g d Y tgt ls st M o) (kf : z = -1 → Sem g d Y (pc + 3) ls st M o) : Sem g d Y pc ls ((1, z) :: st) M o :=
  S_br (C := ¬ z = -1) (fun p l e R s m args below meth c H locs cells slots Q arr hx hb _ a b => by
    simp only [List.map_cons, cv1]
    by_cases h : z = -1
    · have : cvr g z = none := by simp [cvr, h]
      rw [this]
      exact lv_ifnonnullN hx hb hd (b (fun q => q h))
    · have : ∃ q, cvr g z = some q := by
        unfold cvr
        rw [if_neg h]
        split <;> exact ⟨_, rfl⟩
      obtain ⟨q, hq⟩ := this
      rw [hq]
      exact lv_ifnonnull hx hb hd ht (a h)) kt (fun h => kf (Classical.not_not.mp h))
theorem S_acmp_ne {x y off : Int} {tgt : Nat} (hd : decode Y.2.1 pc = .ok (.if_acmp .ne off, 3)) (ht : (pc : Int) + off = (tgt : Int)) (hx1 : -1 ≤ x) (hy1 : -1 ≤ y) (kt : ¬ x = y → Sem g d Y tgt ls st M o) (kf : x = y → Sem g d Y (pc + 3) ls st M o) : Sem g d Y pc ls ((1, y) :: (1, x) :: st) M o :=
  S_br (C := ¬ x = y) (fun p l e R s m args below meth c H locs cells slots Q arr hx hb hsb a b => by
    have inj : cvr g x = cvr g y → x = y := by
      unfold cvr
      intro h
      split at h <;> split at h <;> (try split at h) <;> (try split at h) <;> simp at h <;> omega
    exact lv_acmp_ne hx hb hd ht (fun h => a (fun q => h (by rw [q]))) (fun h => b (fun q => q (inj h)))) kt (fun h => kf (Classical.not_not.mp h))
theorem S_table {z dflt lo hi : Int} {offs : Array Int} {len : Nat} (hd : decode Y.2.1 pc = .ok (.tableswitch dflt lo hi offs, len))
    (kin : ∀ (off : Int) (tgt : Nat), lo ≤ w32 z → w32 z ≤ hi → offs[(w32 z - lo).toNat]? = some off → (pc : Int) + off = tgt → Sem g d Y tgt ls st M o) (htg : ∀ i : Nat, i < offs.size → ∃ off : Int, ∃ tgt : Nat, offs[i]? = some off ∧ (pc : Int) + off = tgt) (hsz : offs.size = (hi - lo + 1).toNat) {tg : Nat} (htd : (pc : Int) + dflt = (tg : Int))
    (kout : (w32 z < lo ∨ hi < w32 z) → Sem g d Y tg ls st M o) : Sem g d Y pc ls ((0, z) :: st) M o := by
  by_cases h : lo ≤ w32 z ∧ w32 z ≤ hi
  · obtain ⟨off, tgt, h1, h2⟩ := htg (w32 z - lo).toNat (by omega)
    exact S_pure (fun p l e R s m args below meth c H locs cells slots Q arr hx hb ho ht hl w => lv_tableIn hx hb hd (by show ¬ w32 z < lo; omega) (by show ¬ hi < w32 z; omega) h1 h2 w) (kin off tgt h.1 h.2 h1 h2)
  · exact S_pure (fun p l e R s m args below meth c H locs cells slots Q arr hx hb ho ht hl w => lv_tableOut hx hb hd (by show w32 z < lo ∨ hi < w32 z; omega) htd w) (kout (by omega))
end SEM2
