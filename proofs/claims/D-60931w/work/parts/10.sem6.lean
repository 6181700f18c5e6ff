section SEM6
variable {g : GG} {d : Nat} {Y : YY} {pc : Nat} {ls st : List AV} {o : AV × MM} {I Rf : Nat → Nat → Int} {K : Nat → Nat × Nat} {n u : Nat}
def dfl (t : Nat) : Value := if t = 1 then .null else if t = 2 then .long 0 else .int 0
/-- the class own may make objects of the class number ci by its entry idx -/
def NL (own : String) (idx ci : Nat) : Prop := ∃ (C : String) (T : u_T) (N : Nat) (ty : Nat → FieldType), vwCl[ci]? = some (C, T, N) ∧ N = nfl ci ∧ ci < 63 ∧ (∀ w ∈ u_ws C T N, w ∈ lw_all) ∧ (∀ k, k < N → parseFieldDescriptor (T k).2.2.1 = some (ty k)) ∧ (∀ j, j < N → defaultValue (ty j) = dfl (ftag ci j)) ∧ Cond.classLink own idx C ∈ lw_all ∧ Cond.instantiable C N ∈ lw_all ∧ Cond.initialized C ∈ lw_all
theorem S_new {idx ci : Nat} {M : MM} (hL : NL Y.1 idx ci) (hd : decode Y.2.1 pc = .ok (.new idx, 3)) (kk : Sem g d Y (pc + 3) ls (((1, (M.2.2.2.1 : Int)) : AV) :: st) (nw M ci (nfl ci)) o) : Sem g d Y pc ls st M o := by
  refine S_bornG (fun p l' e R s m args below meth c H locs cells slots Q arr cx hsz hcl hsl kt => ?_) kk
  obtain ⟨C, T, N, ty, hc, hN, hci, hin, hty, hdf, hq1, hq2, hq3⟩ := hL
  simp only [List.map_cons, cv1, cvr_nat] at kt
  subst hN
  have hKn := cx.2.2.2.2.2.1.1.1 ci _ hc
  have hts := cx.2.2.2.2.1
  refine W.newcK cx.1 cx.2.1 cx.2.2.2.1 (hts _ hq1) (hts _ hq2) (hts _ hq3) rfl hd hcl hsl hKn.2.1 rfl fun H1 kC hkC e1 z1 o1 => ?_
  rw [hsz]
  refine kt H1 ?_ z1 o1
  rw [ce_obj (ci := ci) (l := nfl ci) (by show (if _ then _ else _) = _; rw [if_pos rfl]) (by omega)]
  rw [hsz] at e1
  refine ⟨_, hc, (u_born ty hts hin hKn hkC e1 hty).to (fun j hj => ?_)⟩
  have hj : j < nfl ci := hj
  rw [hdf j hj]
  unfold vp_V
  rw [List.getD_eq_getElem?_getD, fvs_get hj, Option.getD_some]
  unfold rdv nw dfl cv
  simp only [if_true]
  by_cases h1 : ftag ci j = 1
  · rw [h1]; rfl
  · by_cases h2 : ftag ci j = 2
    · rw [h2]; rfl
    · rw [if_neg h1, if_neg h2, if_neg h1, if_neg h2]
      by_cases h0 : ftag ci j = 0
      · rw [if_pos h0]; rfl
      · exfalso
        have hall : ∀ a, a < 32 → ∀ b, b < 145 → ftag a b = 0 ∨ ftag a b = 1 ∨ ftag a b = 2 := by decide +kernel
        have hci2 : ci < 32 := (List.getElem?_eq_some_iff.mp hc).1
        have hnf : ∀ a, a < 32 → nfl a ≤ 145 := by decide +kernel
        have := hall ci hci2 j (Nat.lt_of_lt_of_le hj (hnf ci hci2))
        omega
theorem S_objInit {idx : Nat} {a : Nat} {M : MM} (hq : Cond.methodLink Y.1 idx Lib.objectInit ∈ lw_all) (hd : decode Y.2.1 pc = .ok (.invokespecial idx, 3)) (hcat : ((st.map (cv g)).map fun v => v.category).sum ≤ 8) (h1 : 1 ≤ d) (kk : Sem g d Y (pc + 3) ls st M o) : Sem g d Y pc ls ((1, (a : Int)) :: st) M o := by
  refine ⟨kk.1, ?_⟩
  intro p l' e R s m args below meth c H locs cells slots Q arr cx hr hH hS hl kt
  have W1 := kk.2 p l' e R s m args below meth c H locs cells slots Q arr cx hr hH hS hl kt
  simp only [List.map_cons, cv1, cvr_nat]
  have hts := cx.2.2.2.2.1
  have q1 : (Cond.instanceMethod Lib.objectInit) ∈ lw_all := q213
  have q2 : (Cond.code Lib.objectInit ⟨#[0xb1]⟩ 1 none) ∈ lw_all := q214
  refine W.objInit cx.1 cx.2.1 cx.2.2.2.1 (hts _ hq) (hts _ q1) (hts _ q2) rfl (by rw [cx.2.2.1]; exact hl.1) rfl hd (by have := hr.1; omega) ?_ W1
  have := hr.2.1
  show 2 * 0 + _ + 12 ≤ _
  omega
theorem S_ireturn {z : Int} {M : MM} (hd : decode Y.2.1 pc = .ok (.ireturn, 1)) (hn : ∃ ty, Y.2.2.2.2 = some ty ∧ narrow ty (.int (Int32.ofInt z)) = .int (Int32.ofInt z)) : Sem g d Y pc ls [(0, z)] M ((0, z), M) := by
  refine ⟨⟨Nat.le_refl _, Nat.le_refl _⟩, ?_⟩
  intro p l' e R s m args below meth c H locs cells slots Q arr cx hr hH hS hl kt
  exact kt pc arr H locs cells slots rfl rfl (Or.inl ⟨rfl, hd, hn⟩) hH hS
theorem S_areturn {z : Int} {M : MM} (hd : decode Y.2.1 pc = .ok (.areturn, 1)) (hn : ∃ ty, Y.2.2.2.2 = some ty ∧ ((∃ n, ty = .object n) ∨ ∃ t, ty = .array t)) : Sem g d Y pc ls [(1, z)] M ((1, z), M) := by
  refine ⟨⟨Nat.le_refl _, Nat.le_refl _⟩, ?_⟩
  intro p l' e R s m args below meth c H locs cells slots Q arr cx hr hH hS hl kt
  exact kt pc arr H locs cells slots rfl rfl (Or.inr (Or.inl ⟨rfl, hd, hn⟩)) hH hS
theorem S_return {M : MM} (hd : decode Y.2.1 pc = .ok (.return_, 1)) (hn : Y.2.2.2.2 = none) : Sem g d Y pc ls [] M ((9, 0), M) := by
  refine ⟨⟨Nat.le_refl _, Nat.le_refl _⟩, ?_⟩
  intro p l' e R s m args below meth c H locs cells slots Q arr cx hr hH hS hl kt
  exact kt pc arr H locs cells slots rfl rfl (Or.inr (Or.inr ⟨rfl, hd, hn⟩)) hH hS
def ini (Y : YY) (as : List AV) : List AV := as ++ List.replicate (Y.2.2.1 - as.length) (9, 0)
def PcS (g : GG) (M : MM) (U : State) : Prop := Hold g M U.heap ∧ EnvOK g U ∧ va_X (gs g) (gL g) (gxs g) U U.heap
def QcS (g : GG) (r : AV) (M1 : MM) : Array Value → State → Outcome → State → Prop := fun _ st oc t => (oc = .returned (if r.1 = 9 then none else some (cv g r)) ∧ Hold g M1 t.heap) ∧ va_F (gA g) st t
theorem lv_args_get (as : List AV) (has : ∀ v ∈ as, v.1 < 2) : ∀ (k i : Nat) (v : AV), as[i]? = some v → (k + i, cv g v) ∈ lv_args k (as.map (cv g)) := by
  induction as with
  | nil => intro k i v h; simp at h
  | cons a as ih =>
    intro k i v h
    cases i with
    | zero =>
      simp at h
      subst h
      exact List.mem_cons_self
    | succ i =>
      simp at h
      have h2 := ih (fun v hv => has v (List.mem_cons_of_mem _ hv)) (k + 1) i v h
      refine List.mem_cons_of_mem _ ?_
      rw [if_neg (by rw [cv_cat1 (has a List.mem_cons_self)]; decide)]
      rw [show k + (i + 1) = k + 1 + i by omega]
      exact h2
theorem lg_sl_len (as : List AV) (has : ∀ v ∈ as, v.1 < 2) : (lg_sl (as.map (cv g))).length = as.length := by
  induction as with
  | nil => rfl
  | cons a as ih =>
    have h1 := ih (fun v hv => has v (List.mem_cons_of_mem _ hv))
    unfold lg_sl at h1 ⊢
    rw [List.map_cons, List.flatMap_cons, List.length_append, h1, if_neg (by rw [cv_cat1 (has a List.mem_cons_self)]; decide)]
    simp
    omega
theorem met_of_sem {l : Launch} {as : List AV} {r : AV} {M M1 : MM} (hp : plainName Y.2.2.2.1.cls = true) (hown : Y.2.2.2.1.cls = Y.1) (has : ∀ v ∈ as, v.1 < 2) (hlen : as.length ≤ Y.2.2.1) (h : Sem g d Y 0 (ini Y as) [] M (r, M1)) :
    Met l Y.2.2.2.1 (ws_ Y.2.2.2.1 Y.2.1 Y.2.2.1 Y.2.2.2.2) ({ frames := d, cells := M1.2.2.2.1 - M.2.2.2.1, slots := M1.2.2.2.2 - M.2.2.2.2, locals := 64 * d }) (va_Pc (as.map (cv g)) (PcS g M)) (QcS g r M1) (M1.2.2.2.1 - M.2.2.2.1) (M1.2.2.2.2 - M.2.2.2.2) (gA g) := by
  obtain ⟨⟨hm1, hm2⟩, h⟩ := h
  simp only at hm1 hm2
  refine Met.ofW (cc := Y.2.1) (maxL := Y.2.2.1) (ret := Y.2.2.2.2) hp rfl ?_
  intro p e s m args below meth c s₁ B hml hv
  obtain ⟨rfl, hH, hE, hX⟩ := hv
  have hts := atoms_spec (ws := ws_ Y.2.2.2.1 Y.2.1 Y.2.2.1 Y.2.2.2.2) B.pre
  have hts : ∀ w ∈ lw_all, w.before _ s = true := fun w h => hts w (List.mem_cons_of_mem _ h)
  have hownc : s.vm.findClass Y.1 = some m.cls := by rw [← hown]; exact findClass_of_methodNamed B.named
  have hl := lv_entry (as.map (cv g)) (n := Y.2.2.1) (by rw [lg_sl_len as has]; exact hlen)
  rw [lg_entry_eq]
  generalize (lg_sl (as.map (cv g)) ++ List.replicate (Y.2.2.1 - (lg_sl (as.map (cv g))).length) Slot.unset).toArray = arr at hl ⊢
  have hb0 : gb g ≤ s.heap.size := by rw [hH.1]; omega
  refine h p l e _ s m _ below meth c s.heap [] 0 0 _ arr ⟨B.exec, B.bytes, hml, hownc, hts, hE, hX, hb0, fun _ => by have := (name_of_methodNamed B.named B.method).1; rw [this]; assumption⟩ ⟨Nat.le_refl _, Nat.le_refl _, ?_, ?_⟩ hH va_S.rf ⟨hl.1, hl.2.1, fun q hq => ?_⟩ ?_
  · show 0 + M1.2.2.2.1 ≤ (M1.2.2.2.1 - M.2.2.2.1) + M.2.2.2.1
    omega
  · show 0 + M1.2.2.2.2 ≤ (M1.2.2.2.2 - M.2.2.2.2) + M.2.2.2.2
    omega
  · refine hl.2.2 q ?_
    unfold lsv at hq
    obtain ⟨⟨a, j⟩, h1, h2⟩ := List.mem_filterMap.mp hq
    have h3 := List.mk_mem_zipIdx_iff_getElem?.mp h1
    simp only at h2
    split at h2
    · next ha =>
      have e := Option.some.inj h2
      subst e
      unfold ini at h3
      by_cases hj : j < as.length
      · rw [List.getElem?_append_left hj] at h3
        have := lv_args_get (g := g) as has 0 j a h3
        rw [Nat.zero_add] at this
        exact this
      · rw [List.getElem?_append_right (by omega)] at h3
        have := List.eq_of_mem_replicate (List.mem_of_getElem? h3)
        subst this
        simp at ha
    · cases h2
  · intro pc' arr' H' locs' cells' slots' e1 e2 e3 e4 e5
    have c1 : cells' = M1.2.2.2.1 - M.2.2.2.1 := by
      have e1 : cells' + M.2.2.2.1 = 0 + M1.2.2.2.1 := e1
      omega
    have c2 : slots' = M1.2.2.2.2 - M.2.2.2.2 := by
      have e2 : slots' + M.2.2.2.2 = 0 + M1.2.2.2.2 := e2
      omega
    subst c1
    subst c2
    have hlocks := B.notSynchronized
    have hret := B.returns
    rcases e3 with ⟨t0, hd, ty, ht, hn⟩ | ⟨t0, hd, ty, ht, hn⟩ | ⟨t0, hd, ht⟩
    · have t0 : r.1 = 0 := t0
      have hst : rst g r = [.int (Int32.ofInt r.2)] := by
        unfold rst cv
        rw [if_neg (by omega), if_pos t0]
      rw [hst]
      refine W.zret (ty := ty) B.exec B.bytes (by rw [hret]; exact ht) hn (fun t ht' hW => ⟨⟨?_, by rw [ht']; exact e4⟩, e5.F ht'⟩) e5.2.2 hd
      rw [if_neg (by omega)]
      unfold cv
      rw [if_pos t0]
    · have t0 : r.1 = 1 := t0
      have hst : rst g r = [va_rf (cvr g r.2)] := by
        unfold rst cv
        rw [if_neg (by omega), if_neg (by omega), if_pos t0]
      rw [hst]
      refine W.aret (rt := ty) B.exec B.bytes (by rw [hret]; exact ht) hn (va_rf_or _) (fun t ht' hW => ⟨⟨?_, by rw [ht']; exact e4⟩, e5.F ht'⟩) e5.2.2 hd
      rw [if_neg (by omega)]
      unfold cv
      rw [if_neg (by omega), if_pos t0]
    · have t0 : r.1 = 9 := t0
      have hst : rst g r = [] := by
        unfold rst
        rw [if_pos t0]
      rw [hst]
      refine W.vret B.exec B.bytes (by rw [hret]; exact ht) (fun t ht' hW => ⟨⟨?_, by rw [ht']; exact e4⟩, e5.F ht'⟩) e5.2.2 hd
      rw [if_pos t0]
end SEM6
