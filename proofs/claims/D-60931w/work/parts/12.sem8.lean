section SEM8
variable {g : GG} {d : Nat} {Y Y' : YY} {pc : Nat} {ls st : List AV} {o : AV × MM} {M M1 : MM} {r : AV} {as : List AV}
/-- a call of a method that the class x.cls declares, on an object of another class that has it -/
theorem S_invP {idx n a ci l : Nat} {x : MethodName} (hY : YO Y') (hN : (parseMethodDescriptor x.desc).map (fun d => d.parameters.length) = some n) (hL : Cond.methodLink Y.1 idx x ∈ lw_all) (hsm : Cond.sameMethod x.cls x.cls x.name x.desc ∈ lw_all) (hx : x.cls ≠ "java/lang/invoke/MethodHandle" ∧ x.cls ≠ "java/lang/invoke/VarHandle") (hdc : Cond.declares x ∈ lw_tbl ∨ (Cond.instanceMethod x ∈ lw_all ∧ ∃ b0 m0 r0, Cond.code x b0 m0 r0 ∈ lw_all)) (hin : Cond.instanceMethod Y'.2.2.2.1 ∈ lw_all) (hsel : Cond.selects Y'.1 x Y'.2.2.2.1 ∈ lw_all) (hd : decode Y.2.1 pc = .ok (.invokevirtual idx, 3)) (hK : M.2.2.1 a = (ci, l)) (hci : ci < 63) (hcl : (vwCl[ci]?).map (·.1) = some Y'.1) (hn : as.length = n) (has : ∀ v ∈ as, v.1 < 2) (hlen : as.length + 1 ≤ Y'.2.2.1) (hcat : ((st.map (cv g)).map fun v => v.category).sum ≤ 8) (hc : Sem g (d - 1) Y' 0 (ini Y' (((1, (a : Int)) : AV) :: as)) [] M (r, M1)) (hd1 : 1 ≤ d) (kk : Sem g d Y (pc + 3) ls (psh r st) M1 o) : Sem g d Y pc ls (as.reverse ++ ((1, (a : Int)) : AV) :: st) M o := by
  obtain ⟨y1, y2, y3, y4, y5, y6, y7⟩ := hY
  refine S_callG (a := ((((1, (a : Int)) : AV) :: as).map (cv g)).toArray) hc.1 (fun p l' e R s m args below meth c H locs cells slots arr cx hf hl hH hS hsz h1 h2 => ?_) kk
  have hts := cx.2.2.2.2.1
  have has' : ∀ v ∈ ((1, (a : Int)) : AV) :: as, v.1 < 2 := by
    intro v hv
    rcases List.mem_cons.mp hv with e | e
    · rw [e]; exact Nat.le_of_ble_eq_true rfl
    · exact has v e
  have hM := met_of_sem (l := l') y1 y2 has' hlen hc
  have hR : (d - 1) + 1 ≤ R.frames ∧ 8 + (Y'.2.2.1 + 11) + 64 * (d - 1) ≤ R.locals := ⟨by omega, by omega⟩
  have hstk : (F0 m pc arr ((as.reverse ++ ((1, (a : Int)) : AV) :: st).map (cv g))).stack = (as.map (cv g)).reverse ++ .ref (gb g + a) :: st.map (cv g) := by
    show (as.reverse ++ ((1, (a : Int)) : AV) :: st).map (cv g) = _
    rw [List.map_append, List.map_reverse, List.map_cons, cv1, cvr_nat]
    rfl
  have hargs : (((1, (a : Int)) : AV) :: as).map (cv g) = .ref (gb g + a) :: as.map (cv g) := by
    rw [List.map_cons, cv1, cvr_nat]
    rfl
  rw [hargs] at hM ⊢
  have hrecv : ∃ cell : Cell, H[gb g + a]? = some cell ∧ cell.vm.isStatics = false ∧ s.vm.findClass Y'.1 = some cell.cls := by
    cases hq : vwCl[ci]? with
    | none => rw [hq] at hcl; cases hcl
    | some q =>
      rw [hq] at hcl
      have hq1 : q.1 = Y'.1 := Option.some.inj hcl
      have := rcv_of cx.2.2.2.2.2.1 hH hK hci hq
      rw [hq1] at this
      exact this
  have hG : GoodIn lw_all (va_wsU Y.1 idx Y'.1 x.cls x Y'.2.2.2.1 (ws_ Y'.2.2.2.1 Y'.2.1 Y'.2.2.1 Y'.2.2.2.2)) := by
    refine lw_app ?_ (lw_meth y4)
    intro w hw
    simp only [List.mem_cons, List.not_mem_nil, or_false] at hw
    rcases hw with e | e | e | e | e
    · rw [e]; exact hL
    · rw [e]; exact hsm
    · rw [e]; exact hsel
    · rw [e]; exact hin
    · rw [e]; exact y5
  have hU : va_CU R s args Y.1 Y'.1 x.cls idx x Y'.2.2.2.1 Y'.2.1 Y'.2.2.1 Y'.2.2.2.2 (ws_ Y'.2.2.2.1 Y'.2.1 Y'.2.2.1 Y'.2.2.2.2) ({ frames := d - 1, cells := M1.2.2.2.1 - M.2.2.2.1, slots := M1.2.2.2.2 - M.2.2.2.2, locals := 64 * (d - 1) }) (M1.2.2.2.1 - M.2.2.2.1) (M1.2.2.2.2 - M.2.2.2.2) n := by
    rcases hdc with hdc | ⟨hxi, b0, m0, r0, hxc⟩
    · exact va_cwA n hts hG rfl rfl rfl (cx.2.2.2.2.2.1.2.1 _ hdc rfl) ⟨hx.1, hx.2, hN⟩ hR
    · refine va_cwO n hts ?_ rfl rfl rfl hxc ⟨hx.1, hx.2, hN⟩ hR
      refine lw_app ?_ (lw_meth y4)
      intro w hw
      simp only [List.mem_cons, List.not_mem_nil, or_false] at hw
      rcases hw with e | e | e | e | e | e
      · rw [e]; exact hL
      · rw [e]; exact hsm
      · rw [e]; exact hxi
      · rw [e]; exact hsel
      · rw [e]; exact hin
      · rw [e]; exact y5
  exact va_runU (nL := Y.2.2.1) ⟨cx.1, cx.2.1, cx.2.2.1, cx.2.2.2.1, hts⟩ hM hU ⟨by rw [← hargs]; exact PcS_blind, hrecv, fun U hU hW => ⟨rfl, PcS_of cx hH hS hU hW⟩⟩ rfl (by rw [List.length_map]; exact hn) hsz hstk (lv_room hcat) hd ⟨h1, h2⟩
variable {I Rf : Nat → Nat → Int} {K : Nat → Nat × Nat} {n u : Nat}
def cpy2 (I : Nat → Nat → Int) (a0 a sp dp len : Nat) : Nat → Nat → Int := fun b j => if b = a ∧ dp ≤ j ∧ j < dp + len then I a0 (sp + (j - dp)) else I b j
theorem S_copyb {idx a0 a k0 k1 l0 l1 : Nat} {sp dp len : Int} (hL : Cond.methodLink Y.1 idx arraycopyName ∈ lw_all) (hd : decode Y.2.1 pc = .ok (.invokestatic idx, 3)) (hK0 : K a0 = (k0, l0)) (hK1 : K a = (k1, l1)) (hk0 : 64 ≤ k0 ∧ k0 % 16 = 1) (hk1 : 64 ≤ k1 ∧ k1 % 16 = 1) (h1 : 0 ≤ w32 sp) (h2 : 0 ≤ w32 dp) (h3 : 0 ≤ w32 len) (h4 : w32 sp + w32 len ≤ l0) (h5 : w32 dp + w32 len ≤ l1) (hd1 : 1 ≤ d) (hcat : ((st.map (cv g)).map fun v => v.category).sum ≤ 8)
    (kk : Sem g d Y (pc + 3) ls st (cpy2 I a0 a (w32 sp).toNat (w32 dp).toNat (w32 len).toNat, Rf, K, n, u) o) : Sem g d Y pc ls ((0, len) :: (0, dp) :: (1, (a : Int)) :: (0, sp) :: (1, (a0 : Int)) :: st) (I, Rf, K, n, u) o := by
  refine ⟨kk.1, ?_⟩
  intro p l' e R s m args below meth c H locs cells slots Q arr cx hr hH hS hl kt
  obtain ⟨r1, r2, r3, r4⟩ := hr
  have hts := cx.2.2.2.2.1
  obtain ⟨hlt0, he0⟩ := arr_at (M := (I, Rf, K, n, u)) hH hK0 hk0.1
  obtain ⟨hlt1, he1⟩ := arr_at (M := (I, Rf, K, n, u)) hH hK1 hk1.1
  rw [hk0.2] at he0
  rw [hk1.2] at he1
  have hac : ∀ (J : Nat → Nat → Int) (b : Nat), acon g (J, Rf, K, n, u) 1 b = .inl (fun i => (Int32.ofInt (J b i)).toInt8.toInt32) := fun J b => rfl
  rw [hac] at he0 he1
  simp only [List.map_cons, cv1, cv0, cvr_nat]
  intro T hT X
  have hc0 : H[gb g + a0]? = some (vp_cell (gca g 1) (l0, .inl (fun i => (Int32.ofInt (I a0 i)).toInt8.toInt32))) := hH.2.1 a0 _ he0
  have hc1 : H[gb g + a]? = some (vp_cell (gca g 1) (l1, .inl (fun i => (Int32.ofInt (I a i)).toInt8.toInt32))) := hH.2.1 a _ he1
  have hKK := cx.2.2.2.2.2.1.1
  obtain ⟨-, kk0, hkk0, cm0, hkk0'⟩ := (hKK.2 1 _ (tyo_get (by decide))).1 l0 (fun i => .int ((Int32.ofInt (I a0 i)).toInt8.toInt32))
  obtain ⟨-, kk1, hkk1, cm1, hkk1'⟩ := (hKK.2 1 _ (tyo_get (by decide))).1 l1 (fun i => .int ((Int32.ofInt (I a i)).toInt8.toInt32))
  have e4 : (Int32.ofInt sp).toNatClampNeg + (Int32.ofInt len).toNatClampNeg ≤ l0 := by rw [w32_clamp, w32_clamp]; omega
  have e5 : (Int32.ofInt dp).toNatClampNeg + (Int32.ofInt len).toNatClampNeg ≤ l1 := by rw [w32_clamp, w32_clamp]; omega
  have hloc : 2 * (F0 m pc arr (.int (Int32.ofInt len) :: .int (Int32.ofInt dp) :: .ref (gb g + a) :: .int (Int32.ofInt sp) :: .ref (gb g + a0) :: st.map (cv g))).monitorRoom + ((st.map (cv g)).map fun v => v.category).sum + (nativeFrameWords "java/lang/System" "arraycopy" 5 + 11) ≤ R.locals := by
    have hw : nativeFrameWords "java/lang/System" "arraycopy" 5 + 11 ≤ 56 := by decide
    show 2 * 0 + _ + _ ≤ _
    omega
  obtain ⟨vm', X', step⟩ := X.arraycopy cx.1 cx.2.2.2.1 (hts _ hL) (hts _ q1123) (hts _ q1122) (hts _ q199) (src := gb g + a0) (dst := gb g + a) (cs := vp_cell (gca g 1) (l0, .inl (fun i => (Int32.ofInt (I a0 i)).toInt8.toInt32))) (cd := vp_cell (gca g 1) (l1, .inl (fun i => (Int32.ofInt (I a i)).toInt8.toInt32))) (srcPos := Int32.ofInt sp) (destPos := Int32.ofInt dp) (n := Int32.ofInt len) (by rw [hT]; exact hc0) (by rw [hT]; exact hc1)
    (fun _ h => by cases h) (fun _ h => by cases h) (fun h => by cases h) (fun h => by cases h) hkk0 hkk1 hkk0' hkk1' (show (refKind FieldType.byte != refKind FieldType.byte || !refKind FieldType.byte && FieldType.byte != FieldType.byte) = false by decide) (by rw [w32_lt0]; omega) (by rw [w32_lt0]; omega) (by rw [w32_lt0]; omega)
    (by show ¬ w32 sp + w32 len > ((arrV _ l0 _).slots.size : Int); rw [arrV_size]; omega)
    (by show ¬ w32 dp + w32 len > ((arrV _ l1 _).slots.size : Int); rw [arrV_size]; omega)
    (fun vm₁ _ i hi => by
      have e : (vp_cell (gca g 1) (l0, .inl (fun i => (Int32.ofInt (I a0 i)).toInt8.toInt32))).slots.getD ((Int32.ofInt sp).toNatClampNeg + i) .null = .int ((Int32.ofInt (I a0 ((Int32.ofInt sp).toNatClampNeg + i))).toInt8.toInt32) := by
        show (arrV _ l0 (fun j => .int ((Int32.ofInt (I a0 j)).toInt8.toInt32))).slots.getD _ _ = _
        rw [Array.getD_eq_getD_getElem?, arrV_read _ _ (by omega)]
        rfl
      refine ⟨?_, ?_⟩
      · rw [e]
        exact pk_fb _
      · rw [e]
        exact trivial)
    (g := F0 m pc arr (.int (Int32.ofInt len) :: .int (Int32.ofInt dp) :: .ref (gb g + a) :: .int (Int32.ofInt sp) :: .ref (gb g + a0) :: st.map (cv g))) rfl (by rw [cx.2.2.1]; exact hl.1) (rest := st.map (cv g)) rfl (by rw [cx.2.1]; exact hd) (by omega) hloc
  have e1 : copied (vp_cell (gca g 1) (l0, .inl (fun i => (Int32.ofInt (I a0 i)).toInt8.toInt32))) (vp_cell (gca g 1) (l1, .inl (fun i => (Int32.ofInt (I a i)).toInt8.toInt32))) (Int32.ofInt sp) (Int32.ofInt dp) (Int32.ofInt len) = vp_cell (gca g 1) (l1, .inl (va_cpy (fun i => (Int32.ofInt (I a0 i)).toInt8.toInt32) (fun i => (Int32.ofInt (I a i)).toInt8.toInt32) (Int32.ofInt sp).toNatClampNeg (Int32.ofInt dp).toNatClampNeg (Int32.ofInt len).toNatClampNeg)) := va_copied (fun z => .int z) (gca g 1) (gca g 1) (fun i => (Int32.ofInt (I a0 i)).toInt8.toInt32) (fun i => (Int32.ofInt (I a i)).toInt8.toInt32) e4
  rw [e1] at X' step
  have hl' : gb g + a < H.size := (Array.getElem?_eq_some_iff.mp hc1).1
  generalize hcell : vp_cell (gca g 1) (l1, .inl (va_cpy (fun i => (Int32.ofInt (I a0 i)).toInt8.toInt32) (fun i => (Int32.ofInt (I a i)).toInt8.toInt32) (Int32.ofInt sp).toNatClampNeg (Int32.ofInt dp).toNatClampNeg (Int32.ofInt len).toNatClampNeg)) = cellN at X' step
  have hheap : ((T.setVm vm').setCell (gb g + a) cellN).heap = H.setIfInBounds (gb g + a) cellN := by rw [← hT]; rfl
  have oq : ∀ q : Nat, q ≠ gb g + a → (H.setIfInBounds (gb g + a) cellN)[q]? = H[q]? := fun q hq => by simp [Array.getElem?_setIfInBounds, Ne.symm hq]
  have hH1 : Hold g (cpy2 I a0 a (w32 sp).toNat (w32 dp).toNat (w32 len).toNat, Rf, K, n, u) (H.setIfInBounds (gb g + a) cellN) := by
    refine hH.upd (M' := (cpy2 I a0 a (w32 sp).toNat (w32 dp).toNat (w32 len).toNat, Rf, K, n, u)) hlt1 rfl rfl (fun b j hb => ?_) (fun b j hb => rfl) ?_ (by simp) oq
    · show cpy2 I a0 a _ _ _ b j = I b j
      unfold cpy2
      rw [if_neg (fun q => hb q.1)]
    · rw [ce_arr (k := k1) (l := l1) hK1 hk1.1, hk1.2, hac]
      show (H.setIfInBounds (gb g + a) cellN)[gb g + a]? = some _
      rw [← hcell]
      simp only [Array.getElem?_setIfInBounds, hl', if_true, dite_true]
      congr 3
      apply congrArg Sum.inl
      funext j
      unfold va_cpy cpy2
      by_cases hj : (w32 dp).toNat ≤ j ∧ j < (w32 dp).toNat + (w32 len).toNat
      · rw [if_pos (⟨rfl, hj⟩ : a = a ∧ (w32 dp).toNat ≤ j ∧ j < (w32 dp).toNat + (w32 len).toNat)]
        exact if_pos hj
      · rw [if_neg (fun q : a = a ∧ (w32 dp).toNat ≤ j ∧ j < (w32 dp).toNat + (w32 len).toNat => hj q.2)]
        exact if_neg hj
  obtain ⟨t, a1, b1⟩ := kk.2 p l' e R s m args below meth c _ _ cells slots Q arr cx ⟨r1, r2, r3, r4⟩ hH1 ⟨by simp; exact hS.1, fun q g1 g2 => by
      rw [oq q (fun e => g2 (by rw [e]; exact Nat.le_add_right _ _))]
      exact hS.2.1 q g1 g2, fun q hq => by
      rcases List.mem_append.mp hq with h | h
      · exact hS.2.2 q h
      · obtain ⟨z, -, hz⟩ := List.mem_map.mp h
        rw [← hz]
        exact Nat.le_add_right _ _⟩ hl kt _ hheap X'
  exact ⟨t, step t a1, b1⟩
end SEM8
