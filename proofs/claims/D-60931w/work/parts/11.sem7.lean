section SEM7
variable {g : GG} {d : Nat} {Y Y' : YY} {pc : Nat} {ls st : List AV} {o : AV × MM} {M M1 : MM} {r : AV} {as : List AV}
theorem Nw_warm {w : Cond} {s U : State} (hw : lwN w = true) (hW : s.WarmedH U.vm) (h : va_Nw w s) : va_Nw w U := by
  unfold lwN at hw
  split at hw
  · exact va_Nw.warmF hW h
  · exact va_Nw.warmM hW h
  · exact va_Nw.warmD hW h
  · cases hw
theorem EnvOK.warm {s U : State} (hW : s.WarmedH U.vm) (h : EnvOK g s) : EnvOK g U :=
  ⟨va_K.moved hW.alike h.1, fun w h1 h2 => Nw_warm h2 hW (h.2.1 w h1 h2), fun t h1 h2 => va_AO.moved hW.alike (h.2.2.1 t h1 h2), h.2.2.2⟩
theorem Nw_same {w : Cond} {s U : State} (hw : lwN w = true) (e : s.vm = U.vm) (h : va_Nw w s) : va_Nw w U := by
  unfold lwN at hw
  split at hw
  · exact va_Nw.same rfl e h
  · exact va_Nw.same rfl e h
  · exact va_Nw.same rfl e h
  · cases hw
theorem PcS_blind : FrameBlind (va_Pc (as.map (cv g)) (PcS g M)) := by
  intro a U f mk q
  obtain ⟨q0, q1, ⟨q2, q3, q4, q5⟩, q6⟩ := q
  exact ⟨q0, q1, ⟨va_K.moved (u := U) (U := U.calling f mk a) (Vm.Alike.refl U.vm) q2, fun w h1 h2 => Nw_same (s := U) (U := U.calling f mk a) h2 rfl (q3 w h1 h2), fun t h1 h2 => va_AO.moved (u := U) (U := U.calling f mk a) (Vm.Alike.refl U.vm) (q4 t h1 h2), q5⟩, va_X.moved (u := U) (U := U.calling f mk a) (Vm.Alike.refl U.vm) q6⟩
theorem PcS_of {p : Program} {s U : State} {m : MethodId} {args : Array Value} {meth : Method} {c : Code} {H : Heap} {locs : List Loc} (cx : Cx g Y p s m args meth c) (hH : Hold g M H) (hS : va_S (gA g) s.heap H locs) (hU : U.heap = H) (hW : s.WarmedH U.vm) : PcS g M U := by
  refine ⟨by rw [hU]; exact hH, cx.2.2.2.2.2.1.warm hW, ?_⟩
  refine va_X.moved hW.alike ?_
  rw [hU]
  have hsb := cx.2.2.2.2.2.1.2.2.2
  exact cx.2.2.2.2.2.2.1.kept (hS.2.1 _ (Nat.lt_of_lt_of_le hsb cx.2.2.2.2.2.2.2.1) (not_gA (s := s) hsb))
/-- what comes onto the stack behind a call -/
def psh (r : AV) (st : List AV) : List AV := if r.1 = 9 then st else r :: st
theorem S_callG {st0 : List AV} {a : Array Value}
    (hm : M.2.2.2.1 ≤ M1.2.2.2.1 ∧ M.2.2.2.2 ≤ M1.2.2.2.2)
    (hrun : ∀ (p : Program) (l : Launch) (e : Env) (R : Room) (s : State) (m : MethodId) (args : Array Value) (below : List Frame) (meth : Method) (c : Code) (H : Heap) (locs : List Loc) (cells slots : Nat) (arr : Array Slot), Cx g Y p s m args meth c → d ≤ R.frames → 64 * d ≤ R.locals → Hold g M H → va_S (gA g) s.heap H locs → arr.size = Y.2.2.1 → cells + (M1.2.2.2.1 - M.2.2.2.1) ≤ R.cells → slots + (M1.2.2.2.2 - M.2.2.2.2) ≤ R.slots →
      va_Run p l e R s m args below meth c H locs cells slots (M1.2.2.2.1 - M.2.2.2.1) (M1.2.2.2.2 - M.2.2.2.2) (F0 m pc arr (st0.map (cv g))) (st.map (cv g)) (QcS g r M1 a) (gA g))
    (kk : Sem g d Y (pc + 3) ls (psh r st) M1 o) : Sem g d Y pc ls st0 M o := by
  have k1 := kk.1
  refine ⟨⟨Nat.le_trans hm.1 k1.1, Nat.le_trans hm.2 k1.2⟩, ?_⟩
  intro p l e R s m args below meth c H locs cells slots Q arr cx hr hH hS hl kt
  obtain ⟨r1, r2, r3, r4⟩ := hr
  intro T hT X
  obtain ⟨v, st₀, t, T', L, h0, X', hL, e1, e2, ⟨⟨hv, hHt⟩, hz, hk⟩, sp⟩ := hrun p l e R s m args below meth c H locs cells slots arr cx r1 r2 hH hS hl.1 (by omega) (by omega) T hT X
  rw [h0] at hz hk
  have W1 := kk.2 p l e R s m args below meth c T'.heap (locs ++ L) (cells + (M1.2.2.2.1 - M.2.2.2.1)) (slots + (M1.2.2.2.2 - M.2.2.2.2)) Q arr cx ⟨r1, r2, by omega, by omega⟩ (by rw [e1]; exact hHt)
    ⟨Nat.le_trans hS.1 (by rw [e1]; exact hz), fun q h1 h2 => by rw [e1, hk q (Nat.lt_of_lt_of_le h1 hS.1) h2]; exact hS.2.1 q h1 h2, fun q hq => by
      rcases List.mem_append.mp hq with h | h
      · exact hS.2.2 q h
      · exact hL q h⟩ hl (fun pc' arr' H' locs' cells' slots' f1 f2 f3 f4 f5 => kt pc' arr' H' locs' cells' slots' (by omega) (by omega) f3 f4 f5)
  have hvs : v.toList ++ st.map (cv g) = (psh r st).map (cv g) := by
    have hv' : v = (if r.1 = 9 then none else some (cv g r)) := Outcome.returned.inj hv
    rw [hv']
    unfold psh
    split <;> rfl
  obtain ⟨t2, a1, b1⟩ := W1 T' rfl X'
  refine ⟨t2, sp t2 ?_, b1⟩
  show Steps p.tables e below (T'.setTop { F0 m pc arr (st0.map (cv g)) with pc := pc + 3, stack := v.toList ++ st.map (cv g) }) t2
  rw [hvs]
  exact a1
/-- what is known of a method: its name, class, code word, that its class is initialised -/
def YO (Y : YY) : Prop := plainName Y.2.2.2.1.cls = true ∧ Y.2.2.2.1.cls = Y.1 ∧ Y.2.2.1 ≤ 44 ∧ Cond.code Y.2.2.2.1 Y.2.1 Y.2.2.1 Y.2.2.2.2 ∈ lw_all ∧ Cond.initialized Y.2.2.2.1.cls ∈ lw_all ∧ Y.2.2.2.1.cls ≠ "java/lang/invoke/MethodHandle" ∧ Y.2.2.2.1.cls ≠ "java/lang/invoke/VarHandle"
/-- its parameters -/
def YN (Y : YY) (n : Nat) : Prop := (parseMethodDescriptor Y.2.2.2.1.desc).map (fun d => d.parameters.length) = some n
theorem nestLink {s : State} {own : String} {idx : Nat} {y : MethodName} {host : String} (hE : EnvOK g s) (h : Cond.methodLinkNest own idx y host ∈ lw_tbl) : va_Nw (.methodLinkNest own idx y host) s := hE.2.1 _ h rfl
def ML (own : String) (idx : Nat) (y : MethodName) : Prop := Cond.methodLink own idx y ∈ lw_all ∨ ∃ host, Cond.methodLinkNest own idx y host ∈ lw_tbl
theorem S_invS {idx n : Nat} (hY : YO Y') (hN : YN Y' n) (hL : ML Y.1 idx Y'.2.2.2.1) (hst : Cond.static Y'.2.2.2.1 ∈ lw_all) (hd : decode Y.2.1 pc = .ok (.invokestatic idx, 3)) (hn : as.length = n) (has : ∀ v ∈ as, v.1 < 2) (hlen : as.length ≤ Y'.2.2.1) (hcat : ((st.map (cv g)).map fun v => v.category).sum ≤ 8) (hc : Sem g (d - 1) Y' 0 (ini Y' as) [] M (r, M1)) (hd1 : 1 ≤ d) (kk : Sem g d Y (pc + 3) ls (psh r st) M1 o) : Sem g d Y pc ls (as.reverse ++ st) M o := by
  obtain ⟨y1, y2, y3, y4, y5, y6, y7⟩ := hY
  refine S_callG (a := (as.map (cv g)).toArray) hc.1 (fun p l e R s m args below meth c H locs cells slots arr cx hf hl hH hS hsz h1 h2 => ?_) kk
  have hts := cx.2.2.2.2.1
  have hM := met_of_sem (l := l) y1 y2 has hlen hc
  have hR : (d - 1) + 1 ≤ R.frames ∧ 8 + (Y'.2.2.1 + 11) + 64 * (d - 1) ≤ R.locals := ⟨by omega, by omega⟩
  have hstk : (F0 m pc arr ((as.reverse ++ st).map (cv g))).stack = (as.map (cv g)).reverse ++ st.map (cv g) := by
    show (as.reverse ++ st).map (cv g) = _
    rw [List.map_append, List.map_reverse]
  rcases hL with hL | ⟨host, hL⟩
  · exact va_runS (nL := Y.2.2.1) ⟨cx.1, cx.2.1, cx.2.2.1, cx.2.2.2.1, hts⟩ hM (va_cwS n hts (lw_S hL hst y5 y4) rfl rfl rfl ⟨y6, y7, hN⟩ hR) ⟨PcS_blind, fun U hU hW => ⟨rfl, PcS_of cx hH hS hU hW⟩⟩ rfl (by rw [List.length_map]; exact hn) hsz hstk (lv_room hcat) hd ⟨h1, h2⟩
  · exact va_runSN (nL := Y.2.2.1) ⟨cx.1, cx.2.1, cx.2.2.1, cx.2.2.2.1, hts⟩ hM ⟨va_cnB n hts (lw_meth y4) rfl rfl rfl (nestLink cx.2.2.2.2.2.1 hL) (hts _ y5) ⟨y6, y7, hN⟩ hR, hts _ hst, trivial⟩ ⟨PcS_blind, fun U hU hW => ⟨rfl, PcS_of cx hH hS hU hW⟩⟩ rfl (by rw [List.length_map]; exact hn) hsz hstk (lv_room hcat) hd ⟨h1, h2⟩
theorem S_invI {idx n a : Nat} (hY : YO Y') (hN : YN Y' n) (hL : ML Y.1 idx Y'.2.2.2.1) (hret : Y'.2.2.2.2 = none) (hin : Cond.instanceMethod Y'.2.2.2.1 ∈ lw_all) (hnm : Y'.2.2.2.1.name = "<init>") (hd : decode Y.2.1 pc = .ok (.invokespecial idx, 3)) (hn : as.length = n) (has : ∀ v ∈ as, v.1 < 2) (hlen : as.length + 1 ≤ Y'.2.2.1) (hcat : ((st.map (cv g)).map fun v => v.category).sum ≤ 8) (hc : Sem g (d - 1) Y' 0 (ini Y' (((1, (a : Int)) : AV) :: as)) [] M (r, M1)) (hd1 : 1 ≤ d) (kk : Sem g d Y (pc + 3) ls (psh r st) M1 o) : Sem g d Y pc ls (as.reverse ++ ((1, (a : Int)) : AV) :: st) M o := by
  obtain ⟨y1, y2, y3, y4, y5, y6, y7⟩ := hY
  refine S_callG (a := ((((1, (a : Int)) : AV) :: as).map (cv g)).toArray) hc.1 (fun p l e R s m args below meth c H locs cells slots arr cx hf hl hH hS hsz h1 h2 => ?_) kk
  have hts := cx.2.2.2.2.1
  have has' : ∀ v ∈ ((1, (a : Int)) : AV) :: as, v.1 < 2 := by
    intro v hv
    rcases List.mem_cons.mp hv with e | e
    · rw [e]; exact Nat.le_of_ble_eq_true rfl
    · exact has v e
  have hM := met_of_sem (l := l) y1 y2 has' hlen hc
  have hR : (d - 1) + 1 ≤ R.frames ∧ 8 + (Y'.2.2.1 + 11) + 64 * (d - 1) ≤ R.locals := ⟨by omega, by omega⟩
  have hstk : (F0 m pc arr ((as.reverse ++ ((1, (a : Int)) : AV) :: st).map (cv g))).stack = (as.map (cv g)).reverse ++ .ref (gb g + a) :: st.map (cv g) := by
    show (as.reverse ++ ((1, (a : Int)) : AV) :: st).map (cv g) = _
    rw [List.map_append, List.map_reverse, List.map_cons, cv1, cvr_nat]
    rfl
  have hargs : (((1, (a : Int)) : AV) :: as).map (cv g) = .ref (gb g + a) :: as.map (cv g) := by
    rw [List.map_cons, cv1, cvr_nat]
    rfl
  rw [hargs] at hM ⊢
  rw [hret] at hM y4
  rcases hL with hL | ⟨host, hL⟩
  · exact va_runI (nL := Y.2.2.1) ⟨cx.1, cx.2.1, cx.2.2.1, cx.2.2.2.1, hts⟩ hM (cwI n hts (lw_meth y4) rfl rfl rfl (hts _ y5) (hts _ hL) (hts _ hin) hnm ⟨y6, y7, hN⟩ hR) ⟨by rw [← hargs]; exact PcS_blind, fun U hU hW => ⟨rfl, PcS_of cx hH hS hU hW⟩⟩ rfl (by rw [List.length_map]; exact hn) hsz hstk (lv_room hcat) hd ⟨h1, h2⟩
  · exact va_runIN (nL := Y.2.2.1) ⟨cx.1, cx.2.1, cx.2.2.1, cx.2.2.2.1, hts⟩ hM ⟨va_cnB n hts (lw_meth y4) rfl rfl rfl (nestLink cx.2.2.2.2.2.1 hL) (hts _ y5) ⟨y6, y7, hN⟩ hR, hnm, hts _ hin⟩ ⟨by rw [← hargs]; exact PcS_blind, fun U hU hW => ⟨rfl, PcS_of cx hH hS hU hW⟩⟩ rfl (by rw [List.length_map]; exact hn) hsz hstk (lv_room hcat) hd ⟨h1, h2⟩
theorem rcv_of {s : State} {H : Heap} {a ci l : Nat} {q : vw_C} (hE : EnvOK g s) (hH : Hold g M H) (hK : M.2.2.1 a = (ci, l)) (hci : ci < 63) (hc : vwCl[ci]? = some q) : ∃ cell : Cell, H[gb g + a]? = some cell ∧ cell.vm.isStatics = false ∧ s.vm.findClass q.1 = some cell.cls := by
  have hlt : a < M.2.2.2.1 := hH.lt (by rw [hK]; show ci ≠ 63; omega)
  have he := wso_get (g := g) hlt
  rw [ce_obj (ci := ci) (l := l) hK (by omega)] at he
  exact va_recv hE.1 hH.2.1 hc he
theorem S_invV {idx n a ci l : Nat} (hY : YO Y') (hN : YN Y' n) (hL : ML Y.1 idx Y'.2.2.2.1) (hin : Cond.instanceMethod Y'.2.2.2.1 ∈ lw_all) (hsel : Cond.selects Y'.2.2.2.1.cls Y'.2.2.2.1 Y'.2.2.2.1 ∈ lw_all) (hd : decode Y.2.1 pc = .ok (.invokevirtual idx, 3)) (hK : M.2.2.1 a = (ci, l)) (hci : ci < 63) (hcl : (vwCl[ci]?).map (·.1) = some Y'.1) (hn : as.length = n) (has : ∀ v ∈ as, v.1 < 2) (hlen : as.length + 1 ≤ Y'.2.2.1) (hcat : ((st.map (cv g)).map fun v => v.category).sum ≤ 8) (hc : Sem g (d - 1) Y' 0 (ini Y' (((1, (a : Int)) : AV) :: as)) [] M (r, M1)) (hd1 : 1 ≤ d) (kk : Sem g d Y (pc + 3) ls (psh r st) M1 o) : Sem g d Y pc ls (as.reverse ++ ((1, (a : Int)) : AV) :: st) M o := by
  obtain ⟨y1, y2, y3, y4, y5, y6, y7⟩ := hY
  refine S_callG (a := ((((1, (a : Int)) : AV) :: as).map (cv g)).toArray) hc.1 (fun p l' e R s m args below meth c H locs cells slots arr cx hf hl hH hS hsz h1 h2 => ?_) kk
  have hts := cx.2.2.2.2.1
  have has' : ∀ v ∈ ((1, (a : Int)) : AV) :: as, v.1 < 2 := by
    intro v hv
    rcases List.mem_cons.mp hv with e | e
    · rw [e]; exact Nat.le_of_ble_eq_true rfl
    · exact has v e
  have hM := met_of_sem (l := l') y1 y2 has' hlen hc
  have hR : (d - 1) + 1 ≤ R.frames ∧ 8 + (Y'.2.2.1 + 11) + 64 * (d - 1) ≤ R.locals := ⟨by omega, by omega⟩
  have hstk : (F0 m pc arr ((as.reverse ++ ((1, (a : Int)) : AV) :: st).map (cv g))).stack = (as.map (cv g)).reverse ++ .ref (gb g + a) :: st.map (cv g) := by
    show (as.reverse ++ ((1, (a : Int)) : AV) :: st).map (cv g) = _
    rw [List.map_append, List.map_reverse, List.map_cons, cv1, cvr_nat]
    rfl
  have hargs : (((1, (a : Int)) : AV) :: as).map (cv g) = .ref (gb g + a) :: as.map (cv g) := by
    rw [List.map_cons, cv1, cvr_nat]
    rfl
  rw [hargs] at hM ⊢
  have hrecv : ∃ cell : Cell, H[gb g + a]? = some cell ∧ cell.vm.isStatics = false ∧ s.vm.findClass Y'.2.2.2.1.cls = some cell.cls := by
    cases hq : vwCl[ci]? with
    | none => rw [hq] at hcl; cases hcl
    | some q =>
      rw [hq] at hcl
      have hq1 : q.1 = Y'.1 := Option.some.inj hcl
      have := rcv_of cx.2.2.2.2.2.1 hH hK hci hq
      rw [hq1, ← y2] at this
      exact this
  rcases hL with hL | ⟨host, hL⟩
  · exact va_runV (nL := Y.2.2.1) ⟨cx.1, cx.2.1, cx.2.2.1, cx.2.2.2.1, hts⟩ hM (cwV n hts (lw_V hL hin hsel y5 y4) rfl rfl rfl ⟨rfl, y6, y7, hN⟩ hR) ⟨by rw [← hargs]; exact PcS_blind, hrecv, fun U hU hW => ⟨rfl, PcS_of cx hH hS hU hW⟩⟩ rfl (by rw [List.length_map]; exact hn) hsz hstk (lv_room hcat) hd ⟨h1, h2⟩
  · exact va_runVN (nL := Y.2.2.1) ⟨cx.1, cx.2.1, cx.2.2.1, cx.2.2.2.1, hts⟩ hM ⟨va_cnB n hts (lw_meth y4) rfl rfl rfl (nestLink cx.2.2.2.2.2.1 hL) (hts _ y5) ⟨y6, y7, hN⟩ hR, hts _ hin, hts _ hsel⟩ ⟨by rw [← hargs]; exact PcS_blind, hrecv, fun U hU hW => ⟨rfl, PcS_of cx hH hS hU hW⟩⟩ rfl (by rw [List.length_map]; exact hn) hsz hstk (lv_room hcat) hd ⟨h1, h2⟩
end SEM7
