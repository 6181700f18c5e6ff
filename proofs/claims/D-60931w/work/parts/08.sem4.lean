section SEM4
variable {g : GG} {d : Nat} {Y : YY} {pc : Nat} {ls st : List AV} {o : AV × MM} {I Rf : Nat → Nat → Int} {K : Nat → Nat × Nat} {n u : Nat}
theorem tyo_get {t : Nat} (h : t < 14) : (tyo g)[t]? = some (gca g t, aty t) := by
  unfold tyo
  rw [List.getElem?_map, List.getElem?_range h]
  rfl
theorem arr_at {M : MM} {H : Heap} {a k l : Nat} (hH : Hold g M H) (hK : M.2.2.1 a = (k, l)) (hk : 64 ≤ k) : a < M.2.2.2.1 ∧ (wso g M)[a]? = some (gb g + a, .inl (gca g (k % 16), l, acon g M (k % 16) a)) := by
  have hlt : a < M.2.2.2.1 := hH.lt (by rw [hK]; show k ≠ 63; omega)
  refine ⟨hlt, ?_⟩
  rw [wso_get hlt, ce_arr hK hk]
theorem S_iald {a k l : Nat} {i : Int} (hK : K a = (k, l)) (hk : 64 ≤ k) (hk2 : k % 16 = 0) (h0 : 0 ≤ w32 i) (h1 : w32 i < l) (hd : decode Y.2.1 pc = .ok (.iaload, 1)) (kk : Sem g d Y (pc + 1) ls ((0, w32 (I a (w32 i).toNat)) :: st) (I, Rf, K, n, u) o) : Sem g d Y pc ls ((0, i) :: (1, (a : Int)) :: st) (I, Rf, K, n, u) o := by
  refine ⟨kk.1, ?_⟩
  intro p l' e R s m args below meth c H locs cells slots Q arr cx hr hH hS hl kt
  obtain ⟨hlt, he⟩ := arr_at (M := (I, Rf, K, n, u)) hH hK hk
  have W1 := kk.2 p l' e R s m args below meth c H locs cells slots Q arr cx hr hH hS hl kt
  rw [hk2] at he
  simp only [List.map_cons, cv1, cv0, cvr_nat, ofInt_w32] at W1 ⊢
  exact va_iald cx.1 cx.2.1 cx.2.2.2.2.2.1.1 hH.2.1 a 0 he (tyo_get (by decide)) (w32_in h0 h1) hd W1
theorem S_bald {a k l : Nat} {i : Int} (hK : K a = (k, l)) (hk : 64 ≤ k) (hk2 : k % 16 = 1) (h0 : 0 ≤ w32 i) (h1 : w32 i < l) (hd : decode Y.2.1 pc = .ok (.baload, 1)) (kk : Sem g d Y (pc + 1) ls ((0, sx8 (I a (w32 i).toNat)) :: st) (I, Rf, K, n, u) o) : Sem g d Y pc ls ((0, i) :: (1, (a : Int)) :: st) (I, Rf, K, n, u) o := by
  refine ⟨kk.1, ?_⟩
  intro p l' e R s m args below meth c H locs cells slots Q arr cx hr hH hS hl kt
  obtain ⟨hlt, he⟩ := arr_at (M := (I, Rf, K, n, u)) hH hK hk
  have W1 := kk.2 p l' e R s m args below meth c H locs cells slots Q arr cx hr hH hS hl kt
  rw [hk2] at he
  simp only [List.map_cons, cv1, cv0, cvr_nat, sx8, Int32.ofInt_toInt] at W1 ⊢
  exact va_bald cx.1 cx.2.1 cx.2.2.2.2.2.1.1 hH.2.1 a 1 he (tyo_get (by decide)) (w32_in h0 h1) hd W1
theorem S_zald {a k l : Nat} {i : Int} (hK : K a = (k, l)) (hk : 64 ≤ k) (hk2 : k % 16 = 2) (h0 : 0 ≤ w32 i) (h1 : w32 i < l) (hd : decode Y.2.1 pc = .ok (.baload, 1)) (kk : Sem g d Y (pc + 1) ls ((0, w32 (I a (w32 i).toNat)) :: st) (I, Rf, K, n, u) o) : Sem g d Y pc ls ((0, i) :: (1, (a : Int)) :: st) (I, Rf, K, n, u) o := by
  refine ⟨kk.1, ?_⟩
  intro p l' e R s m args below meth c H locs cells slots Q arr cx hr hH hS hl kt
  obtain ⟨hlt, he⟩ := arr_at (M := (I, Rf, K, n, u)) hH hK hk
  have W1 := kk.2 p l' e R s m args below meth c H locs cells slots Q arr cx hr hH hS hl kt
  rw [hk2] at he
  simp only [List.map_cons, cv1, cv0, cvr_nat, ofInt_w32] at W1 ⊢
  exact va_zald cx.1 cx.2.1 cx.2.2.2.2.2.1.1 hH.2.1 a 2 he (tyo_get (by decide)) (w32_in h0 h1) hd W1
theorem aty_obj0 : ∀ t, t < 14 → 3 ≤ t → aty t = .object (anm t) := by decide
theorem aty_obj (t : Nat) (h1 : 3 ≤ t) (h2 : t < 14) : aty t = .object (anm t) := aty_obj0 t h2 h1
theorem S_aald {a k l : Nat} {i : Int} (hK : K a = (k, l)) (hk : 64 ≤ k) (hk2 : 3 ≤ k % 16 ∧ k % 16 < 14) (h0 : 0 ≤ w32 i) (h1 : w32 i < l) (hd : decode Y.2.1 pc = .ok (.aaload, 1)) (kk : Sem g d Y (pc + 1) ls ((1, Rf a (w32 i).toNat) :: st) (I, Rf, K, n, u) o) : Sem g d Y pc ls ((0, i) :: (1, (a : Int)) :: st) (I, Rf, K, n, u) o := by
  refine ⟨kk.1, ?_⟩
  intro p l' e R s m args below meth c H locs cells slots Q arr cx hr hH hS hl kt
  obtain ⟨hlt, he⟩ := arr_at (M := (I, Rf, K, n, u)) hH hK hk
  have W1 := kk.2 p l' e R s m args below meth c H locs cells slots Q arr cx hr hH hS hl kt
  unfold acon at he
  rw [if_neg (by omega), if_neg (by omega)] at he
  simp only [List.map_cons, cv1, cv0, cvr_nat] at W1 ⊢
  exact va_aldq cx.1 cx.2.1 cx.2.2.2.2.2.1.1 hH.2.1 a (k % 16) he (by rw [tyo_get hk2.2, aty_obj _ hk2.1 hk2.2]) (w32_in h0 h1) hd W1
theorem S_alen {a k l : Nat} (hK : K a = (k, l)) (hk : 64 ≤ k) (hk2 : k % 16 < 14) (hd : decode Y.2.1 pc = .ok (.arraylength, 1)) (kk : Sem g d Y (pc + 1) ls ((0, (l : Int)) :: st) (I, Rf, K, n, u) o) : Sem g d Y pc ls ((1, (a : Int)) :: st) (I, Rf, K, n, u) o := by
  refine ⟨kk.1, ?_⟩
  intro p l' e R s m args below meth c H locs cells slots Q arr cx hr hH hS hl kt
  obtain ⟨hlt, he⟩ := arr_at (M := (I, Rf, K, n, u)) hH hK hk
  have W1 := kk.2 p l' e R s m args below meth c H locs cells slots Q arr cx hr hH hS hl kt
  simp only [List.map_cons, cv1, cv0, cvr_nat] at W1 ⊢
  exact va_alen cx.1 cx.2.1 cx.2.2.2.2.2.1.1 hH.2.1 a (k % 16) he (tyo_get hk2) (show Int32.ofNat l = Int32.ofInt (l : Int) from Int32.ofInt_eq_ofNat.symm) hd W1
theorem not_gA {s : State} (h : gs g < gb g) : ¬ gA g (gs g) := by show ¬ gb g ≤ gs g; omega
theorem cvr_scr : cvr g (-2) = some (gs g) := by simp [cvr]
theorem S_sald {i : Int} {M : MM} (h0 : 0 ≤ w32 i) (h1 : w32 i < gL g) (hd : decode Y.2.1 pc = .ok (.iaload, 1)) (kk : Sem g d Y (pc + 1) ls ((0, (gxs g (w32 i).toNat).toInt) :: st) M o) : Sem g d Y pc ls ((0, i) :: (1, -2) :: st) M o := by
  refine ⟨kk.1, ?_⟩
  intro p l' e R s m args below meth c H locs cells slots Q arr cx hr hH hS hl kt
  have W1 := kk.2 p l' e R s m args below meth c H locs cells slots Q arr cx hr hH hS hl kt
  simp only [List.map_cons, cv1, cv0, cvr_scr, Int32.ofInt_toInt] at W1 ⊢
  have hsb := cx.2.2.2.2.2.1.2.2.2
  exact va_sld cx.1 cx.2.1 cx.2.2.2.2.2.2.1 (Nat.lt_of_lt_of_le hsb cx.2.2.2.2.2.2.2.1) (not_gA (s := s) hsb) hS (w32_in h0 h1) hd W1
theorem S_salen {M : MM} (hd : decode Y.2.1 pc = .ok (.arraylength, 1)) (kk : Sem g d Y (pc + 1) ls ((0, (gL g : Int)) :: st) M o) : Sem g d Y pc ls ((1, -2) :: st) M o := by
  refine ⟨kk.1, ?_⟩
  intro p l' e R s m args below meth c H locs cells slots Q arr cx hr hH hS hl kt
  have W1 := kk.2 p l' e R s m args below meth c H locs cells slots Q arr cx hr hH hS hl kt
  simp only [List.map_cons, cv1, cv0, cvr_scr, Int32.ofInt_eq_ofNat] at W1 ⊢
  have hsb := cx.2.2.2.2.2.1.2.2.2
  exact va_slen cx.1 cx.2.1 cx.2.2.2.2.2.2.1 (Nat.lt_of_lt_of_le hsb cx.2.2.2.2.2.2.2.1) (not_gA (s := s) hsb) hS hd W1
/-- behind a store into one cell: the heap holds the new memory -/
theorem Hold.upd {M M' : MM} {H H1 : Heap} {a : Nat} (hH : Hold g M H) (ha : a < M.2.2.2.1) (hn : M'.2.2.2.1 = M.2.2.2.1) (hK : M'.2.2.1 = M.2.2.1) (hI : ∀ b j, b ≠ a → M'.1 b j = M.1 b j) (hR : ∀ b j, b ≠ a → M'.2.1 b j = M.2.1 b j) (h1 : va_at (gD g) vwCl (gb g + a, ce g M' a) H1) (hz : H1.size = H.size) (ho : ∀ q : Nat, q ≠ gb g + a → H1[q]? = H[q]?) : Hold g M' H1 := by
  have hw : (wso g M).set a (gb g + a, ce g M' a) = wso g M' := wso_set ha hn rfl (fun b hb => ce_cong hK (fun j => hI b j hb) (fun j => hR b j hb))
  refine ⟨by rw [hz, hn]; exact hH.1, ?_, by rw [hn, hK]; exact hH.2.2⟩
  rw [← hw]
  exact hH.2.1.set wso_D (wso_get ha) h1 ho
theorem S_astG {a k l : Nat} {i : Int} {st0 : List AV} {M M' : MM} (hM : M.2.2.1 a = (k, l)) (hk : 64 ≤ k) (hn : M'.2.2.2.1 = M.2.2.2.1) (hu : M'.2.2.2.2 = M.2.2.2.2) (hK : M'.2.2.1 = M.2.2.1) (hI : ∀ b j, b ≠ a → M'.1 b j = M.1 b j) (hR : ∀ b j, b ≠ a → M'.2.1 b j = M.2.1 b j)
    (hh : ∀ (p : Program) (l' : Launch) (e : Env) (R : Room) (s : State) (m : MethodId) (args : Array Value) (below : List Frame) (meth : Method) (c : Code) (H : Heap) (locs : List Loc) (cells slots : Nat) (Q : State → Prop) (arr : Array Slot), Cx g Y p s m args meth c → Hold g M H → H[gb g + a]? = some (vp_cell (gca g (k % 16)) (l, acon g M (k % 16) a)) → va_S (gA g) s.heap H locs →
      (∀ (H1 : Heap) (locs1 : List Loc), H1[gb g + a]? = some (vp_cell (gca g (k % 16)) (l, acon g M' (k % 16) a)) → H1.size = H.size → (∀ q : Nat, q ≠ gb g + a → H1[q]? = H[q]?) → va_S (gA g) s.heap H1 locs1 → W p l' e R s m args below meth c H1 locs1 cells slots Q (F0 m (pc + 1) arr (st.map (cv g)))) →
      W p l' e R s m args below meth c H locs cells slots Q (F0 m pc arr (st0.map (cv g))))
    (kk : Sem g d Y (pc + 1) ls st M' o) : Sem g d Y pc ls st0 M o := by
  refine ⟨by rw [← hn, ← hu]; exact kk.1, ?_⟩
  intro p l' e R s m args below meth c H locs cells slots Q arr cx hr hH hS hl kt
  obtain ⟨hlt, he⟩ := arr_at hH hM hk
  refine hh p l' e R s m args below meth c H locs cells slots Q arr cx hH (hH.2.1 a _ he) hS ?_
  intro H1 locs1 h1 hz ho hS1
  refine kk.2 p l' e R s m args below meth c H1 locs1 cells slots Q arr cx ⟨hr.1, hr.2.1, by rw [hn]; exact hr.2.2.1, by rw [hu]; exact hr.2.2.2⟩ (hH.upd hlt hn hK hI hR ?_ hz ho) hS1 hl ?_
  · rw [ce_arr (by rw [hK]; exact hM) hk]
    exact h1
  · intro pc' arr' H' locs' cells' slots' e1 e2 e3 e4 e5
    exact kt pc' arr' H' locs' cells' slots' (by rw [← hn]; exact e1) (by rw [← hu]; exact e2) e3 e4 e5
end SEM4
