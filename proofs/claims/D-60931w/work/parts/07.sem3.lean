section SEM3
variable {g : GG} {d : Nat} {Y : YY} {pc : Nat} {ls st : List AV} {o : AV × MM} {I Rf : Nat → Nat → Int} {K : Nat → Nat × Nat} {n u : Nat}
def st2 (f : Nat → Nat → Int) (a i : Nat) (z : Int) : Nat → Nat → Int := fun b j => if b = a ∧ j = i then z else f b j
theorem st2_same {f : Nat → Nat → Int} {a i : Nat} {z : Int} : st2 f a i z a i = z := by simp [st2]
theorem st2_ne {f : Nat → Nat → Int} {a i b j : Nat} {z : Int} (h : ¬ (b = a ∧ j = i)) : st2 f a i z b j = f b j := if_neg h
theorem wso_get {M : MM} {a : Nat} (h : a < M.2.2.2.1) : (wso g M)[a]? = some (gb g + a, ce g M a) := by
  unfold wso
  rw [List.getElem?_map, List.getElem?_range h]
  rfl
theorem wso_D {M : MM} : va_D (gA g) (wso g M) := by
  have hl : ∀ (i : Nat) (p : Nat × va_E), (wso g M)[i]? = some p → p.1 = gb g + i := by
    intro i p h
    unfold wso at h
    rw [List.getElem?_map] at h
    cases hr : (List.range M.2.2.2.1)[i]? with
    | none => rw [hr] at h; cases h
    | some j =>
      rw [hr] at h
      have : j = i := by
        have h2 := List.getElem?_eq_some_iff.mp hr
        obtain ⟨h3, h4⟩ := h2
        rw [List.getElem_range] at h4
        exact h4.symm
      subst this
      cases h
      rfl
  refine ⟨fun i j p q h1 h2 h3 => ?_, fun k q h => ?_⟩
  · have e1 := hl i p h1
    have e2 := hl j q h2
    omega
  · have e1 := hl k q h
    show gb g ≤ q.1
    omega
theorem Hold.lt {M : MM} {H : Heap} (h : Hold g M H) {a : Nat} (ha : (M.2.2.1 a).1 ≠ 63) : a < M.2.2.2.1 := Nat.not_le.mp fun q => ha (h.2.2 a q)
theorem cvr_nat (a : Nat) : cvr g (a : Int) = some (gb g + a) := by
  unfold cvr
  rw [if_neg (by omega), if_neg (by omega)]
  rfl
theorem cvr_nn {z : Int} (h : 0 ≤ z) : cvr g z = some (gb g + z.toNat) := by
  unfold cvr
  rw [if_neg (by omega), if_neg (by omega)]
theorem ce_obj {M : MM} {a ci l : Nat} (h : M.2.2.1 a = (ci, l)) (hc : ci < 64) : ce g M a = .inr (ci, fvs g M ci a) := by
  unfold ce
  rw [h, if_pos hc]
theorem ce_arr {M : MM} {a k l : Nat} (h : M.2.2.1 a = (k, l)) (hc : 64 ≤ k) : ce g M a = .inl (gca g (k % 16), l, acon g M (k % 16) a) := by
  unfold ce
  rw [h, if_neg (by show ¬ k < 64; omega)]
theorem fvs_get {M : MM} {ci a k : Nat} (h : k < nfl ci) : (fvs g M ci a)[k]? = some (cv g (ftag ci k, rdv M (ftag ci k) a k)) := by
  unfold fvs
  rw [List.getElem?_map, List.getElem?_range h]
  rfl
/-- a link of the class own to the field k of the class number ci -/
def FL (own : String) (idx ci k : Nat) : Prop := ∃ (C : String) (T : u_T) (N : Nat), vwCl[ci]? = some (C, T, N) ∧ N = nfl ci ∧ k < N ∧ ci < 63 ∧ (∀ w ∈ u_ws C T N, w ∈ lw_all) ∧
  (Cond.fieldLink own idx (T k).1 (T k).2.1 (T k).2.2.1 ∈ lw_all ∨ ∃ host, Cond.fieldLinkNest own idx (T k).1 (T k).2.1 (T k).2.2.1 host ∈ lw_tbl)
/-- what a store into that field asks besides: its type, that it is not final or that own is its class and this is its constructor -/
def FP (own : String) (idx ci k : Nat) (y : String) (ty : FieldType) : Prop := ∃ (C : String) (T : u_T) (N : Nat) (ty0 : Nat → FieldType), vwCl[ci]? = some (C, T, N) ∧ (∀ k, k < N → parseFieldDescriptor (T k).2.2.1 = some (ty0 k)) ∧ (∀ a, a < N → ∀ b, b < N → a ≠ b → (T a).2.1 ≠ (T b).2.1) ∧ ty0 k = ty ∧ ((T k).2.2.2 = false ∨ ((T k).2.2.2 = true ∧ y = "<init>" ∧ (T k).1 = own ∧ Cond.fieldLink own idx (T k).1 (T k).2.1 (T k).2.2.1 ∈ lw_all))
theorem S_get {idx ci k a l : Nat} (hL : FL Y.1 idx ci k) (hd : decode Y.2.1 pc = .ok (.getfield idx, 3)) (hK : K a = (ci, l)) (kk : Sem g d Y (pc + 3) ls ((ftag ci k, rdv (I, Rf, K, n, u) (ftag ci k) a k) :: st) (I, Rf, K, n, u) o) : Sem g d Y pc ls ((1, (a : Int)) :: st) (I, Rf, K, n, u) o := by
  refine ⟨kk.1, ?_⟩
  intro p l' e R s m args below meth c H locs cells slots Q arr cx hr hH hS hl kt
  obtain ⟨C, T, N, hc, hN, hk, hci, hin, hlink⟩ := hL
  have hlt : a < n := hH.lt (M := (I, Rf, K, n, u)) (by show (K a).1 ≠ 63; rw [hK]; show ci ≠ 63; omega)
  have he := wso_get (g := g) (M := (I, Rf, K, n, u)) hlt
  rw [ce_obj (ci := ci) (l := l) hK (by omega)] at he
  have hv := fvs_get (g := g) (M := (I, Rf, K, n, u)) (a := a) (hN ▸ hk)
  have W1 := kk.2 p l' e R s m args below meth c H locs cells slots Q arr cx hr hH hS hl kt
  simp only [List.map_cons, cv1, cvr_nat] at W1 ⊢
  rcases hlink with hlink | ⟨host, hlink⟩
  · exact va_get cx.1 cx.2.1 cx.2.2.2.2.1 hin cx.2.2.2.1 cx.2.2.2.2.2.1.1 hH.2.1 a he hc k hk (cx.2.2.2.2.1 _ hlink) (fun x h => h) hv hd W1
  · exact va_getN cx.1 cx.2.1 cx.2.2.2.2.1 hin cx.2.2.2.1 cx.2.2.2.2.2.1.1 hH.2.1 a he hc k hk (va_Nw.use rfl (cx.2.2.2.2.2.1.2.1 _ hlink rfl)) (fun x h => h) hv hd W1
theorem rdv_st2 {ci k a b j : Nat} {t t' : Nat} {z : Int} (h : ¬ (b = a ∧ j = k)) : rdv (st2 I a k z, Rf, K, n, u) t' b j = rdv (I, Rf, K, n, u) t' b j := by
  unfold rdv
  simp only [st2_ne h]
theorem rdv_st2R {k a b j : Nat} {t' : Nat} {z : Int} (h : ¬ (b = a ∧ j = k)) : rdv (I, st2 Rf a k z, K, n, u) t' b j = rdv (I, Rf, K, n, u) t' b j := by
  unfold rdv
  simp only [st2_ne h]
theorem wso_set {M M' : MM} {a : Nat} {e : va_E} (ha : a < M.2.2.2.1) (hn : M'.2.2.2.1 = M.2.2.2.1) (h1 : ce g M' a = e) (h2 : ∀ b, b ≠ a → ce g M' b = ce g M b) : (wso g M).set a (gb g + a, e) = wso g M' := by
  apply List.ext_getElem?
  intro i
  by_cases hi : i < M.2.2.2.1
  · by_cases hia : i = a
    · subst hia
      rw [List.getElem?_set_self (by unfold wso; rw [List.length_map, List.length_range]; exact ha), wso_get (by rw [hn]; exact ha), h1]
    · rw [List.getElem?_set_ne (Ne.symm hia), wso_get hi, wso_get (by rw [hn]; exact hi), h2 i hia]
  · rw [List.getElem?_eq_none (by rw [List.length_set]; unfold wso; rw [List.length_map, List.length_range]; omega), List.getElem?_eq_none (by unfold wso; rw [List.length_map, List.length_range, hn]; omega)]
theorem fvs_set {M M' : MM} {ci a k : Nat} {v : Value} (hk : k < nfl ci) (h1 : cv g (ftag ci k, rdv M' (ftag ci k) a k) = v) (h2 : ∀ j, j ≠ k → rdv M' (ftag ci j) a j = rdv M (ftag ci j) a j) : (fvs g M ci a).set k v = fvs g M' ci a := by
  apply List.ext_getElem?
  intro i
  have hlen : (fvs g M ci a).length = nfl ci := by unfold fvs; rw [List.length_map, List.length_range]
  by_cases hi : i < nfl ci
  · by_cases hik : i = k
    · subst hik
      rw [List.getElem?_set_self (by rw [hlen]; exact hk), fvs_get hk, h1]
    · rw [List.getElem?_set_ne (Ne.symm hik), fvs_get hi, fvs_get hi, h2 i hik]
  · rw [List.getElem?_eq_none (by rw [List.length_set, hlen]; omega), List.getElem?_eq_none (by unfold fvs; rw [List.length_map, List.length_range]; omega)]
theorem ce_cong {M M' : MM} {b : Nat} (hK : M'.2.2.1 = M.2.2.1) (hI : ∀ j, M'.1 b j = M.1 b j) (hR : ∀ j, M'.2.1 b j = M.2.1 b j) : ce g M' b = ce g M b := by
  unfold ce fvs acon rdv
  simp only [hK, hI, hR]
theorem S_putG {idx ci k a l : Nat} {ty : FieldType} {v : AV} {M M' : MM} (hM : M.2.2.1 a = (ci, l)) (hL : FL Y.1 idx ci k) (hF : FP Y.1 idx ci k Y.2.2.2.1.name ty) (hd : decode Y.2.1 pc = .ok (.putfield idx, 3)) (hfit : fits ty (cv g v) = true) (hnar : narrow ty (cv g v) = cv g v)
    (hn : M'.2.2.2.1 = M.2.2.2.1) (hu : M'.2.2.2.2 = M.2.2.2.2) (hK : M'.2.2.1 = M.2.2.1) (hI : ∀ b j, ¬ (b = a ∧ j = k) → M'.1 b j = M.1 b j) (hR : ∀ b j, ¬ (b = a ∧ j = k) → M'.2.1 b j = M.2.1 b j) (hv : cv g (ftag ci k, rdv M' (ftag ci k) a k) = cv g v)
    (kk : Sem g d Y (pc + 3) ls st M' o) : Sem g d Y pc ls (v :: (1, (a : Int)) :: st) M o := by
  refine ⟨by rw [← hn, ← hu]; exact kk.1, ?_⟩
  intro p l' e R s m args below meth c H locs cells slots Q arr cx hr hH hS hl kt
  obtain ⟨C, T, N, hc, hN, hk, hci, hin, hlink⟩ := hL
  obtain ⟨C', T', N', ty0, hc', hty, hnm, hk0, hfin⟩ := hF
  have e0 := Option.some.inj (hc'.symm.trans hc)
  cases e0
  have hlt : a < M.2.2.2.1 := hH.lt (by rw [hM]; show ci ≠ 63; omega)
  have he := wso_get (g := g) hlt
  rw [ce_obj (ci := ci) (l := l) hM (by omega)] at he
  have hset : (fvs g M ci a).set k (cv g v) = fvs g M' ci a := fvs_set (hN ▸ hk) hv (fun j hj => by
    unfold rdv
    rw [hI a j (fun q => hj q.2), hR a j (fun q => hj q.2)])
  have hw : (wso g M).set a (gb g + a, .inr (ci, (fvs g M ci a).set k (cv g v))) = wso g M' := by
    refine wso_set hlt hn ?_ (fun b hb => ce_cong hK (fun j => hI b j (fun q => hb q.1)) (fun j => hR b j (fun q => hb q.1)))
    rw [ce_obj (ci := ci) (l := l) (by rw [hK]; exact hM) (by omega), hset]
  have hrd : parseFieldDescriptor (T k).2.2.1 = some ty := by rw [hty k hk, hk0]
  have hlen : k < (fvs g M ci a).length := by unfold fvs; rw [List.length_map, List.length_range]; exact hN ▸ hk
  have cont : ∀ (H1 : Heap) (locs1 : List Loc), va_P (gD g) vwCl ((wso g M).set a (gb g + a, .inr (ci, (fvs g M ci a).set k (cv g v)))) H1 → va_D (gA g) ((wso g M).set a (gb g + a, .inr (ci, (fvs g M ci a).set k (cv g v)))) → H1.size = H.size → va_S (gA g) s.heap H1 locs1 → W p l' e R s m args below meth c H1 locs1 cells slots Q (F0 m (pc + 3) arr (st.map (cv g))) := by
    intro H1 locs1 hP1 hD1 hz hS1
    rw [hw] at hP1
    refine kk.2 p l' e R s m args below meth c H1 locs1 cells slots Q arr cx ⟨hr.1, hr.2.1, by rw [hn]; exact hr.2.2.1, by rw [hu]; exact hr.2.2.2⟩ ⟨by rw [hz, hn]; exact hH.1, hP1, by rw [hn, hK]; exact hH.2.2⟩ hS1 hl ?_
    intro pc' arr' H' locs' cells' slots' e1 e2 e3 e4 e5
    exact kt pc' arr' H' locs' cells' slots' (by rw [← hn]; exact e1) (by rw [← hu]; exact e2) e3 e4 e5
  have hap := va_apart (own := Y.1) cx.2.2.2.2.1 hin ty0 hty hnm cx.2.2.2.2.2.1.1 hc
  obtain ⟨r, h1, cell, q1, q2, q3, q4⟩ := hH.2.1 a _ he
  have hrr : r = (C, T, N) := Option.some.inj (h1.symm.trans hc)
  subst hrr
  obtain ⟨hSl, hfc, kC, hkC, hkind⟩ := cx.2.2.2.2.2.1.1.1 ci _ hc
  obtain ⟨cf, kf, fi, f, hi, hsl⟩ := hSl k hk
  have hst := (u_facts hfc hkC (u_lays cx.2.2.2.2.1 hin hk) hi).1
  have hlay := cx.2.2.2.2.1 _ (hin _ (u_in_lay hk))
  unfold u_lay at hlay
  have hDD := wso_D (g := g) (M := M)
  have fini : ∀ H' : Heap, H'[gb g + a]? = some { cell with slots := cell.slots.setIfInBounds f.slot (cv g v) } → H'.size = H.size → (∀ q : Nat, q ≠ gb g + a → H'[q]? = H[q]?) → W p l' e R s m args below meth c H' (locs ++ [⟨gb g + a, f.slot⟩]) cells slots Q (F0 m (pc + 3) arr (st.map (cv g))) := by
    intro H' e1 e2 e3
    rw [hsl] at e1 ⊢
    exact cont H' _ (hH.2.1.set hDD he ⟨_, hc, t_OB.to (V := updV (vp_V (fvs g M ci a)) k (cv g v)) ⟨_, e1, q2, q3, t_set q4 hap hk (cv g v)⟩ (fun j _ => vp_updV_set hlen (cv g v) j)⟩ e3) (hDD.set he) e2 (hS.put e2 e3 (hDD.2 a _ he))
  simp only [List.map_cons, cv1, cvr_nat]
  rcases hfin with hfin | ⟨hfin, hinit, hdecl, hlink⟩
  · rw [if_neg (by rw [hfin]; decide)] at hlay
    have h6 := u_store hfc hkC hkind hlay hi hrd hnar hfit
    rcases hlink with hlink | ⟨host, hlink⟩
    · exact W.putK cx.1 cx.2.1 (f := f) ⟨cx.2.2.2.1, cx.2.2.2.2.1 _ hlink, ⟨_, _, _, hi⟩, hst⟩ (by rw [q2]; exact h6) q1 q3 (by rw [hsl]; exact k2_hasslot (q4 k hk)) rfl rfl hd fini
    · exact va_WputK cx.1 cx.2.1 (f := f) cx.2.2.2.1 (va_Nw.use rfl (cx.2.2.2.2.2.1.2.1 _ hlink rfl)) hi hst (by rw [q2]; exact h6) q1 q3 (by rw [hsl]; exact k2_hasslot (q4 k hk)) rfl rfl hd fini
  · rw [if_pos hfin] at hlay
    have hcf : m.cls = cf := by
      obtain ⟨_, _, c', _, _, _, -, -, hf', -, -, -, hown2, -⟩ := Cond.laysFinal_spec hlay
      have e1 : c' = cf := by have := hi.symm.trans hf'; simp at this; exact this.1.symm
      rw [hdecl] at hown2
      rw [← e1]; exact Option.some.inj (cx.2.2.2.1.symm.trans hown2)
    have h6 := u_fits hfc hkC hkind (Or.inr hlay) hi hrd hnar hfit
    · exact W.putFinK cx.1 cx.2.1 cx.2.2.2.1 (cx.2.2.2.2.1 _ hlink) hi hst hcf (cx.2.2.2.2.2.2.2.2 hinit) (by rw [q2]; exact h6) q1 q3 (by rw [hsl]; exact k2_hasslot (q4 k hk)) rfl rfl hd fini
theorem fits_ref {ty : FieldType} (hty : (∃ q, ty = .object q) ∨ ∃ q, ty = .array q) (z : Int) : fits ty (cv g (1, z)) = true ∧ narrow ty (cv g (1, z)) = cv g (1, z) := by
  rw [cv1]
  rcases hty with ⟨q, rfl⟩ | ⟨q, rfl⟩ <;> cases cvr g z <;> exact ⟨rfl, rfl⟩
theorem S_puti {idx ci k a l : Nat} {z : Int} (hL : FL Y.1 idx ci k) (hF : FP Y.1 idx ci k Y.2.2.2.1.name .int) (ht : ftag ci k = 0) (hd : decode Y.2.1 pc = .ok (.putfield idx, 3)) (hK : K a = (ci, l)) (kk : Sem g d Y (pc + 3) ls st (st2 I a k z, Rf, K, n, u) o) : Sem g d Y pc ls ((0, z) :: (1, (a : Int)) :: st) (I, Rf, K, n, u) o := by
  refine S_putG (M' := (st2 I a k z, Rf, K, n, u)) hK hL hF hd rfl rfl rfl rfl rfl (fun b j h => st2_ne h) (fun b j h => rfl) ?_ kk
  rw [ht]
  unfold rdv
  rw [if_neg (by decide), if_neg (by decide), cv0, cv0]
  show Value.int (Int32.ofInt (w32 (st2 I a k z a k))) = _
  rw [st2_same, ofInt_w32]
theorem S_putz {idx ci k a l : Nat} {z : Int} (hL : FL Y.1 idx ci k) (hF : FP Y.1 idx ci k Y.2.2.2.1.name .boolean) (ht : ftag ci k = 0) (hz : z = 0 ∨ z = 1) (hd : decode Y.2.1 pc = .ok (.putfield idx, 3)) (hK : K a = (ci, l)) (kk : Sem g d Y (pc + 3) ls st (st2 I a k z, Rf, K, n, u) o) : Sem g d Y pc ls ((0, z) :: (1, (a : Int)) :: st) (I, Rf, K, n, u) o := by
  refine S_putG (M' := (st2 I a k z, Rf, K, n, u)) hK hL hF hd (by rcases hz with rfl | rfl <;> rfl) (by rcases hz with rfl | rfl <;> rfl) rfl rfl rfl (fun b j h => st2_ne h) (fun b j h => rfl) ?_ kk
  rw [ht]
  unfold rdv
  rw [if_neg (by decide), if_neg (by decide), cv0, cv0]
  show Value.int (Int32.ofInt (w32 (st2 I a k z a k))) = _
  rw [st2_same, ofInt_w32]
theorem S_putl {idx ci k a l : Nat} {z : Int} (hL : FL Y.1 idx ci k) (hF : FP Y.1 idx ci k Y.2.2.2.1.name .long) (ht : ftag ci k = 2) (hd : decode Y.2.1 pc = .ok (.putfield idx, 3)) (hK : K a = (ci, l)) (kk : Sem g d Y (pc + 3) ls st (st2 I a k z, Rf, K, n, u) o) : Sem g d Y pc ls ((2, z) :: (1, (a : Int)) :: st) (I, Rf, K, n, u) o := by
  refine S_putG (M' := (st2 I a k z, Rf, K, n, u)) hK hL hF hd rfl rfl rfl rfl rfl (fun b j h => st2_ne h) (fun b j h => rfl) ?_ kk
  rw [ht]
  unfold rdv
  rw [if_neg (by decide), if_pos rfl]
  show cv g (2, st2 I a k z a k) = _
  rw [st2_same]
theorem S_putr {idx ci k a l : Nat} {z : Int} {ty : FieldType} (hL : FL Y.1 idx ci k) (hF : FP Y.1 idx ci k Y.2.2.2.1.name ty) (hty : (∃ q, ty = .object q) ∨ ∃ q, ty = .array q) (ht : ftag ci k = 1) (hd : decode Y.2.1 pc = .ok (.putfield idx, 3)) (hK : K a = (ci, l)) (kk : Sem g d Y (pc + 3) ls st (I, st2 Rf a k z, K, n, u) o) : Sem g d Y pc ls ((1, z) :: (1, (a : Int)) :: st) (I, Rf, K, n, u) o := by
  refine S_putG (M' := (I, st2 Rf a k z, K, n, u)) hK hL hF hd (fits_ref hty z).1 (fits_ref hty z).2 rfl rfl rfl (fun b j h => rfl) (fun b j h => st2_ne h) ?_ kk
  rw [ht]
  unfold rdv
  rw [if_pos rfl]
  show cv g (1, st2 Rf a k z a k) = _
  rw [st2_same]
end SEM3
