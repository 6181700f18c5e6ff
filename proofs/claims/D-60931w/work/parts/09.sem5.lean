section SEM5
variable {g : GG} {d : Nat} {Y : YY} {pc : Nat} {ls st : List AV} {o : AV × MM} {I Rf : Nat → Nat → Int} {K : Nat → Nat × Nat} {n u : Nat}
theorem st2_nb {f : Nat → Nat → Int} {a i b j : Nat} {z : Int} (h : b ≠ a) : st2 f a i z b j = f b j := st2_ne (fun q => h q.1)
theorem w32_in2 {z : Int} {l : Nat} {cA : ClassId} {f : Nat → Value} (h0 : 0 ≤ w32 z) (h1 : w32 z < l) : ¬ (Int32.ofInt z < 0 ∨ (arrV cA l f).slots.size ≤ (Int32.ofInt z).toNatClampNeg) := by
  rw [arrV_size]
  exact w32_in h0 h1
theorem S_iast {a k l : Nat} {i z : Int} (hK : K a = (k, l)) (hk : 64 ≤ k) (hk2 : k % 16 = 0) (h0 : 0 ≤ w32 i) (h1 : w32 i < l) (hd : decode Y.2.1 pc = .ok (.iastore, 1)) (kk : Sem g d Y (pc + 1) ls st (st2 I a (w32 i).toNat z, Rf, K, n, u) o) : Sem g d Y pc ls ((0, z) :: (0, i) :: (1, (a : Int)) :: st) (I, Rf, K, n, u) o := by
  refine S_astG (M := (I, Rf, K, n, u)) (M' := (st2 I a (w32 i).toNat z, Rf, K, n, u)) (i := i) hK hk rfl rfl rfl (fun b j h => st2_nb h) (fun b j h => rfl) (fun p l' e R s m args below meth c H locs cells slots Q arr cx hH hc hS kt => ?_) kk
  rw [hk2] at hc kt
  simp only [List.map_cons, cv1, cv0, cvr_nat]
  refine W.iast cx.1 cx.2.1 hc ((cx.2.2.2.2.2.1.1.2 0 _ (tyo_get (by decide))).1 l (fun j => .int (Int32.ofInt (I a j)))) (fun q => by cases q) (w32_in2 h0 h1) rfl rfl hd fun H1 e1 z1 oq => ?_
  refine kt H1 _ ?_ z1 oq (hS.put z1 oq (Nat.le_add_right _ _))
  rw [e1]
  show some ((vp_cell (gca g 0) (l, .inl (fun j => Int32.ofInt (I a j)))).setSlot _ _) = some (vp_cell (gca g 0) (l, .inl (fun j => Int32.ofInt (st2 I a (w32 i).toNat z a j))))
  rw [vp_cell_i, vp_cell_i, arrV_store]
  congr 2
  funext q
  by_cases hq : q = (w32 i).toNat
  · subst hq
    simp [updV, st2, w32_clamp]
  · simp [updV, st2, w32_clamp, hq]
theorem S_bast {a k l : Nat} {i z : Int} (hK : K a = (k, l)) (hk : 64 ≤ k) (hk2 : k % 16 = 1) (h0 : 0 ≤ w32 i) (h1 : w32 i < l) (hd : decode Y.2.1 pc = .ok (.bastore, 1)) (kk : Sem g d Y (pc + 1) ls st (st2 I a (w32 i).toNat z, Rf, K, n, u) o) : Sem g d Y pc ls ((0, z) :: (0, i) :: (1, (a : Int)) :: st) (I, Rf, K, n, u) o := by
  refine S_astG (M := (I, Rf, K, n, u)) (M' := (st2 I a (w32 i).toNat z, Rf, K, n, u)) (i := i) hK hk rfl rfl rfl (fun b j h => st2_nb h) (fun b j h => rfl) (fun p l' e R s m args below meth c H locs cells slots Q arr cx hH hc hS kt => ?_) kk
  rw [hk2] at hc kt
  simp only [List.map_cons, cv1, cv0, cvr_nat]
  refine W.bast cx.1 cx.2.1 hc ((cx.2.2.2.2.2.1.1.2 1 _ (tyo_get (by decide))).1 l (fun j => .int ((Int32.ofInt (I a j)).toInt8.toInt32))) (fun q => by cases q) (w32_in2 h0 h1) rfl rfl hd fun H1 e1 z1 oq => ?_
  refine kt H1 _ ?_ z1 oq (hS.put z1 oq (Nat.le_add_right _ _))
  rw [e1]
  show some ((vp_cell (gca g 1) (l, .inl (fun j => (Int32.ofInt (I a j)).toInt8.toInt32))).setSlot _ _) = some (vp_cell (gca g 1) (l, .inl (fun j => (Int32.ofInt (st2 I a (w32 i).toNat z a j)).toInt8.toInt32)))
  rw [vp_cell_i, vp_cell_i, arrV_store]
  congr 2
  funext q
  by_cases hq : q = (w32 i).toNat
  · subst hq
    simp only [updV, st2, w32_clamp, and_self, if_true]
    rfl
  · simp [updV, st2, w32_clamp, hq]
theorem S_zast {a k l : Nat} {i z : Int} (hK : K a = (k, l)) (hk : 64 ≤ k) (hk2 : k % 16 = 2) (hz : z = 0 ∨ z = 1) (h0 : 0 ≤ w32 i) (h1 : w32 i < l) (hd : decode Y.2.1 pc = .ok (.bastore, 1)) (kk : Sem g d Y (pc + 1) ls st (st2 I a (w32 i).toNat z, Rf, K, n, u) o) : Sem g d Y pc ls ((0, z) :: (0, i) :: (1, (a : Int)) :: st) (I, Rf, K, n, u) o := by
  refine S_astG (M := (I, Rf, K, n, u)) (M' := (st2 I a (w32 i).toNat z, Rf, K, n, u)) (i := i) hK hk rfl rfl rfl (fun b j h => st2_nb h) (fun b j h => rfl) (fun p l' e R s m args below meth c H locs cells slots Q arr cx hH hc hS kt => ?_) kk
  rw [hk2] at hc kt
  simp only [List.map_cons, cv1, cv0, cvr_nat]
  refine W.zast cx.1 cx.2.1 hc ((cx.2.2.2.2.2.1.1.2 2 _ (tyo_get (by decide))).1 l (fun j => .int (Int32.ofInt (I a j)))) (fun q => by cases q) (w32_in2 h0 h1) rfl rfl hd fun H1 e1 z1 oq => ?_
  refine kt H1 _ ?_ z1 oq (hS.put z1 oq (Nat.le_add_right _ _))
  rw [e1]
  show some ((vp_cell (gca g 2) (l, .inl (fun j => Int32.ofInt (I a j)))).setSlot _ _) = some (vp_cell (gca g 2) (l, .inl (fun j => Int32.ofInt (st2 I a (w32 i).toNat z a j))))
  rw [vp_cell_i, vp_cell_i, arrV_store]
  congr 2
  funext q
  by_cases hq : q = (w32 i).toNat
  · subst hq
    simp only [updV, st2, w32_clamp, and_self, if_true]
    rcases hz with rfl | rfl <;> rfl
  · simp [updV, st2, w32_clamp, hq]
theorem S_aast {a k l v ci l2 : Nat} {i : Int} (hK : K a = (k, l)) (hk : 64 ≤ k) (hk2 : 3 ≤ k % 16 ∧ k % 16 < 14) (hv : K v = (ci, l2)) (hci : ci < 63 ∧ (vwCl[ci]?).map (·.1) = some (anm (k % 16))) (h0 : 0 ≤ w32 i) (h1 : w32 i < l) (hd : decode Y.2.1 pc = .ok (.aastore, 1)) (kk : Sem g d Y (pc + 1) ls st (I, st2 Rf a (w32 i).toNat v, K, n, u) o) : Sem g d Y pc ls ((1, (v : Int)) :: (0, i) :: (1, (a : Int)) :: st) (I, Rf, K, n, u) o := by
  refine S_astG (M := (I, Rf, K, n, u)) (M' := (I, st2 Rf a (w32 i).toNat v, K, n, u)) (i := i) hK hk rfl rfl rfl (fun b j h => rfl) (fun b j h => st2_nb h) (fun p l' e R s m args below meth c H locs cells slots Q arr cx hH hc hS kt => ?_) kk
  have hac : ∀ M : MM, acon g M (k % 16) a = .inr (.inr (.inr (.inr (fun i => cvr g (M.2.1 a i))))) := by
    intro M
    unfold acon
    rw [if_neg (by omega), if_neg (by omega)]
  rw [hac] at hc
  simp only [hac] at kt
  simp only [List.map_cons, cv1, cv0, cvr_nat]
  obtain ⟨hci0, hci⟩ := hci
  cases hcl : vwCl[ci]? with
  | none => rw [hcl] at hci; cases hci
  | some r =>
    rw [hcl] at hci
    have hr1 : r.1 = anm (k % 16) := Option.some.inj hci
    have hvlt : v < n := hH.lt (M := (I, Rf, K, n, u)) (by show (K v).1 ≠ 63; rw [hv]; show ci ≠ 63; omega)
    have hve := wso_get (g := g) (M := (I, Rf, K, n, u)) hvlt
    rw [ce_obj (ci := ci) (l := l2) hv (by omega)] at hve
    obtain ⟨r', hr', cellV, g1, g2, g3, -⟩ := hH.2.1 v _ hve
    have hKK := cx.2.2.2.2.2.1.1
    have hcls := (hKK.1 ci r hcl).2
    have ht := tyo_get (g := g) hk2.2
    rw [aty_obj _ hk2.1 hk2.2, ← hr1] at ht
    obtain ⟨kA, comp, k1, k2, k3, -⟩ := (hKK.2 _ _ ht).2
    have hcomp : comp = (gD g).1 ci := Option.some.inj (k3.symm.trans hcls.1)
    subst hcomp
    obtain ⟨kC, hkC, -⟩ := hcls.2
    refine W.aast cx.1 cx.2.1 hc (fun q h => by cases h) (fun h => by cases h) k1 k2 rfl hkC ⟨fun q => by rw [w32_lt0] at q; omega, by show _ < (arrV _ _ _).slots.size; rw [arrV_size, w32_clamp]; omega⟩ g1 (fun q h => by rw [g3] at h; cases h) (by rw [g2]; exact hkC) (by rw [g2]; exact va_assign hcls) rfl rfl hd fun H1 e1 z1 oq => ?_
    refine kt H1 _ ?_ z1 oq (hS.put z1 oq (Nat.le_add_right _ _))
    rw [e1, vp_cell_q, vp_cell_q, arrV_store]
    congr 2
    funext q
    by_cases hq : q = (w32 i).toNat
    · subst hq
      simp [updV, st2, w32_clamp, cvr_nat, va_rf]
    · simp [updV, st2, w32_clamp, hq]
/-- the memory with one new cell of kind k and length l, all zero and null -/
def nw (M : MM) (k l : Nat) : MM := (fun b j => if b = M.2.2.2.1 then 0 else M.1 b j, fun b j => if b = M.2.2.2.1 then -1 else M.2.1 b j, fun b => if b = M.2.2.2.1 then (k, l) else M.2.2.1 b, M.2.2.2.1 + 1, M.2.2.2.2 + l)
theorem Hold.born {M : MM} {k l : Nat} {H H1 : Heap} (hH : Hold g M H) (hz : H1.size = H.size + 1) (ho : ∀ q, q < H.size → H1[q]? = H[q]?) (h1 : va_at (gD g) vwCl (gb g + M.2.2.2.1, ce g (nw M k l) M.2.2.2.1) H1) : Hold g (nw M k l) H1 := by
  refine ⟨by rw [hz, hH.1]; rfl, ?_, fun a ha => ?_⟩
  · intro q x hx
    have hx0 := hx
    have hq : q < M.2.2.2.1 + 1 := by
      have := (List.getElem?_eq_some_iff.mp hx).1
      unfold wso at this
      rw [List.length_map, List.length_range] at this
      exact this
    rw [wso_get hq] at hx
    cases hx
    by_cases hqn : q = M.2.2.2.1
    · subst hqn
      exact h1
    · have hlt : q < M.2.2.2.1 := by omega
      have e : ce g (nw M k l) q = ce g M q := by
        unfold ce fvs acon rdv nw
        simp only [if_neg hqn]
      rw [e]
      refine va_at.kept (hH.2.1 q _ (wso_get hlt)) (ho _ ?_)
      rw [hH.1]
      show gb g + q < _
      omega
  · have : ¬ a = M.2.2.2.1 := by
      have : M.2.2.2.1 + 1 ≤ a := ha
      omega
    show (if a = M.2.2.2.1 then (k, l) else M.2.2.1 a).1 = 63
    rw [if_neg this]
    exact hH.2.2 a (by have : M.2.2.2.1 + 1 ≤ a := ha; omega)
theorem S_bornG {pc' l k : Nat} {st0 : List AV} {M : MM}
    (hh : ∀ (p : Program) (l' : Launch) (e : Env) (R : Room) (s : State) (m : MethodId) (args : Array Value) (below : List Frame) (meth : Method) (c : Code) (H : Heap) (locs : List Loc) (cells slots : Nat) (Q : State → Prop) (arr : Array Slot), Cx g Y p s m args meth c → H.size = gb g + M.2.2.2.1 → cells + 1 ≤ R.cells → slots + l ≤ R.slots →
      (∀ (H1 : Heap), va_at (gD g) vwCl (gb g + M.2.2.2.1, ce g (nw M k l) M.2.2.2.1) H1 → H1.size = H.size + 1 → (∀ q : Nat, q < H.size → H1[q]? = H[q]?) → W p l' e R s m args below meth c H1 locs (cells + 1) (slots + l) Q (F0 m pc' arr ((((1, (M.2.2.2.1 : Int)) : AV) :: st).map (cv g)))) →
      W p l' e R s m args below meth c H locs cells slots Q (F0 m pc arr (st0.map (cv g))))
    (kk : Sem g d Y pc' ls (((1, (M.2.2.2.1 : Int)) : AV) :: st) (nw M k l) o) : Sem g d Y pc ls st0 M o := by
  have k1 : M.2.2.2.1 + 1 ≤ o.2.2.2.2.1 := kk.1.1
  have k2 : M.2.2.2.2 + l ≤ o.2.2.2.2.2 := kk.1.2
  refine ⟨⟨by omega, by omega⟩, ?_⟩
  intro p l' e R s m args below meth c H locs cells slots Q arr cx hr hH hS hl kt
  obtain ⟨r1, r2, r3, r4⟩ := hr
  refine hh p l' e R s m args below meth c H locs cells slots Q arr cx hH.1 (by omega) (by omega) ?_
  intro H1 h1 hz ho
  refine kk.2 p l' e R s m args below meth c H1 locs (cells + 1) (slots + l) Q arr cx ⟨r1, r2, by show cells + 1 + _ ≤ R.cells + (M.2.2.2.1 + 1); omega, by show slots + l + _ ≤ R.slots + (M.2.2.2.2 + l); omega⟩ (hH.born hz ho h1) ⟨Nat.le_trans hS.1 (by omega), fun x q1 q2 => (ho x (Nat.lt_of_lt_of_le q1 hS.1)).trans (hS.2.1 x q1 q2), hS.2.2⟩ hl ?_
  intro pc' arr' H' locs' cells' slots' e1 e2 e3 e4 e5
  have e1 : cells' + (M.2.2.2.1 + 1) = cells + 1 + o.2.2.2.2.1 := e1
  have e2 : slots' + (M.2.2.2.2 + l) = slots + l + o.2.2.2.2.2 := e2
  exact kt pc' arr' H' locs' cells' slots' (by omega) (by omega) e3 e4 e5
theorem S_newa {k l : Nat} {z : Int} {at' : ArrayType} {M : MM} (hk : 64 ≤ k) (hk2 : k % 16 < 3) (hat : newarray.typeOf at' = aty (k % 16)) (hq : Cond.arrayClass (newarray.typeOf at') ∈ lw_all) (hz : w32 z = (l : Int)) (hl2 : l ≤ 1000000) (hd : decode Y.2.1 pc = .ok (.newarray at', 2)) (kk : Sem g d Y (pc + 2) ls (((1, (M.2.2.2.1 : Int)) : AV) :: st) (nw M k l) o) : Sem g d Y pc ls ((0, z) :: st) M o := by
  refine S_bornG (fun p l' e R s m args below meth c H locs cells slots Q arr cx hsz hcl hsl kt => ?_) kk
  simp only [List.map_cons, cv0, cv1, cvr_nat] at kt ⊢
  have hN : (Int32.ofInt z).toNatClampNeg = l := by rw [w32_clamp, hz]; rfl
  have hcb : l * componentBytes (newarray.typeOf at') ≤ 536870912 := by
    have h8 : componentBytes (newarray.typeOf at') ≤ 8 := by unfold componentBytes; split <;> decide
    exact Nat.le_trans (Nat.mul_le_mul_left _ h8) (by omega)
  refine va_newaK cx.1 cx.2.1 (cx.2.2.2.2.1 _ hq) rfl hd rfl (fun q => by rw [w32_lt0] at q; omega) hN hcb hcl hsl rfl (fun H1 cA e1 z1 o1 hAr hNm => ?_)
  rw [hsz]
  refine kt H1 ?_ z1 o1
  have hca : gca g (k % 16) = cA := by
    have ht := tyo_get (g := g) (t := k % 16) (by omega)
    have h2 := (cx.2.2.2.2.2.1.1.2 _ _ ht).2
    rw [hat] at hNm
    have h3 : k % 16 = 0 ∨ k % 16 = 1 ∨ k % 16 = 2 := by omega
    rcases h3 with h3 | h3 | h3 <;> rw [h3] at h2 hNm ⊢ <;> exact Option.some.inj (h2.symm.trans hNm)
  rw [ce_arr (k := k) (l := l) (by show (if _ then _ else _) = _; rw [if_pos rfl]) hk, hca]
  show H1[gb g + M.2.2.2.1]? = _
  rw [← hsz, e1, hat]
  have h3 : k % 16 = 0 ∨ k % 16 = 1 ∨ k % 16 = 2 := by omega
  rcases h3 with h3 | h3 | h3 <;> rw [h3] <;> unfold acon nw <;> simp <;> rfl
theorem S_anew {k l idx : Nat} {z : Int} {M : MM} (hk : 64 ≤ k) (hk2 : 3 ≤ k % 16 ∧ k % 16 < 14) (hq : Cond.classLink Y.1 idx (anm (k % 16)) ∈ lw_all) (hz : w32 z = (l : Int)) (hl2 : l ≤ 1000000) (hd : decode Y.2.1 pc = .ok (.anewarray idx, 3)) (kk : Sem g d Y (pc + 3) ls (((1, (M.2.2.2.1 : Int)) : AV) :: st) (nw M k l) o) : Sem g d Y pc ls ((0, z) :: st) M o := by
  refine S_bornG (fun p l' e R s m args below meth c H locs cells slots Q arr cx hsz hcl hsl kt => ?_) kk
  simp only [List.map_cons, cv0, cv1, cvr_nat] at kt ⊢
  have hN : (Int32.ofInt z).toNatClampNeg = l := by rw [w32_clamp, hz]; rfl
  refine W.anew cx.1 cx.2.1 cx.2.2.2.1 (cx.2.2.2.2.1 _ hq) (va_AO.use (cx.2.2.2.2.2.1.2.2.1 _ hk2.1 hk2.2)) rfl hd rfl (fun q => by rw [w32_lt0] at q; omega) (by rw [hN]; omega) hcl (by rw [hN]; exact hsl) (fun cA kA comp f1 f2 f3 f4 => ?_)
  rw [hsz, hN]
  refine kt _ ?_ (by rw [Array.size_push]) (fun q hq => by rw [Array.getElem?_push, if_neg (Nat.ne_of_lt hq)])
  have hca : gca g (k % 16) = cA := by
    have ht := tyo_get (g := g) hk2.2
    rw [aty_obj _ hk2.1 hk2.2] at ht
    obtain ⟨kA', comp', k1, k2, k3, k4⟩ := (cx.2.2.2.2.2.1.1.2 _ _ ht).2
    exact Option.some.inj (k4.symm.trans f1)
  rw [ce_arr (k := k) (l := l) (by show (if _ then _ else _) = _; rw [if_pos rfl]) hk, hca]
  show (H.push _)[gb g + M.2.2.2.1]? = _
  rw [← hsz, Array.getElem?_push_size, arrV_new]
  unfold acon nw
  rw [if_neg (by omega), if_neg (by omega), vp_cell_q]
  simp [cvr, va_rf]
end SEM5
