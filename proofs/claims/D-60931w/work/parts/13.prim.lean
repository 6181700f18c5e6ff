/-! PRIM: what a step computes, as an Option; and the step's row over it -/
/-- a list of locals that says less -/
def Wk : List AV → List AV → Prop
  | [], [] => True
  | a :: as, b :: bs => (b.1 = 9 ∨ a = b) ∧ Wk as bs
  | _, _ => False
theorem Wk_get : ∀ {ls ls' : List AV}, Wk ls ls' → ∀ {i : Nat} {v : AV}, ls'[i]? = some v → v.1 < 3 → ls[i]? = some v
  | [], [], _, i, v, h, _ => by simp at h
  | a :: as, b :: bs, hw, 0, v, h, hv => by
    simp only [List.getElem?_cons_zero, Option.some.injEq] at h ⊢
    subst h
    rcases hw.1 with h1 | h1
    · omega
    · exact h1
  | a :: as, b :: bs, hw, i + 1, v, h, hv => by
    simp only [List.getElem?_cons_succ] at h ⊢
    exact Wk_get hw.2 h hv
  | [], _ :: _, hw, _, _, _, _ => hw.elim
  | _ :: _, [], hw, _, _, _, _ => hw.elim
theorem S_weak {g : GG} {d : Nat} {Y : YY} {pc : Nat} {ls ls' st : List AV} {M : MM} {o : AV × MM} (h : Wk ls ls') (k : Sem g d Y pc ls' st M o) : Sem g d Y pc ls st M o := by
  refine ⟨k.1, ?_⟩
  intro p l e R s m args below meth c H locs cells slots Q arr cx hr hH hS hl kk
  refine k.2 p l e R s m args below meth c H locs cells slots Q arr cx hr hH hS ⟨hl.1, hl.2.1, fun q hq => hl.2.2 q ?_⟩ kk
  unfold lsv at hq
  obtain ⟨⟨a, j⟩, h1, h2⟩ := List.mem_filterMap.mp hq
  have h3 := List.mk_mem_zipIdx_iff_getElem?.mp h1
  simp only at h2
  split at h2
  · next ha =>
    have e := Option.some.inj h2
    subst e
    exact lsv_mem (Wk_get h h3 ha) ha
  · cases h2
def lpN {σ ρ : Type} (b : σ → Option (σ ⊕ ρ)) : Nat → σ → Option ρ
  | 0, _ => none
  | n + 1, s => (b s).bind (fun x => match x with | .inl s' => lpN b n s' | .inr r => some r)
def xit {σ ρ : Type} (x : Option ρ) : Option (σ ⊕ ρ) := x.map Sum.inr
def cnt {σ ρ : Type} (s : σ) : Option (σ ⊕ ρ) := some (.inl s)
theorem lp_sound {σ ρ : Type} {b : σ → Option (σ ⊕ ρ)} {S : σ → Prop} {P : ρ → Prop} (hb : ∀ s x, b s = some x → Sum.elim S P x → S s) : ∀ n s r, lpN b n s = some r → P r → S s
  | 0, s, r, h, _ => by simp [lpN] at h
  | n + 1, s, r, h, hr => by
    unfold lpN at h
    cases hx : b s with
    | none => rw [hx] at h; cases h
    | some x =>
      rw [hx] at h
      refine hb s x hx ?_
      cases x with
      | inl s' => exact lp_sound hb n s' r h hr
      | inr r' =>
        have e : r' = r := Option.some.inj h
        subst e
        exact hr
theorem xit_some {σ ρ : Type} {x : Option ρ} {z : σ ⊕ ρ} (h : xit x = some z) : ∃ r, x = some r ∧ z = .inr r := by
  cases x with
  | none => cases h
  | some r => exact ⟨r, rfl, (Option.some.inj h).symm⟩
theorem lpN_cnt {σ ρ : Type} {b : σ → Option (σ ⊕ ρ)} {n : Nat} {s s' : σ} (h : b s = some (.inl s')) : lpN b (n + 1) s = lpN b n s' := by
  rw [lpN, h]; rfl
theorem lpN_xit {σ ρ : Type} {b : σ → Option (σ ⊕ ρ)} {n : Nat} {s : σ} {x : Option ρ} (h : b s = xit x) : lpN b (n + 1) s = x := by
  rw [lpN, h]; cases x <;> rfl
def FU : Nat := 100000
def ecl (t : Nat) : Nat := [0, 0, 0, 11, 26, 25, 23, 17, 27, 28, 29, 24, 21, 3].getD t 0
def ck {α : Type} (ci : Nat) (e : Int) (M : MM) (x : Option α) : Option α := if 0 ≤ e ∧ (M.2.2.1 e.toNat).1 = ci then x else none
def nn {α : Type} (e : Int) (x : Option α) : Option α := if 0 ≤ e then x else none
def gfi (ci k : Nat) (e : Int) (M : MM) : Option Int := ck ci e M (some (w32 (M.1 e.toNat k)))
def gfl (ci k : Nat) (e : Int) (M : MM) : Option Int := ck ci e M (some (M.1 e.toNat k))
def gfr (ci k : Nat) (e : Int) (M : MM) : Option Int := ck ci e M (some (M.2.1 e.toNat k))
def pfi (ci k : Nat) (e v : Int) (M : MM) : Option MM := ck ci e M (some (st2 M.1 e.toNat k v, M.2))
def pfz (ci k : Nat) (e v : Int) (M : MM) : Option MM := ck ci e M (if v = 0 ∨ v = 1 then some (st2 M.1 e.toNat k v, M.2) else none)
def pfr (ci k : Nat) (e v : Int) (M : MM) : Option MM := ck ci e M (some (M.1, st2 M.2.1 e.toNat k v, M.2.2))
/-- an array of type t at e, and i a place in it -/
def ain {α : Type} (t : Nat) (e i : Int) (M : MM) (x : Option α) : Option α := if 0 ≤ e ∧ 64 ≤ (M.2.2.1 e.toNat).1 ∧ (M.2.2.1 e.toNat).1 % 16 = t ∧ 0 ≤ w32 i ∧ w32 i < (M.2.2.1 e.toNat).2 then x else none
def lai (e i : Int) (M : MM) : Option Int := ain 0 e i M (some (w32 (M.1 e.toNat (w32 i).toNat)))
def lab (e i : Int) (M : MM) : Option Int := ain 1 e i M (some (sx8 (M.1 e.toNat (w32 i).toNat)))
def laz (e i : Int) (M : MM) : Option Int := ain 2 e i M (some (w32 (M.1 e.toNat (w32 i).toNat)))
def lar (t : Nat) (e i : Int) (M : MM) : Option Int := ain t e i M (some (M.2.1 e.toNat (w32 i).toNat))
def sai (e i v : Int) (M : MM) : Option MM := ain 0 e i M (some (st2 M.1 e.toNat (w32 i).toNat v, M.2))
def sab (e i v : Int) (M : MM) : Option MM := ain 1 e i M (some (st2 M.1 e.toNat (w32 i).toNat v, M.2))
def saz (e i v : Int) (M : MM) : Option MM := ain 2 e i M (if v = 0 ∨ v = 1 then some (st2 M.1 e.toNat (w32 i).toNat v, M.2) else none)
def sar (t : Nat) (e i v : Int) (M : MM) : Option MM := ain t e i M (ck (ecl t) v M (some (M.1, st2 M.2.1 e.toNat (w32 i).toNat v, M.2.2)))
def aln (t : Nat) (e : Int) (M : MM) : Option Int := if 0 ≤ e ∧ 64 ≤ (M.2.2.1 e.toNat).1 ∧ (M.2.2.1 e.toNat).1 % 16 = t then some ((M.2.2.1 e.toNat).2 : Int) else none
def nar (k : Nat) (z : Int) (M : MM) : Option (Int × MM) := if 0 ≤ w32 z ∧ w32 z ≤ 1000000 then some ((M.2.2.2.1 : Int), nw M k (w32 z).toNat) else none
/-- a new object of class ci with l slots, born at the place t of the program -/
def nwo (M : MM) (ci l t : Nat) : MM := (fun b j => if b = M.2.2.2.1 then 0 else M.1 b j, fun b j => if b = M.2.2.2.1 then -1 else M.2.1 b j, fun b => if b = M.2.2.2.1 then (ci, t) else M.2.2.1 b, M.2.2.2.1 + 1, M.2.2.2.2 + l)
def nob (ci l t : Nat) (M : MM) : Option (Int × MM) := some ((M.2.2.2.1 : Int), nwo M ci l t)
theorem Sem.congr {g : GG} {d : Nat} {Y : YY} {pc : Nat} {ls st : List AV} {M1 M2 : MM} {o : AV × MM} (hH : ∀ H, Hold g M1 H → Hold g M2 H) (hn : M2.2.2.2.1 = M1.2.2.2.1) (hu : M2.2.2.2.2 = M1.2.2.2.2) (k : Sem g d Y pc ls st M2 o) : Sem g d Y pc ls st M1 o := by
  refine ⟨by rw [← hn, ← hu]; exact k.1, ?_⟩
  intro p l e R s m args below meth c H locs cells slots Q arr cx hr hH1 hS hl kk
  refine k.2 p l e R s m args below meth c H locs cells slots Q arr cx ⟨hr.1, hr.2.1, by rw [hn]; exact hr.2.2.1, by rw [hu]; exact hr.2.2.2⟩ (hH H hH1) hS hl ?_
  intro pc' arr' H' locs' cells' slots' e1 e2 e3 e4 e5
  exact kk pc' arr' H' locs' cells' slots' (by rw [← hn]; exact e1) (by rw [← hu]; exact e2) e3 e4 e5
theorem Hold_nwo {g : GG} {M : MM} {ci l t : Nat} (hc : ci < 63) {H : Heap} (h : Hold g (nw M ci l) H) : Hold g (nwo M ci l t) H := by
  obtain ⟨h1, h2, h3⟩ := h
  have hw : wso g (nwo M ci l t) = wso g (nw M ci l) := by
    unfold wso
    apply List.map_congr_left
    intro a _
    have : ce g (nwo M ci l t) a = ce g (nw M ci l) a := by
      by_cases ha : a = M.2.2.2.1
      · have e1 : (nwo M ci l t).2.2.1 a = (ci, t) := if_pos ha
        have e2 : (nw M ci l).2.2.1 a = (ci, l) := if_pos ha
        rw [ce_obj e1 (by omega), ce_obj e2 (by omega)]
        rfl
      · have e1 : (nwo M ci l t).2.2.1 a = M.2.2.1 a := if_neg ha
        have e2 : (nw M ci l).2.2.1 a = M.2.2.1 a := if_neg ha
        unfold ce
        rw [e1, e2]
        rfl
    rw [this]
  refine ⟨h1, by rw [hw]; exact h2, ?_⟩
  intro a ha
  have := h3 a ha
  have hne : a ≠ M.2.2.2.1 := by
    have : M.2.2.2.1 + 1 ≤ a := ha
    omega
  have e1 : (nwo M ci l t).2.2.1 a = M.2.2.1 a := if_neg hne
  have e2 : (nw M ci l).2.2.1 a = M.2.2.1 a := if_neg hne
  rw [e1]
  rw [e2] at this
  exact this
def cpb (e0 sp e1 dp len : Int) (M : MM) : Option MM := if 0 ≤ e0 ∧ 0 ≤ e1 ∧ 64 ≤ (M.2.2.1 e0.toNat).1 ∧ (M.2.2.1 e0.toNat).1 % 16 = 1 ∧ 64 ≤ (M.2.2.1 e1.toNat).1 ∧ (M.2.2.1 e1.toNat).1 % 16 = 1 ∧ 0 ≤ w32 sp ∧ 0 ≤ w32 dp ∧ 0 ≤ w32 len ∧ w32 sp + w32 len ≤ (M.2.2.1 e0.toNat).2 ∧ w32 dp + w32 len ≤ (M.2.2.1 e1.toNat).2 then some (cpy2 M.1 e0.toNat e1.toNat (w32 sp).toNat (w32 dp).toNat (w32 len).toNat, M.2) else none
def dvi (x y : Int) : Option Int := if w32 y = 0 then none else some (idv x y)
def rmi (x y : Int) : Option Int := if w32 y = 0 then none else some (irm x y)
def rml (x y : Int) : Option Int := if Int64.ofInt y = 0 then none else some (lrm x y)
def bz {α : Type} (v : Int) (x : Option α) : Option α := if v = 0 ∨ v = 1 then x else none
def sld (g : GG) (i : Int) : Option Int := if 0 ≤ w32 i ∧ w32 i < gL g then some ((gxs g (w32 i).toNat).toInt) else none
section PRIM
variable {g : GG} {d : Nat} {Y Y' : YY} {pc : Nat} {ls st : List AV} {M : MM} {o : AV × MM} {α : Type} {z : α}
theorem ck_some {ci : Nat} {e : Int} {x : Option α} (h : ck ci e M x = some z) : ∃ a l : Nat, e = (a : Int) ∧ M.2.2.1 a = (ci, l) ∧ x = some z := by
  unfold ck at h
  split at h
  · next hc =>
    obtain ⟨a, rfl⟩ := Int.eq_ofNat_of_zero_le hc.1
    exact ⟨a, (M.2.2.1 a).2, rfl, by have := hc.2; rw [Int.toNat_natCast] at this; rw [← this], h⟩
  · cases h
theorem ain_some {t : Nat} {e i : Int} {x : Option α} (h : ain t e i M x = some z) : ∃ a k l : Nat, e = (a : Int) ∧ M.2.2.1 a = (k, l) ∧ 64 ≤ k ∧ k % 16 = t ∧ 0 ≤ w32 i ∧ w32 i < l ∧ x = some z := by
  unfold ain at h
  split at h
  · next hc =>
    obtain ⟨a, rfl⟩ := Int.eq_ofNat_of_zero_le hc.1
    simp only [Int.toNat_natCast] at hc
    exact ⟨a, (M.2.2.1 a).1, (M.2.2.1 a).2, rfl, rfl, hc.2.1, hc.2.2.1, hc.2.2.2.1, hc.2.2.2.2, h⟩
  · cases h
theorem ckb {ci : Nat} {e : Int} {α β : Type} {x : Option α} {κ : α → Option β} : (ck ci e M x).bind κ = ck ci e M (x.bind κ) := by
  unfold ck; split <;> rfl
theorem ainb {t : Nat} {e i : Int} {α β : Type} {x : Option α} {κ : α → Option β} : (ain t e i M x).bind κ = ain t e i M (x.bind κ) := by
  unfold ain; split <;> rfl
theorem P_gfi {idx ci k : Nat} {e : Int} {κ : Int → Option α} (hL : FL Y.1 idx ci k) (ht : ftag ci k = 0) (hd : decode Y.2.1 pc = .ok (.getfield idx, 3)) (h : (gfi ci k e M).bind κ = some z) (kk : ∀ v, κ v = some z → Sem g d Y (pc + 3) ls ((0, v) :: st) M o) : Sem g d Y pc ls ((1, e) :: st) M o := by
  unfold gfi at h
  rw [ckb] at h
  obtain ⟨a, l, rfl, hK, h⟩ := ck_some h
  have k1 := kk _ h
  obtain ⟨I, Rf, K, n, u⟩ := M
  refine S_get hL hd hK ?_
  rw [ht]
  exact k1
theorem P_gfl {idx ci k : Nat} {e : Int} {κ : Int → Option α} (hL : FL Y.1 idx ci k) (ht : ftag ci k = 2) (hd : decode Y.2.1 pc = .ok (.getfield idx, 3)) (h : (gfl ci k e M).bind κ = some z) (kk : ∀ v, κ v = some z → Sem g d Y (pc + 3) ls ((2, v) :: st) M o) : Sem g d Y pc ls ((1, e) :: st) M o := by
  unfold gfl at h
  rw [ckb] at h
  obtain ⟨a, l, rfl, hK, h⟩ := ck_some h
  have k1 := kk _ h
  obtain ⟨I, Rf, K, n, u⟩ := M
  refine S_get hL hd hK ?_
  rw [ht]
  exact k1
theorem P_gfr {idx ci k : Nat} {e : Int} {κ : Int → Option α} (hL : FL Y.1 idx ci k) (ht : ftag ci k = 1) (hd : decode Y.2.1 pc = .ok (.getfield idx, 3)) (h : (gfr ci k e M).bind κ = some z) (kk : ∀ v, κ v = some z → Sem g d Y (pc + 3) ls ((1, v) :: st) M o) : Sem g d Y pc ls ((1, e) :: st) M o := by
  unfold gfr at h
  rw [ckb] at h
  obtain ⟨a, l, rfl, hK, h⟩ := ck_some h
  have k1 := kk _ h
  obtain ⟨I, Rf, K, n, u⟩ := M
  refine S_get hL hd hK ?_
  rw [ht]
  exact k1
theorem P_pfi {idx ci k : Nat} {e v : Int} {κ : MM → Option α} (hL : FL Y.1 idx ci k) (hF : FP Y.1 idx ci k Y.2.2.2.1.name .int) (ht : ftag ci k = 0) (hd : decode Y.2.1 pc = .ok (.putfield idx, 3)) (h : (pfi ci k e v M).bind κ = some z) (kk : ∀ M1, κ M1 = some z → Sem g d Y (pc + 3) ls st M1 o) : Sem g d Y pc ls ((0, v) :: (1, e) :: st) M o := by
  unfold pfi at h
  rw [ckb] at h
  obtain ⟨a, l, rfl, hK, h⟩ := ck_some h
  have k1 := kk _ h
  obtain ⟨I, Rf, K, n, u⟩ := M
  exact S_puti hL hF ht hd hK k1
theorem P_pfl {idx ci k : Nat} {e v : Int} {κ : MM → Option α} (hL : FL Y.1 idx ci k) (hF : FP Y.1 idx ci k Y.2.2.2.1.name .long) (ht : ftag ci k = 2) (hd : decode Y.2.1 pc = .ok (.putfield idx, 3)) (h : (pfi ci k e v M).bind κ = some z) (kk : ∀ M1, κ M1 = some z → Sem g d Y (pc + 3) ls st M1 o) : Sem g d Y pc ls ((2, v) :: (1, e) :: st) M o := by
  unfold pfi at h
  rw [ckb] at h
  obtain ⟨a, l, rfl, hK, h⟩ := ck_some h
  have k1 := kk _ h
  obtain ⟨I, Rf, K, n, u⟩ := M
  exact S_putl hL hF ht hd hK k1
theorem P_pfz {idx ci k : Nat} {e v : Int} {κ : MM → Option α} (hL : FL Y.1 idx ci k) (hF : FP Y.1 idx ci k Y.2.2.2.1.name .boolean) (ht : ftag ci k = 0) (hd : decode Y.2.1 pc = .ok (.putfield idx, 3)) (h : (pfz ci k e v M).bind κ = some z) (kk : ∀ M1, κ M1 = some z → Sem g d Y (pc + 3) ls st M1 o) : Sem g d Y pc ls ((0, v) :: (1, e) :: st) M o := by
  unfold pfz at h
  rw [ckb] at h
  obtain ⟨a, l, rfl, hK, h⟩ := ck_some h
  split at h
  · next hz =>
    have k1 := kk _ h
    obtain ⟨I, Rf, K, n, u⟩ := M
    exact S_putz hL hF ht hz hd hK k1
  · cases h
theorem P_pfr {idx ci k : Nat} {e v : Int} {ty : FieldType} {κ : MM → Option α} (hL : FL Y.1 idx ci k) (hF : FP Y.1 idx ci k Y.2.2.2.1.name ty) (hty : (∃ q, ty = .object q) ∨ ∃ q, ty = .array q) (ht : ftag ci k = 1) (hd : decode Y.2.1 pc = .ok (.putfield idx, 3)) (h : (pfr ci k e v M).bind κ = some z) (kk : ∀ M1, κ M1 = some z → Sem g d Y (pc + 3) ls st M1 o) : Sem g d Y pc ls ((1, v) :: (1, e) :: st) M o := by
  unfold pfr at h
  rw [ckb] at h
  obtain ⟨a, l, rfl, hK, h⟩ := ck_some h
  have k1 := kk _ h
  obtain ⟨I, Rf, K, n, u⟩ := M
  exact S_putr hL hF hty ht hd hK k1
theorem P_lai {e i : Int} {κ : Int → Option α} (hd : decode Y.2.1 pc = .ok (.iaload, 1)) (h : (lai e i M).bind κ = some z) (kk : ∀ v, κ v = some z → Sem g d Y (pc + 1) ls ((0, v) :: st) M o) : Sem g d Y pc ls ((0, i) :: (1, e) :: st) M o := by
  unfold lai at h
  rw [ainb] at h
  obtain ⟨a, k, l, rfl, hK, h1, h2, h3, h4, h⟩ := ain_some h
  have k1 := kk _ h
  obtain ⟨I, Rf, K, n, u⟩ := M
  exact S_iald hK h1 h2 h3 h4 hd k1
theorem P_lab {e i : Int} {κ : Int → Option α} (hd : decode Y.2.1 pc = .ok (.baload, 1)) (h : (lab e i M).bind κ = some z) (kk : ∀ v, κ v = some z → Sem g d Y (pc + 1) ls ((0, v) :: st) M o) : Sem g d Y pc ls ((0, i) :: (1, e) :: st) M o := by
  unfold lab at h
  rw [ainb] at h
  obtain ⟨a, k, l, rfl, hK, h1, h2, h3, h4, h⟩ := ain_some h
  have k1 := kk _ h
  obtain ⟨I, Rf, K, n, u⟩ := M
  exact S_bald hK h1 h2 h3 h4 hd k1
theorem P_laz {e i : Int} {κ : Int → Option α} (hd : decode Y.2.1 pc = .ok (.baload, 1)) (h : (laz e i M).bind κ = some z) (kk : ∀ v, κ v = some z → Sem g d Y (pc + 1) ls ((0, v) :: st) M o) : Sem g d Y pc ls ((0, i) :: (1, e) :: st) M o := by
  unfold laz at h
  rw [ainb] at h
  obtain ⟨a, k, l, rfl, hK, h1, h2, h3, h4, h⟩ := ain_some h
  have k1 := kk _ h
  obtain ⟨I, Rf, K, n, u⟩ := M
  exact S_zald hK h1 h2 h3 h4 hd k1
theorem P_lar {t : Nat} {e i : Int} {κ : Int → Option α} (ht : 3 ≤ t ∧ t < 14) (hd : decode Y.2.1 pc = .ok (.aaload, 1)) (h : (lar t e i M).bind κ = some z) (kk : ∀ v, κ v = some z → Sem g d Y (pc + 1) ls ((1, v) :: st) M o) : Sem g d Y pc ls ((0, i) :: (1, e) :: st) M o := by
  unfold lar at h
  rw [ainb] at h
  obtain ⟨a, k, l, rfl, hK, h1, h2, h3, h4, h⟩ := ain_some h
  have k1 := kk _ h
  obtain ⟨I, Rf, K, n, u⟩ := M
  subst h2
  exact S_aald hK h1 ht h3 h4 hd k1
theorem P_sai {e i v : Int} {κ : MM → Option α} (hd : decode Y.2.1 pc = .ok (.iastore, 1)) (h : (sai e i v M).bind κ = some z) (kk : ∀ M1, κ M1 = some z → Sem g d Y (pc + 1) ls st M1 o) : Sem g d Y pc ls ((0, v) :: (0, i) :: (1, e) :: st) M o := by
  unfold sai at h
  rw [ainb] at h
  obtain ⟨a, k, l, rfl, hK, h1, h2, h3, h4, h⟩ := ain_some h
  have k1 := kk _ h
  obtain ⟨I, Rf, K, n, u⟩ := M
  exact S_iast hK h1 h2 h3 h4 hd k1
theorem P_sab {e i v : Int} {κ : MM → Option α} (hd : decode Y.2.1 pc = .ok (.bastore, 1)) (h : (sab e i v M).bind κ = some z) (kk : ∀ M1, κ M1 = some z → Sem g d Y (pc + 1) ls st M1 o) : Sem g d Y pc ls ((0, v) :: (0, i) :: (1, e) :: st) M o := by
  unfold sab at h
  rw [ainb] at h
  obtain ⟨a, k, l, rfl, hK, h1, h2, h3, h4, h⟩ := ain_some h
  have k1 := kk _ h
  obtain ⟨I, Rf, K, n, u⟩ := M
  exact S_bast hK h1 h2 h3 h4 hd k1
theorem P_saz {e i v : Int} {κ : MM → Option α} (hd : decode Y.2.1 pc = .ok (.bastore, 1)) (h : (saz e i v M).bind κ = some z) (kk : ∀ M1, κ M1 = some z → Sem g d Y (pc + 1) ls st M1 o) : Sem g d Y pc ls ((0, v) :: (0, i) :: (1, e) :: st) M o := by
  unfold saz at h
  rw [ainb] at h
  obtain ⟨a, k, l, rfl, hK, h1, h2, h3, h4, h⟩ := ain_some h
  split at h
  · next hz =>
    have k1 := kk _ h
    obtain ⟨I, Rf, K, n, u⟩ := M
    exact S_zast hK h1 h2 hz h3 h4 hd k1
  · cases h
theorem ecl_ok : ∀ t, t < 14 → 3 ≤ t → (ecl t < 63 ∧ (vwCl[ecl t]?).map (·.1) = some (anm t)) := by decide +kernel
theorem P_sar {t : Nat} {e i v : Int} {κ : MM → Option α} (ht : 3 ≤ t ∧ t < 14) (hd : decode Y.2.1 pc = .ok (.aastore, 1)) (h : (sar t e i v M).bind κ = some z) (kk : ∀ M1, κ M1 = some z → Sem g d Y (pc + 1) ls st M1 o) : Sem g d Y pc ls ((1, v) :: (0, i) :: (1, e) :: st) M o := by
  unfold sar at h
  rw [ainb] at h
  obtain ⟨a, k, l, rfl, hK, h1, h2, h3, h4, h⟩ := ain_some h
  rw [ckb] at h
  obtain ⟨b, l2, rfl, hv, h⟩ := ck_some h
  have k1 := kk _ h
  obtain ⟨I, Rf, K, n, u⟩ := M
  subst h2
  exact S_aast hK h1 ht hv (ecl_ok _ ht.2 ht.1) h3 h4 hd k1
theorem P_aln {t : Nat} {e : Int} {κ : Int → Option α} (ht : t < 14) (hd : decode Y.2.1 pc = .ok (.arraylength, 1)) (h : (aln t e M).bind κ = some z) (kk : ∀ v, κ v = some z → Sem g d Y (pc + 1) ls ((0, v) :: st) M o) : Sem g d Y pc ls ((1, e) :: st) M o := by
  unfold aln at h
  split at h
  · next hc =>
    obtain ⟨a, rfl⟩ := Int.eq_ofNat_of_zero_le hc.1
    simp only [Int.toNat_natCast] at hc h
    have k1 := kk _ h
    obtain ⟨I, Rf, K, n, u⟩ := M
    exact S_alen (k := (K a).1) (l := (K a).2) rfl hc.2.1 (by rw [hc.2.2]; exact ht) hd k1
  · cases h
theorem P_nar {k t : Nat} {v : Int} {at' : ArrayType} {κ : Int × MM → Option α} (hk : 64 ≤ k) (hk2 : k % 16 < 3) (hat : newarray.typeOf at' = aty (k % 16)) (hq : Cond.arrayClass (newarray.typeOf at') ∈ lw_all) (hd : decode Y.2.1 pc = .ok (.newarray at', 2)) (h : (nar k v M).bind κ = some z) (kk : ∀ r : Int × MM, κ r = some z → Sem g d Y (pc + 2) ls ((1, r.1) :: st) r.2 o) : Sem g d Y pc ls ((0, v) :: st) M o := by
  unfold nar at h
  split at h
  · next hc =>
    exact S_newa hk hk2 hat hq (Int.toNat_of_nonneg hc.1).symm (by omega) hd (kk _ h)
  · cases h
theorem P_naa {k idx : Nat} {v : Int} {κ : Int × MM → Option α} (hk : 64 ≤ k) (hk2 : 3 ≤ k % 16 ∧ k % 16 < 14) (hq : Cond.classLink Y.1 idx (anm (k % 16)) ∈ lw_all) (hd : decode Y.2.1 pc = .ok (.anewarray idx, 3)) (h : (nar k v M).bind κ = some z) (kk : ∀ r : Int × MM, κ r = some z → Sem g d Y (pc + 3) ls ((1, r.1) :: st) r.2 o) : Sem g d Y pc ls ((0, v) :: st) M o := by
  unfold nar at h
  split at h
  · next hc =>
    exact S_anew hk hk2 hq (Int.toNat_of_nonneg hc.1).symm (by omega) hd (kk _ h)
  · cases h
theorem P_nob {idx ci l t : Nat} {κ : Int × MM → Option α} (hL : NL Y.1 idx ci) (hl : nfl ci = l) (hd : decode Y.2.1 pc = .ok (.new idx, 3)) (h : (nob ci l t M).bind κ = some z) (kk : ∀ r : Int × MM, κ r = some z → Sem g d Y (pc + 3) ls ((1, r.1) :: st) r.2 o) : Sem g d Y pc ls st M o := by
  subst hl
  have hci : ci < 63 := by obtain ⟨_, _, _, _, _, _, h, _⟩ := hL; exact h
  exact S_new hL hd (Sem.congr (M2 := nwo M ci (nfl ci) t) (fun H hH => Hold_nwo hci hH) rfl rfl (kk _ h))
def ctb (st : List AV) : Bool := Nat.ble ((st.map (fun v => if v.1 < 2 then 1 else 2)).sum) 8
def asb (as : List AV) : Bool := as.all (fun v => Nat.blt v.1 2)
theorem cv_cat (v : AV) : (cv g v).category ≤ (if v.1 < 2 then 1 else 2) := by
  by_cases h : v.1 < 2
  · rw [if_pos h, cv_cat1 h]; exact Nat.le_refl 1
  · rw [if_neg h]; cases cv g v <;> simp [Value.category]
theorem ctb_ok (h : ctb st = true) : ((st.map (cv g)).map fun v => v.category).sum ≤ 8 := by
  have key : ∀ l : List AV, ((l.map (cv g)).map fun v => v.category).sum ≤ (l.map (fun v => if v.1 < 2 then 1 else 2)).sum := by
    intro l
    induction l with
    | nil => exact Nat.le_refl _
    | cons a t ih =>
      simp only [List.map_cons, List.sum_cons]
      have := cv_cat (g := g) a
      omega
  exact Nat.le_trans (key st) (Nat.le_of_ble_eq_true h)
theorem asb_ok {as : List AV} (h : asb as = true) : ∀ v ∈ as, v.1 < 2 := fun v hv => by
  have := List.all_eq_true.mp h v hv
  exact Nat.blt_eq.mp this
theorem psh_v {t : Nat} {x : Int} (ht : Nat.blt t 2 = true) : psh (t, x) st = (t, x) :: st := by
  unfold psh
  rw [if_neg (by have := Nat.blt_eq.mp ht; show ¬ t = 9; omega)]
theorem psh_9 : psh (9, 0) st = st := rfl
theorem bind_some' {α β : Type} {x : Option α} {κ : α → Option β} {z : β} (h : x.bind κ = some z) : ∃ r, x = some r ∧ κ r = some z := by
  cases x with
  | none => cases h
  | some r => exact ⟨r, rfl, h⟩
def CS (Y' : YY) (n : Nat) : Prop := YO Y' ∧ YN Y' n ∧ Cond.static Y'.2.2.2.1 ∈ lw_all
def CV (Y' : YY) (n ci : Nat) : Prop := YO Y' ∧ YN Y' n ∧ Cond.instanceMethod Y'.2.2.2.1 ∈ lw_all ∧ Cond.selects Y'.2.2.2.1.cls Y'.2.2.2.1 Y'.2.2.2.1 ∈ lw_all ∧ ci < 63 ∧ (vwCl[ci]?).map (·.1) = some Y'.1
def CI (Y' : YY) (n : Nat) : Prop := YO Y' ∧ YN Y' n ∧ Y'.2.2.2.2 = none ∧ Cond.instanceMethod Y'.2.2.2.1 ∈ lw_all ∧ Y'.2.2.2.1.name = "<init>"
theorem P_invS {ρ : Type} {F : Option ρ} {κ : ρ → Option α} {idx n : Nat} (t : Nat) (rv : ρ → Int) (rm : ρ → MM) (as st : List AV) (hC : CS Y' n) (hL : ML Y.1 idx Y'.2.2.2.1) (hd : decode Y.2.1 pc = .ok (.invokestatic idx, 3)) (hn : as.length = n) (has : asb as = true) (hlen : Nat.ble as.length Y'.2.2.1 = true) (hcat : ctb st = true) (ht : Nat.blt t 2 = true) (hd1 : 1 ≤ d) (h : F.bind κ = some z)
    (hF : ∀ r, F = some r → Sem g (d - 1) Y' 0 (ini Y' as) [] M ((t, rv r), rm r)) (kk : ∀ r, κ r = some z → Sem g d Y (pc + 3) ls ((t, rv r) :: st) (rm r) o) : Sem g d Y pc ls (as.reverse ++ st) M o := by
  obtain ⟨r, h1, h2⟩ := bind_some' h
  exact S_invS hC.1 hC.2.1 hL hC.2.2 hd hn (asb_ok has) (Nat.le_of_ble_eq_true hlen) (ctb_ok hcat) (hF r h1) hd1 (by rw [psh_v ht]; exact kk r h2)
theorem P_invSm {ρ : Type} {F : Option ρ} {κ : ρ → Option α} {idx n : Nat} (rm : ρ → MM) (as st : List AV) (hC : CS Y' n) (hL : ML Y.1 idx Y'.2.2.2.1) (hd : decode Y.2.1 pc = .ok (.invokestatic idx, 3)) (hn : as.length = n) (has : asb as = true) (hlen : Nat.ble as.length Y'.2.2.1 = true) (hcat : ctb st = true) (hd1 : 1 ≤ d) (h : F.bind κ = some z)
    (hF : ∀ r, F = some r → Sem g (d - 1) Y' 0 (ini Y' as) [] M ((9, 0), rm r)) (kk : ∀ r, κ r = some z → Sem g d Y (pc + 3) ls st (rm r) o) : Sem g d Y pc ls (as.reverse ++ st) M o := by
  obtain ⟨r, h1, h2⟩ := bind_some' h
  exact S_invS hC.1 hC.2.1 hL hC.2.2 hd hn (asb_ok has) (Nat.le_of_ble_eq_true hlen) (ctb_ok hcat) (hF r h1) hd1 (kk r h2)
theorem P_invV {ρ : Type} {F : Option ρ} {κ : ρ → Option α} {idx n ci : Nat} {e : Int} (t : Nat) (rv : ρ → Int) (rm : ρ → MM) (as st : List AV) (hC : CV Y' n ci) (hL : ML Y.1 idx Y'.2.2.2.1) (hd : decode Y.2.1 pc = .ok (.invokevirtual idx, 3)) (hn : as.length = n) (has : asb as = true) (hlen : Nat.ble (as.length + 1) Y'.2.2.1 = true) (hcat : ctb st = true) (ht : Nat.blt t 2 = true) (hd1 : 1 ≤ d) (h : ck ci e M (F.bind κ) = some z)
    (hF : ∀ r, F = some r → Sem g (d - 1) Y' 0 (ini Y' ((1, e) :: as)) [] M ((t, rv r), rm r)) (kk : ∀ r, κ r = some z → Sem g d Y (pc + 3) ls ((t, rv r) :: st) (rm r) o) : Sem g d Y pc ls (as.reverse ++ (1, e) :: st) M o := by
  obtain ⟨a, l, rfl, hK, h⟩ := ck_some h
  obtain ⟨r, h1, h2⟩ := bind_some' h
  obtain ⟨c1, c2, c3, c4, c5, c6⟩ := hC
  exact S_invV c1 c2 hL c3 c4 hd hK c5 c6 hn (asb_ok has) (Nat.le_of_ble_eq_true hlen) (ctb_ok hcat) (hF r h1) hd1 (by rw [psh_v ht]; exact kk r h2)
theorem P_invVm {ρ : Type} {F : Option ρ} {κ : ρ → Option α} {idx n ci : Nat} {e : Int} (rm : ρ → MM) (as st : List AV) (hC : CV Y' n ci) (hL : ML Y.1 idx Y'.2.2.2.1) (hd : decode Y.2.1 pc = .ok (.invokevirtual idx, 3)) (hn : as.length = n) (has : asb as = true) (hlen : Nat.ble (as.length + 1) Y'.2.2.1 = true) (hcat : ctb st = true) (hd1 : 1 ≤ d) (h : ck ci e M (F.bind κ) = some z)
    (hF : ∀ r, F = some r → Sem g (d - 1) Y' 0 (ini Y' ((1, e) :: as)) [] M ((9, 0), rm r)) (kk : ∀ r, κ r = some z → Sem g d Y (pc + 3) ls st (rm r) o) : Sem g d Y pc ls (as.reverse ++ (1, e) :: st) M o := by
  obtain ⟨a, l, rfl, hK, h⟩ := ck_some h
  obtain ⟨r, h1, h2⟩ := bind_some' h
  obtain ⟨c1, c2, c3, c4, c5, c6⟩ := hC
  exact S_invV c1 c2 hL c3 c4 hd hK c5 c6 hn (asb_ok has) (Nat.le_of_ble_eq_true hlen) (ctb_ok hcat) (hF r h1) hd1 (kk r h2)
theorem P_invI {ρ : Type} {F : Option ρ} {κ : ρ → Option α} {idx n : Nat} {e : Int} (rm : ρ → MM) (as st : List AV) (hC : CI Y' n) (hL : ML Y.1 idx Y'.2.2.2.1) (hd : decode Y.2.1 pc = .ok (.invokespecial idx, 3)) (hn : as.length = n) (has : asb as = true) (hlen : Nat.ble (as.length + 1) Y'.2.2.1 = true) (hcat : ctb st = true) (hd1 : 1 ≤ d) (h : nn e (F.bind κ) = some z)
    (hF : ∀ r, F = some r → Sem g (d - 1) Y' 0 (ini Y' ((1, e) :: as)) [] M ((9, 0), rm r)) (kk : ∀ r, κ r = some z → Sem g d Y (pc + 3) ls st (rm r) o) : Sem g d Y pc ls (as.reverse ++ (1, e) :: st) M o := by
  unfold nn at h
  split at h
  · next hc =>
    obtain ⟨a, rfl⟩ := Int.eq_ofNat_of_zero_le hc
    obtain ⟨r, h1, h2⟩ := bind_some' h
    obtain ⟨c1, c2, c3, c4, c5⟩ := hC
    exact S_invI c1 c2 hL c3 c4 c5 hd hn (asb_ok has) (Nat.le_of_ble_eq_true hlen) (ctb_ok hcat) (hF r h1) hd1 (kk r h2)
  · cases h
theorem P_obj {idx : Nat} {e : Int} {X : Option α} (hq : Cond.methodLink Y.1 idx Lib.objectInit ∈ lw_all) (hd : decode Y.2.1 pc = .ok (.invokespecial idx, 3)) (hcat : ctb st = true) (h1 : 1 ≤ d) (h : nn e X = some z) (kk : X = some z → Sem g d Y (pc + 3) ls st M o) : Sem g d Y pc ls ((1, e) :: st) M o := by
  unfold nn at h
  split at h
  · next hc =>
    obtain ⟨a, rfl⟩ := Int.eq_ofNat_of_zero_le hc
    exact S_objInit hq hd (ctb_ok hcat) h1 (kk h)
  · cases h
def ckE {α : Type} (ci : Nat) (e : Int) (M : MM) (x y : Option α) : Option α := if 0 ≤ e ∧ (M.2.2.1 e.toNat).1 = ci then x else y
theorem ckE_some {ci : Nat} {e : Int} {x y : Option α} (h : ckE ci e M x y = some z) : ck ci e M x = some z ∨ y = some z := by
  unfold ckE at h
  unfold ck
  split at h
  · next hc => rw [if_pos hc]; exact Or.inl h
  · exact Or.inr h
/-- a method x of a class above, as the class number ci has it: Y' -/
def CP (Y' : YY) (x : MethodName) (n ci : Nat) : Prop := YO Y' ∧ (parseMethodDescriptor x.desc).map (fun d => d.parameters.length) = some n ∧ Cond.sameMethod x.cls x.cls x.name x.desc ∈ lw_all ∧ (x.cls ≠ "java/lang/invoke/MethodHandle" ∧ x.cls ≠ "java/lang/invoke/VarHandle") ∧ (Cond.declares x ∈ lw_tbl ∨ (Cond.instanceMethod x ∈ lw_all ∧ ∃ b0 m0 r0, Cond.code x b0 m0 r0 ∈ lw_all)) ∧ Cond.instanceMethod Y'.2.2.2.1 ∈ lw_all ∧ Cond.selects Y'.1 x Y'.2.2.2.1 ∈ lw_all ∧ ci < 63 ∧ (vwCl[ci]?).map (·.1) = some Y'.1
theorem P_invP {ρ : Type} {F : Option ρ} {κ : ρ → Option α} {idx n ci : Nat} {e : Int} {x : MethodName} (t : Nat) (rv : ρ → Int) (rm : ρ → MM) (as st : List AV) (hC : CP Y' x n ci) (hL : Cond.methodLink Y.1 idx x ∈ lw_all) (hd : decode Y.2.1 pc = .ok (.invokevirtual idx, 3)) (hn : as.length = n) (has : asb as = true) (hlen : Nat.ble (as.length + 1) Y'.2.2.1 = true) (hcat : ctb st = true) (ht : Nat.blt t 2 = true) (hd1 : 1 ≤ d) (h : ck ci e M (F.bind κ) = some z)
    (hF : ∀ r, F = some r → Sem g (d - 1) Y' 0 (ini Y' ((1, e) :: as)) [] M ((t, rv r), rm r)) (kk : ∀ r, κ r = some z → Sem g d Y (pc + 3) ls ((t, rv r) :: st) (rm r) o) : Sem g d Y pc ls (as.reverse ++ (1, e) :: st) M o := by
  obtain ⟨a, l, rfl, hK, h⟩ := ck_some h
  obtain ⟨r, h1, h2⟩ := bind_some' h
  obtain ⟨c1, c2, c3, c4, c5, c6, c7, c8, c9⟩ := hC
  exact S_invP c1 c2 hL c3 c4 c5 c6 c7 hd hK c8 c9 hn (asb_ok has) (Nat.le_of_ble_eq_true hlen) (ctb_ok hcat) (hF r h1) hd1 (by rw [psh_v ht]; exact kk r h2)
theorem P_invPm {ρ : Type} {F : Option ρ} {κ : ρ → Option α} {idx n ci : Nat} {e : Int} {x : MethodName} (rm : ρ → MM) (as st : List AV) (hC : CP Y' x n ci) (hL : Cond.methodLink Y.1 idx x ∈ lw_all) (hd : decode Y.2.1 pc = .ok (.invokevirtual idx, 3)) (hn : as.length = n) (has : asb as = true) (hlen : Nat.ble (as.length + 1) Y'.2.2.1 = true) (hcat : ctb st = true) (hd1 : 1 ≤ d) (h : ck ci e M (F.bind κ) = some z)
    (hF : ∀ r, F = some r → Sem g (d - 1) Y' 0 (ini Y' ((1, e) :: as)) [] M ((9, 0), rm r)) (kk : ∀ r, κ r = some z → Sem g d Y (pc + 3) ls st (rm r) o) : Sem g d Y pc ls (as.reverse ++ (1, e) :: st) M o := by
  obtain ⟨a, l, rfl, hK, h⟩ := ck_some h
  obtain ⟨r, h1, h2⟩ := bind_some' h
  obtain ⟨c1, c2, c3, c4, c5, c6, c7, c8, c9⟩ := hC
  exact S_invP c1 c2 hL c3 c4 c5 c6 c7 hd hK c8 c9 hn (asb_ok has) (Nat.le_of_ble_eq_true hlen) (ctb_ok hcat) (hF r h1) hd1 (kk r h2)
theorem P_cpb {idx : Nat} {e0 sp e1 dp len : Int} {κ : MM → Option α} (hL : Cond.methodLink Y.1 idx arraycopyName ∈ lw_all) (hd : decode Y.2.1 pc = .ok (.invokestatic idx, 3)) (hd1 : 1 ≤ d) (hcat : ctb st = true) (h : (cpb e0 sp e1 dp len M).bind κ = some z) (kk : ∀ M1, κ M1 = some z → Sem g d Y (pc + 3) ls st M1 o) : Sem g d Y pc ls ((0, len) :: (0, dp) :: (1, e1) :: (0, sp) :: (1, e0) :: st) M o := by
  unfold cpb at h
  split at h
  · next hc =>
    obtain ⟨a0, rfl⟩ := Int.eq_ofNat_of_zero_le hc.1
    obtain ⟨a1, rfl⟩ := Int.eq_ofNat_of_zero_le hc.2.1
    have k1 := kk _ h
    obtain ⟨I, Rf, K, n, u⟩ := M
    simp only [Int.toNat_natCast] at hc k1
    obtain ⟨-, -, c1, c2, c3, c4, c5, c6, c7, c8, c9⟩ := hc
    exact S_copyb (k0 := (K a0).1) (l0 := (K a0).2) (k1 := (K a1).1) (l1 := (K a1).2) hL hd rfl rfl ⟨c1, c2⟩ ⟨c3, c4⟩ c5 c6 c7 c8 c9 hd1 (ctb_ok hcat) k1
  · cases h
theorem P_dvi {x y : Int} {κ : Int → Option α} (hd : decode Y.2.1 pc = .ok (.idiv, 1)) (h : (dvi x y).bind κ = some z) (kk : ∀ v, κ v = some z → Sem g d Y (pc + 1) ls ((0, v) :: st) M o) : Sem g d Y pc ls ((0, y) :: (0, x) :: st) M o := by
  unfold dvi at h
  split at h
  · cases h
  · next hc => exact S_idiv hd hc (kk _ h)
theorem P_rmi {x y : Int} {κ : Int → Option α} (hd : decode Y.2.1 pc = .ok (.irem, 1)) (h : (rmi x y).bind κ = some z) (kk : ∀ v, κ v = some z → Sem g d Y (pc + 1) ls ((0, v) :: st) M o) : Sem g d Y pc ls ((0, y) :: (0, x) :: st) M o := by
  unfold rmi at h
  split at h
  · cases h
  · next hc => exact S_irem hd hc (kk _ h)
theorem P_rml {x y : Int} {κ : Int → Option α} (hd : decode Y.2.1 pc = .ok (.lrem, 1)) (h : (rml x y).bind κ = some z) (kk : ∀ v, κ v = some z → Sem g d Y (pc + 1) ls ((2, v) :: st) M o) : Sem g d Y pc ls ((2, y) :: (2, x) :: st) M o := by
  unfold rml at h
  split at h
  · cases h
  · next hc => exact S_lrem hd hc (kk _ h)
theorem P_sld {i : Int} {κ : Int → Option α} (hd : decode Y.2.1 pc = .ok (.iaload, 1)) (h : (sld g i).bind κ = some z) (kk : ∀ v, κ v = some z → Sem g d Y (pc + 1) ls ((0, v) :: st) M o) : Sem g d Y pc ls ((0, i) :: (1, -2) :: st) M o := by
  unfold sld at h
  split at h
  · next hc => exact S_sald hc.1 hc.2 hd (kk _ h)
  · cases h
theorem S_ldcw {i : Nat} {z : Int} (hq : Cond.constant Y.1 i (Int32.ofInt z) ∈ lw_all) (hd : decode Y.2.1 pc = .ok (.ldc_w i, 3)) (k : Sem g d Y (pc + 3) ls ((0, z) :: st) M o) : Sem g d Y pc ls st M o :=
  S_pure (fun p l e R s m args below meth c H locs cells slots Q arr hx hb ho ht hl w => lv_ldcw hx hb ho (ht _ hq) hd w) k
theorem P_icmp_eq {x y off : Int} {tgt : Nat} {A B : Option α} (hd : decode Y.2.1 pc = .ok (.if_icmp .eq off, 3)) (ht : (pc : Int) + off = (tgt : Int)) (h : (if w32 x = w32 y then A else B) = some z) (kt : A = some z → Sem g d Y tgt ls st M o) (kf : B = some z → Sem g d Y (pc + 3) ls st M o) : Sem g d Y pc ls ((0, y) :: (0, x) :: st) M o :=
  S_icmp_eq hd ht (fun hc => kt (by rw [if_pos hc] at h; exact h)) (fun hc => kf (by rw [if_neg hc] at h; exact h))
theorem P_icmp_ne {x y off : Int} {tgt : Nat} {A B : Option α} (hd : decode Y.2.1 pc = .ok (.if_icmp .ne off, 3)) (ht : (pc : Int) + off = (tgt : Int)) (h : (if w32 x = w32 y then A else B) = some z) (kt : B = some z → Sem g d Y tgt ls st M o) (kf : A = some z → Sem g d Y (pc + 3) ls st M o) : Sem g d Y pc ls ((0, y) :: (0, x) :: st) M o :=
  S_icmp_ne hd ht (fun hc => kt (by rw [if_neg hc] at h; exact h)) (fun hc => kf (by rw [if_pos hc] at h; exact h))
theorem P_icmp_lt {x y off : Int} {tgt : Nat} {A B : Option α} (hd : decode Y.2.1 pc = .ok (.if_icmp .lt off, 3)) (ht : (pc : Int) + off = (tgt : Int)) (h : (if w32 x < w32 y then A else B) = some z) (kt : A = some z → Sem g d Y tgt ls st M o) (kf : B = some z → Sem g d Y (pc + 3) ls st M o) : Sem g d Y pc ls ((0, y) :: (0, x) :: st) M o :=
  S_icmp_lt hd ht (fun hc => kt (by rw [if_pos hc] at h; exact h)) (fun hc => kf (by rw [if_neg hc] at h; exact h))
theorem P_icmp_ge {x y off : Int} {tgt : Nat} {A B : Option α} (hd : decode Y.2.1 pc = .ok (.if_icmp .ge off, 3)) (ht : (pc : Int) + off = (tgt : Int)) (h : (if w32 x < w32 y then A else B) = some z) (kt : B = some z → Sem g d Y tgt ls st M o) (kf : A = some z → Sem g d Y (pc + 3) ls st M o) : Sem g d Y pc ls ((0, y) :: (0, x) :: st) M o :=
  S_icmp_ge hd ht (fun hc => kt (by rw [if_neg hc] at h; exact h)) (fun hc => kf (by rw [if_pos hc] at h; exact h))
theorem P_icmp_gt {x y off : Int} {tgt : Nat} {A B : Option α} (hd : decode Y.2.1 pc = .ok (.if_icmp .gt off, 3)) (ht : (pc : Int) + off = (tgt : Int)) (h : (if w32 y < w32 x then A else B) = some z) (kt : A = some z → Sem g d Y tgt ls st M o) (kf : B = some z → Sem g d Y (pc + 3) ls st M o) : Sem g d Y pc ls ((0, y) :: (0, x) :: st) M o :=
  S_icmp_gt hd ht (fun hc => kt (by rw [if_pos hc] at h; exact h)) (fun hc => kf (by rw [if_neg hc] at h; exact h))
theorem P_icmp_le {x y off : Int} {tgt : Nat} {A B : Option α} (hd : decode Y.2.1 pc = .ok (.if_icmp .le off, 3)) (ht : (pc : Int) + off = (tgt : Int)) (h : (if w32 y < w32 x then A else B) = some z) (kt : B = some z → Sem g d Y tgt ls st M o) (kf : A = some z → Sem g d Y (pc + 3) ls st M o) : Sem g d Y pc ls ((0, y) :: (0, x) :: st) M o :=
  S_icmp_le hd ht (fun hc => kt (by rw [if_neg hc] at h; exact h)) (fun hc => kf (by rw [if_pos hc] at h; exact h))
theorem P_if_eq {x off : Int} {tgt : Nat} {A B : Option α} (hd : decode Y.2.1 pc = .ok (.ifCond .eq off, 3)) (ht : (pc : Int) + off = (tgt : Int)) (h : (if w32 x = 0 then A else B) = some z) (kt : A = some z → Sem g d Y tgt ls st M o) (kf : B = some z → Sem g d Y (pc + 3) ls st M o) : Sem g d Y pc ls ((0, x) :: st) M o :=
  S_if_eq hd ht (fun hc => kt (by rw [if_pos hc] at h; exact h)) (fun hc => kf (by rw [if_neg hc] at h; exact h))
theorem P_if_ne {x off : Int} {tgt : Nat} {A B : Option α} (hd : decode Y.2.1 pc = .ok (.ifCond .ne off, 3)) (ht : (pc : Int) + off = (tgt : Int)) (h : (if w32 x = 0 then A else B) = some z) (kt : B = some z → Sem g d Y tgt ls st M o) (kf : A = some z → Sem g d Y (pc + 3) ls st M o) : Sem g d Y pc ls ((0, x) :: st) M o :=
  S_if_ne hd ht (fun hc => kt (by rw [if_neg hc] at h; exact h)) (fun hc => kf (by rw [if_pos hc] at h; exact h))
theorem P_if_lt {x off : Int} {tgt : Nat} {A B : Option α} (hd : decode Y.2.1 pc = .ok (.ifCond .lt off, 3)) (ht : (pc : Int) + off = (tgt : Int)) (h : (if w32 x < 0 then A else B) = some z) (kt : A = some z → Sem g d Y tgt ls st M o) (kf : B = some z → Sem g d Y (pc + 3) ls st M o) : Sem g d Y pc ls ((0, x) :: st) M o :=
  S_if_lt hd ht (fun hc => kt (by rw [if_pos hc] at h; exact h)) (fun hc => kf (by rw [if_neg hc] at h; exact h))
theorem P_if_ge {x off : Int} {tgt : Nat} {A B : Option α} (hd : decode Y.2.1 pc = .ok (.ifCond .ge off, 3)) (ht : (pc : Int) + off = (tgt : Int)) (h : (if w32 x < 0 then A else B) = some z) (kt : B = some z → Sem g d Y tgt ls st M o) (kf : A = some z → Sem g d Y (pc + 3) ls st M o) : Sem g d Y pc ls ((0, x) :: st) M o :=
  S_if_ge hd ht (fun hc => kt (by rw [if_neg hc] at h; exact h)) (fun hc => kf (by rw [if_pos hc] at h; exact h))
theorem P_if_gt {x off : Int} {tgt : Nat} {A B : Option α} (hd : decode Y.2.1 pc = .ok (.ifCond .gt off, 3)) (ht : (pc : Int) + off = (tgt : Int)) (h : (if 0 < w32 x then A else B) = some z) (kt : A = some z → Sem g d Y tgt ls st M o) (kf : B = some z → Sem g d Y (pc + 3) ls st M o) : Sem g d Y pc ls ((0, x) :: st) M o :=
  S_if_gt hd ht (fun hc => kt (by rw [if_pos hc] at h; exact h)) (fun hc => kf (by rw [if_neg hc] at h; exact h))
theorem P_if_le {x off : Int} {tgt : Nat} {A B : Option α} (hd : decode Y.2.1 pc = .ok (.ifCond .le off, 3)) (ht : (pc : Int) + off = (tgt : Int)) (h : (if 0 < w32 x then A else B) = some z) (kt : B = some z → Sem g d Y tgt ls st M o) (kf : A = some z → Sem g d Y (pc + 3) ls st M o) : Sem g d Y pc ls ((0, x) :: st) M o :=
  S_if_le hd ht (fun hc => kt (by rw [if_neg hc] at h; exact h)) (fun hc => kf (by rw [if_pos hc] at h; exact h))
theorem P_ifnull {x off : Int} {tgt : Nat} {A B : Option α} (hd : decode Y.2.1 pc = .ok (.ifnull off, 3)) (ht : (pc : Int) + off = (tgt : Int)) (h : (if x = -1 then A else B) = some z) (kt : A = some z → Sem g d Y tgt ls st M o) (kf : B = some z → Sem g d Y (pc + 3) ls st M o) : Sem g d Y pc ls ((1, x) :: st) M o :=
  S_ifnull hd ht (fun hc => kt (by rw [if_pos hc] at h; exact h)) (fun hc => kf (by rw [if_neg hc] at h; exact h))
theorem P_ifnonnull {x off : Int} {tgt : Nat} {A B : Option α} (hd : decode Y.2.1 pc = .ok (.ifnonnull off, 3)) (ht : (pc : Int) + off = (tgt : Int)) (h : (if x = -1 then A else B) = some z) (kt : B = some z → Sem g d Y tgt ls st M o) (kf : A = some z → Sem g d Y (pc + 3) ls st M o) : Sem g d Y pc ls ((1, x) :: st) M o :=
  S_ifnonnull hd ht (fun hc => kt (by rw [if_neg hc] at h; exact h)) (fun hc => kf (by rw [if_pos hc] at h; exact h))
def aeq {α : Type} (x y : Int) (A B : Option α) : Option α := if -1 ≤ x ∧ -1 ≤ y then (if x = y then A else B) else none
theorem P_acmp_ne {x y off : Int} {tgt : Nat} {A B : Option α} (hd : decode Y.2.1 pc = .ok (.if_acmp .ne off, 3)) (ht : (pc : Int) + off = (tgt : Int)) (h : aeq x y A B = some z) (kt : B = some z → Sem g d Y tgt ls st M o) (kf : A = some z → Sem g d Y (pc + 3) ls st M o) : Sem g d Y pc ls ((1, y) :: (1, x) :: st) M o := by
  unfold aeq at h
  split at h
  · next hc => exact S_acmp_ne hd ht hc.1 hc.2 (fun q => kt (by rw [if_neg q] at h; exact h)) (fun q => kf (by rw [if_pos q] at h; exact h))
  · cases h
/-- a switch: the branches from lo on, then the default -/
def swt {α : Type} (v lo : Int) (l : List (Option α)) (D : Option α) : Option α := if lo ≤ v ∧ v - lo < l.length then l.getD (v - lo).toNat D else D
theorem P_swt {v dflt lo hi : Int} {offs : Array Int} {len : Nat} {l : List (Option α)} {D : Option α} (tg : List Nat) (td : Nat) (hd : decode Y.2.1 pc = .ok (.tableswitch dflt lo hi offs, len)) (hof : offs.toList.map (fun o => (pc : Int) + o) = tg.map (fun t : Nat => (t : Int))) (hsz : (l.length : Int) = hi - lo + 1) (hlt : tg.length = l.length) (hdf : (pc : Int) + dflt = (td : Int)) (h : swt (w32 v) lo l D = some z)
    (kk : ∀ i : Nat, ∀ X, l[i]? = some X → X = some z → ∀ t, tg[i]? = some t → Sem g d Y t ls st M o) (kd : D = some z → Sem g d Y td ls st M o) : Sem g d Y pc ls ((0, v) :: st) M o := by
  have hos : offs.size = l.length := by
    have := congrArg List.length hof
    simpa [hlt] using this
  refine S_table hd ?_ ?_ (by omega) hdf ?_
  · intro off tgt h1 h2 h3 h4
    unfold swt at h
    rw [if_pos (by omega)] at h
    have hi : (w32 v - lo).toNat < l.length := by omega
    rw [List.getD_eq_getElem?_getD, List.getElem?_eq_getElem hi, Option.getD_some] at h
    refine kk (w32 v - lo).toNat _ (List.getElem?_eq_getElem hi) h tgt ?_
    have e1 := congrArg (fun q => q[(w32 v - lo).toNat]?) hof
    simp only [List.getElem?_map, Array.getElem?_toList, h3, Option.map_some] at e1
    cases ht : tg[(w32 v - lo).toNat]? with
    | none => rw [ht] at e1; cases e1
    | some t =>
      rw [ht] at e1
      have := Option.some.inj e1
      simp only at this
      congr 1
      omega
  · intro i hi
    have hi2 : i < tg.length := by omega
    have e1 := congrArg (fun q => q[i]?) hof
    simp only [List.getElem?_map, Array.getElem?_toList, Array.getElem?_eq_getElem hi, List.getElem?_eq_getElem hi2, Option.map_some] at e1
    exact ⟨offs[i], tg[i], Array.getElem?_eq_getElem hi, Option.some.inj e1⟩
  · intro hc
    unfold swt at h
    rw [if_neg (by omega)] at h
    exact kd h
theorem P_ret {v : Int} {ty : FieldType} (hd : decode Y.2.1 pc = .ok (.ireturn, 1)) (hY : Y.2.2.2.2 = some ty) (hn : ty = .int ∨ (ty = .boolean ∧ (v = 0 ∨ v = 1))) : Sem g d Y pc ls [(0, v)] M ((0, v), M) := by
  refine S_ireturn hd ⟨ty, hY, ?_⟩
  rcases hn with rfl | ⟨rfl, rfl | rfl⟩ <;> rfl
theorem bz_some {v : Int} {x : Option α} (h : bz v x = some z) : (v = 0 ∨ v = 1) ∧ x = some z := by
  unfold bz at h
  split at h
  · next hc => exact ⟨hc, h⟩
  · cases h
end PRIM
