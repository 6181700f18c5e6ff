/-! stores: postings by keys, owners, documents -/
abbrev Post : Type := Ky × Int × Int × Int × Int
def pid (x : Post) : Ky × Int × Int := (x.1, x.2.1, x.2.2.1)
def pmz (x : Post) : Nat := kvl x.1 * 512 + x.2.1.toNat * 16 + x.2.2.1.toNat
def okP (x : Post) : Prop := kyo x.1 ∧ (0 ≤ x.2.1 ∧ x.2.1 < 32) ∧ (0 ≤ x.2.2.1 ∧ x.2.2.1 < 16) ∧ (1 ≤ x.2.2.2.1 ∧ x.2.2.2.1 ≤ 15) ∧ w32 x.2.2.2.2 = x.2.2.2.2
def okSt (S : List Post) : Prop := S.length ≤ 200 ∧ SrtM pmz S ∧ ∀ x, x ∈ S → okP x
theorem kvl_inj {x y : Ky} (hx : kyo x) (hy : kyo y) (h : kvl x = kvl y) : x = y := by
  unfold kvl kval at h
  have a0 := u32_lt (kf x 0); have a1 := u32_lt (kf x 1); have a2 := u32_lt (kf x 2); have a3 := u32_lt (kf x 3); have a4 := u32_lt (kf x 4)
  have b0 := u32_lt (kf y 0); have b1 := u32_lt (kf y 1); have b2 := u32_lt (kf y 2); have b3 := u32_lt (kf y 3); have b4 := u32_lt (kf y 4)
  rw [← ky_kf x, ← ky_kf y, ky_eq]
  exact ⟨u32_in (hx 0 (by decide)) (hy 0 (by decide)) (by omega), u32_in (hx 1 (by decide)) (hy 1 (by decide)) (by omega), u32_in (hx 2 (by decide)) (hy 2 (by decide)) (by omega), u32_in (hx 3 (by decide)) (hy 3 (by decide)) (by omega), u32_in (hx 4 (by decide)) (hy 4 (by decide)) (by omega)⟩
theorem pmz_inj {x y : Post} (hx : okP x) (hy : okP y) : pmz x = pmz y ↔ pid x = pid y := by
  obtain ⟨h1, h2, h3, -⟩ := hx
  obtain ⟨g1, g2, g3, -⟩ := hy
  unfold pmz pid
  constructor
  · intro h
    have e : kvl x.1 = kvl y.1 := by omega
    rw [kvl_inj h1 g1 e, show x.2.1 = y.2.1 by omega, show x.2.2.1 = y.2.2.1 by omega]
  · intro h
    simp only [Prod.mk.injEq] at h
    rw [h.1, h.2.1, h.2.2]
theorem okSt_nodup {S : List Post} (h : okSt S) : (S.map pid).Nodup := by
  rw [List.Nodup, List.pairwise_map]
  refine List.Pairwise.imp_of_mem (fun {a b} ha hb hab z => ?_) h.2.1
  have := (pmz_inj (h.2.2 a ha) (h.2.2 b hb)).mpr z
  omega
/-- one is stored -/
def putP (S : List Post) (x : Post) : List Post := insM pmz x (S.filter (fun y => decide (pid y ≠ pid x)))
theorem putP_mem {S : List Post} {x y : Post} : y ∈ putP S x ↔ y = x ∨ (y ∈ S ∧ pid y ≠ pid x) := by
  unfold putP
  rw [insM_mem, List.mem_filter]
  simp
theorem putP_srt {S : List Post} {x : Post} (hS : SrtM pmz S) (ho : ∀ y, y ∈ S → okP y) (hx : okP x) : SrtM pmz (putP S x) := by
  refine insM_srt pmz x _ (hS.filter _) (fun y hy z => ?_)
  have := List.mem_filter.mp hy
  have h2 : pid y ≠ pid x := by simpa using this.2
  exact h2 ((pmz_inj (ho y this.1) hx).mp z)
theorem putP_new {S : List Post} {x : Post} (h : ∀ y, y ∈ S → pid y ≠ pid x) : putP S x = insM pmz x S := by
  unfold putP
  rw [List.filter_eq_self.mpr (fun y hy => by simpa using h y hy)]
def gP (V : VV) (r : Nat) : Post := (gk V 211 (5 * r), vI V 212 r, vI V 213 r, vI V 214 r, vI V 215 r)
def postsV (V : VV) (p n : Nat) : List Post := rws (fun i => gP V (200 * p + i)) n
def StV (V : VV) (p : Nat) (S : List Post) : Prop := vI V 210 p = (S.length : Int) ∧ okSt S ∧ (postsV V p S.length).Perm S
def StsV (V : VV) (Ss : Nat → List Post) : Prop := ∀ p, p < 32 → StV V p (Ss p)
theorem m211 : mA 211 32000 := by refine ⟨?_, ?_, ?_, ?_, ?_⟩ <;> decide
def m3 : Nat → Bool := fun m => m == 3
theorem mv3 {a : Nat} (h : 210 ≤ a ∧ a ≤ 215) (i : Nat) : m3 (mv a i) = true := by
  have : a = 210 ∨ a = 211 ∨ a = 212 ∨ a = 213 ∨ a = 214 ∨ a = 215 := by omega
  rcases this with rfl | rfl | rfl | rfl | rfl | rfl <;> rfl
theorem gP_ext {V W : VV} {r r' : Nat} (h0 : gk W 211 (5 * r') = gk V 211 (5 * r)) (h1 : vI W 212 r' = vI V 212 r) (h2 : vI W 213 r' = vI V 213 r) (h3 : vI W 214 r' = vI V 214 r) (h4 : vI W 215 r' = vI V 215 r) : gP W r' = gP V r := by
  unfold gP
  rw [h0, h1, h2, h3, h4]
section VSTORE
variable {V W : VV} {p i : Nat} {S S' : List Post} {Ss : Nat → List Post} {x : Post} {e n q : Nat} {o d : Int}
theorem st_slot (h : StV V p S) (hi : i < S.length) : gP V (200 * p + i) ∈ S := by
  have hm : gP V (200 * p + i) ∈ postsV V p S.length := rws_mem.mpr ⟨i, hi, rfl⟩
  rwa [h.2.2.mem_iff] at hm
theorem st_row (h : StV V p S) (hx : x ∈ S) : ∃ i, i < S.length ∧ gP V (200 * p + i) = x := by
  rw [← h.2.2.mem_iff] at hx
  exact rws_mem.mp hx
theorem v_postingWith (h : StV V p S) (hp : p < 32) (he : mA e n) (hq : q + 5 ≤ n) (hn : n ≤ 1000000) (ho : w32 o = o) (hd : w32 d = d) : (∃ i, i < S.length ∧ f_X16_postingWith (p : Int) (e : Int) (q : Int) o d V = some ((200 * p + i : Nat) : Int) ∧ pid (gP V (200 * p + i)) = (gk V e q, o, d)) ∨ (f_X16_postingWith (p : Int) (e : Int) (q : Int) o d V = some (-1) ∧ ∀ y, y ∈ S → pid y ≠ (gk V e q, o, d)) := by
  have h210 := h.1
  have hl := h.2.1.1
  have hs := fun i (hi : i < S.length) => v_same (V := V) (p := 5 * (200 * p + i)) m211 (by omega) (by decide) he hq hn
  have r := lp_find (b := fun s : Int => b_X16_postingWith_7 (p : Int) (e : Int) (q : Int) o d s V) (fun i => ((200 * p + i : Nat) : Int)) S.length (fun i => decide (pid (gP V (200 * p + i)) = (gk V e q, o, d))) (fun i => some ((200 * p + i : Nat) : Int)) (some (-1))
    (fun i hi => by
      show b_X16_postingWith_7 (p : Int) (e : Int) (q : Int) o d ((200 * p + i : Nat) : Int) V = _
      have e1 : (211 : Int) = ((211 : Nat) : Int) := rfl
      have e2 : pid (gP V (200 * p + i)) = (gk V 211 (5 * (200 * p + i)), vI V 212 (200 * p + i), vI V 213 (200 * p + i)) := rfl
      unfold b_X16_postingWith_7 j_X16_postingWith_67
      simp (disch := omega) only [l2_n, w32_nn, w32_vI, c200m, c5m, cadd, cadd1, clt, h210, Option.bind_some, if_pos (show 200 * p + i < 200 * p + S.length by omega), e1, hs i hi, w32_b2i, b2i_0, ho, hd, e2, Prod.mk.injEq, decide_eq_true_eq, decide_eq_false_iff_not]
      grind)
    (by
      show b_X16_postingWith_7 (p : Int) (e : Int) (q : Int) o d ((200 * p + S.length : Nat) : Int) V = _
      unfold b_X16_postingWith_7
      simp (disch := omega) only [l2_n, w32_nn, clt, h210, c200m, cadd, Option.bind_some, Nat.lt_irrefl, if_false]) FU (by unfold FU; omega)
  have e0 : ((200 * p + 0 : Nat) : Int) = 200 * (p : Int) := by omega
  rw [e0] at r
  rcases r with ⟨i, hi, hc, -, e⟩ | ⟨hc, e⟩
  · exact Or.inl ⟨i, hi, e, by simpa using hc⟩
  · refine Or.inr ⟨e, fun y hy => ?_⟩
    obtain ⟨i, hi, rfl⟩ := st_row h hy
    simpa using hc i hi
theorem st_ag (h : StV V p S) (h210 : vI W 210 p = vI V 210 p) (hg : ∀ j, j < 200 → gP W (200 * p + j) = gP V (200 * p + j)) : StV W p S := by
  obtain ⟨h1, hT, h5⟩ := id h
  refine ⟨by rw [h210, h1], hT, ?_⟩
  rw [postsV, rws_congr (g := fun j => gP V (200 * p + j)) (fun j hj => hg j (by have := hT.1; omega))]
  exact h5
theorem sts_upd (h : StsV V Ss) (hp : StV W p S') (ho : ∀ q, q ≠ p → q < 32 → vI W 210 q = vI V 210 q ∧ ∀ j, j < 200 → gP W (200 * q + j) = gP V (200 * q + j)) : StsV W (fup Ss p S') := by
  intro q hq
  unfold fup
  by_cases c : q = p
  · rw [if_pos c, c]; exact hp
  · rw [if_neg c]
    exact st_ag (h q hq) (ho q c hq).1 (ho q c hq).2
theorem st_upd (h : StV V p S) (hi : i < S.length) (hx : okP x) (hid : pid (gP V (200 * p + i)) = pid x) (h210 : vI W 210 p = vI V 210 p) (hg : ∀ j, j < S.length → gP W (200 * p + j) = if j = i then x else gP V (200 * p + j)) : StV W p (putP S x) := by
  obtain ⟨h1, hS, h5⟩ := id h
  have hnd := okSt_nodup hS
  have hnd2 : ((postsV V p S.length).map pid).Nodup := (h5.map pid).nodup_iff.mpr hnd
  have hl : i < (postsV V p S.length).length := by rw [postsV, rws_len]; exact hi
  have e1 := er_filter pid (postsV V p S.length) i hl hnd2
  have e2 : (postsV V p S.length)[i] = gP V (200 * p + i) := by
    show (rws _ _)[i]'(by rw [rws_len]; exact hi) = _
    rw [rws_get]
  rw [e2, hid] at e1
  have pm : (postsV W p S.length).Perm (putP S x) := by
    refine (rws_set (f := fun j => gP V (200 * p + j)) (g := fun j => gP W (200 * p + j)) (b := x) hi hg).trans ?_
    show (x :: (postsV V p S.length).eraseIdx i).Perm _
    rw [e1]
    exact (List.Perm.cons x (h5.filter _)).trans (insM_perm pmz x _).symm
  have hlen : (putP S x).length = S.length := by rw [← pm.length_eq, postsV, rws_len]
  refine ⟨by rw [h210, h1, hlen], ⟨by rw [hlen]; exact hS.1, putP_srt hS.2.1 hS.2.2 hx, fun y hy => ?_⟩, by rw [hlen]; exact pm⟩
  rcases putP_mem.mp hy with rfl | hy
  · exact hx
  · exact hS.2.2 y hy.1
theorem st_add (h : StV V p S) (hl : S.length < 200) (hx : okP x) (hn : ∀ y, y ∈ S → pid y ≠ pid x) (h210 : vI W 210 p = ((S.length + 1 : Nat) : Int)) (hg : ∀ j, j < S.length → gP W (200 * p + j) = gP V (200 * p + j)) (hgn : gP W (200 * p + S.length) = x) : StV W p (putP S x) := by
  obtain ⟨h1, hS, h5⟩ := id h
  have hlen : (putP S x).length = S.length + 1 := by rw [putP_new hn, insM_len]
  refine ⟨by rw [h210, hlen], ⟨by rw [hlen]; omega, putP_srt hS.2.1 hS.2.2 hx, fun y hy => ?_⟩, ?_⟩
  · rcases putP_mem.mp hy with rfl | hy
    · exact hx
    · exact hS.2.2 y hy.1
  · rw [hlen]
    show (rws _ _).Perm _
    rw [rws_succ, rws_congr (g := fun j => gP V (200 * p + j)) hg, hgn, putP_new hn]
    refine (h5.append_right _).trans ?_
    exact (List.perm_append_singleton _ _).trans (insM_perm pmz x S).symm
end VSTORE
