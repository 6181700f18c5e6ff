/-! keys out of their bytes; the shape of what is stored -/
theorem wd4_by {v : Int} (h : w32 v = v) : wd4 (fun j => bush v ((8 * (3 - j) : Nat) : Int) % 256) = v := by
  unfold wd4
  have key : ∀ j, j < 4 → (bush v ((8 * j : Nat) : Int) % 256 : Int) = ((u32 v / 2 ^ (8 * j) % 256 : Nat) : Int) := fun j hj => by
    have e1 := u32_bush v (n := 8 * j) (by omega)
    have e2 := u32_emod (bush v ((8 * j : Nat) : Int))
    rw [Nat.shiftRight_eq_div_pow] at e1
    rw [e1] at e2
    generalize bush v ((8 * j : Nat) : Int) = b at *
    generalize u32 v / 2 ^ (8 * j) = u at *
    omega
  have k0 := key 3 (by omega)
  have k1 := key 2 (by omega)
  have k2 := key 1 (by omega)
  have k3 := key 0 (by omega)
  simp only [Nat.reduceMul, Nat.reducePow, Nat.reduceSub, Nat.div_one] at k0 k1 k2 k3 ⊢
  rw [k0, k1, k2, k3]
  have eu := u32_emod v
  have hu := u32_lt v
  have e : ((u32 v / 16777216 % 256 : Nat) : Int) * 16777216 + ((u32 v / 65536 % 256 : Nat) : Int) * 65536 + ((u32 v / 256 % 256 : Nat) : Int) * 256 + ((u32 v % 256 : Nat) : Int) = (u32 v : Int) := by omega
  rw [e, eu]
  refine Eq.trans ?_ h
  unfold w32
  rw [Int32.toInt_ofInt, Int32.toInt_ofInt]
  exact Int.emod_bmod v 4294967296
theorem kB_kby {x : KF} {f : Nat → Int} (hx : kok x) (h : ∀ i, i < 20 → f i = (kby x).getD i 0) : ∀ i, i < 5 → kB f i = x i := fun i hi => by
  unfold kB
  rw [← wd4_by (hx i hi)]
  have g : ∀ j, j < 4 → f (4 * i + j) = bush (x i) ((8 * (3 - j) : Nat) : Int) % 256 := fun j hj => by
    rw [h (4 * i + j) (by omega), List.getD_eq_getElem?_getD, kby_get x (4 * i + j) (by omega), show (4 * i + j) / 4 = i from by omega, show (4 * i + j) % 4 = j from by omega]
    rfl
  unfold wd4
  dsimp only
  rw [g 0 (by omega), g 1 (by omega), g 2 (by omega), g 3 (by omega)]
/-- a key that stands in bytes -/
theorem kyP_kbs {k : Ky} {l : List Int} {q : Nat} (hk : kyo k) (h : ∀ i, i < 20 → l.getD (q + i) 0 = (kbs k).getD i 0) : kyP l q = k := by
  unfold kyP
  have := kB_kby (f := fun i => l.getD (q + i) 0) hk h
  rw [← ky_kf k]
  exact ky_eq.mpr ⟨this 0 (by omega), this 1 (by omega), this 2 (by omega), this 3 (by omega), this 4 (by omega)⟩
theorem hdB_0 {ty num : Int} {x : KF} {r : List Int} (h : 0 ≤ ty ∧ ty < 256) : (hdB ty num x ++ r).getD 0 0 = ty := by
  unfold hdB
  rw [be1 h]; rfl
theorem app25 {ty num : Int} {x : KF} {r : List Int} {i : Nat} : (hdB ty num x ++ r).getD (25 + i) 0 = r.getD i 0 := by
  rw [getD_app, hdB_len, if_neg (by omega), show 25 + i - 25 = i from by omega]
theorem app45 {ty num : Int} {x : KF} {k : Ky} {r : List Int} {i : Nat} : (hdB ty num x ++ (kbs k ++ r)).getD (45 + i) 0 = r.getD i 0 := by
  rw [show 45 + i = 25 + (20 + i) from by omega, app25, getD_app, kbs_len, if_neg (by omega), show 20 + i - 20 = i from by omega]
theorem kyP25 {ty num : Int} {x : KF} {k : Ky} {r : List Int} (hk : kyo k) : kyP (hdB ty num x ++ (kbs k ++ r)) 25 = k := kyP_kbs hk (fun i hi => by rw [app25, getD_app, kbs_len, if_pos hi])
theorem be3_get {its : List It} {i : Nat} (hi : i < its.length) : (its.flatMap be3).getD (3 * i) 0 = (its.getD i it0).1 ∧ (its.flatMap be3).getD (3 * i + 1) 0 = (its.getD i it0).2.1 ∧ (its.flatMap be3).getD (3 * i + 2) 0 = (its.getD i it0).2.2 := by
  induction its generalizing i with
  | nil => exact absurd hi (by simp)
  | cons z its ih =>
    rw [List.flatMap_cons]
    cases i with
    | zero => exact ⟨rfl, rfl, rfl⟩
    | succ i =>
      have := ih (i := i) (by simpa using hi)
      rw [show 3 * (i + 1) = 3 * i + 3 from by omega]
      refine ⟨?_, ?_, ?_⟩
      · rw [getD_app, if_neg (by show ¬ 3 * i + 3 < 3; omega), show 3 * i + 3 - (be3 z).length = 3 * i from by show 3 * i + 3 - 3 = _; omega]; exact this.1
      · rw [getD_app, if_neg (by show ¬ 3 * i + 3 + 1 < 3; omega), show 3 * i + 3 + 1 - (be3 z).length = 3 * i + 1 from by show 3 * i + 3 + 1 - 3 = _; omega]; exact this.2.1
      · rw [getD_app, if_neg (by show ¬ 3 * i + 3 + 2 < 3; omega), show 3 * i + 3 + 2 - (be3 z).length = 3 * i + 2 from by show 3 * i + 3 + 2 - 3 = _; omega]; exact this.2.2
/-- what is stored is well formed -/
theorem wl_sto {own : Ky} {x : Trm} {p lim : Nat} {num : Int} (hx : okTr x) (hin : isInT lim x = true) (hp : p < 32) (hl : lim ≤ 16) : wellL (hdB 7 num (kf own) ++ stB x p lim) = true ∧ (hdB 7 num (kf own) ++ stB x p lim).getD 0 0 = 7 ∧ kyP (hdB 7 num (kf own) ++ stB x p lim) 25 = x.2.1 ∧ (hdB 7 num (kf own) ++ stB x p lim).getD 45 0 = (((pstT p lim x).length : Nat) : Int) ∧ rdI (hdB 7 num (kf own) ++ stB x p lim) 46 (pstT p lim x).length = pstT p lim x ∧ (hdB 7 num (kf own) ++ stB x p lim).length = 46 + 3 * (pstT p lim x).length ∧ 1 ≤ (pstT p lim x).length := by
  have po := pst_ok (d := lim) hx hl hp
  obtain ⟨its, hits⟩ : ∃ its, its = pstT p lim x := ⟨_, rfl⟩
  have n1 : 1 ≤ its.length := by
    rw [hits]
    unfold pstT
    rw [List.length_map]
    unfold isInT at hin
    rw [List.any_eq_true] at hin
    obtain ⟨d, d1, d2⟩ := hin
    exact List.length_pos_iff.mpr (fun z => by
      have : d ∈ (List.range lim).filter (fun d => decide (0 < x.2.2 d)) := List.mem_filter.mpr ⟨d1, d2⟩
      rw [z] at this; cases this)
  unfold stB
  rw [← hits] at po ⊢
  obtain ⟨l, hl0⟩ : ∃ l, l = hdB 7 num (kf own) ++ (kbs x.2.1 ++ (((its.length : Nat) : Int) :: its.flatMap be3)) := ⟨_, rfl⟩
  have len : l.length = 46 + 3 * its.length := by
    rw [hl0, List.length_append, List.length_append, hdB_len, kbs_len, List.length_cons, be3_flat]; omega
  have g0 : l.getD 0 0 = 7 := by rw [hl0]; exact hdB_0 (by decide)
  have g45 : l.getD 45 0 = ((its.length : Nat) : Int) := by
    have := app45 (ty := 7) (num := num) (x := kf own) (k := x.2.1) (r := ((its.length : Nat) : Int) :: its.flatMap be3) (i := 0)
    rw [hl0]; exact this
  have gi : ∀ i, l.getD (46 + i) 0 = (its.flatMap be3).getD i 0 := fun i => by
    have := app45 (ty := 7) (num := num) (x := kf own) (k := x.2.1) (r := ((its.length : Nat) : Int) :: its.flatMap be3) (i := i + 1)
    rw [hl0, show 46 + i = 45 + (i + 1) from by omega, this]; rfl
  have rd : rdI l 46 its.length = its := by
    refine List.ext_getElem (by unfold rdI; rw [List.length_map, List.length_range]) (fun i h1 h2 => ?_)
    have e0 : (rdI l 46 its.length)[i] = (l.getD (46 + 3 * i) 0, l.getD (46 + 3 * i + 1) 0, l.getD (46 + 3 * i + 2) 0) := by
      have := rdI_get (l := l) (p := 46) h2
      rw [gd_get h1] at this
      exact this
    rw [e0, gi (3 * i), show 46 + 3 * i + 1 = 46 + (3 * i + 1) from rfl, gi, show 46 + 3 * i + 2 = 46 + (3 * i + 2) from rfl, gi]
    obtain ⟨b1, b2, b3⟩ := be3_get (its := its) (i := i) h2
    rw [b1, b2, b3, gd_get h2]
  rw [← hl0]
  refine ⟨?_, g0, by rw [hl0]; exact kyP25 hx.2.2.1, g45, rd, len, n1⟩
  have po1 := po.1
  unfold wellL wellB
  rw [decide_eq_true (show 25 ≤ l.length by omega), Bool.true_and]
  show wellT l.length (fun i => l.getD i 0) (l.getD 0 0) = true
  unfold wellT
  rw [if_neg (by omega), if_neg (by omega), if_neg (by omega), if_neg (by omega), if_pos g0]
  unfold psW
  dsimp only
  have tn : (l.getD 45 0).toNat = its.length := by omega
  rw [decide_eq_true (show 45 < l.length by omega), decide_eq_true (show (1 : Int) ≤ l.getD 45 0 by omega), decide_eq_true (show l.getD 45 0 ≤ 16 by omega), decide_eq_true (show ((l.length : Nat) : Int) = ((45 : Nat) : Int) + 1 + ((3 : Nat) : Int) * l.getD 45 0 by omega), Bool.true_and, Bool.true_and, Bool.true_and, Bool.true_and, tn, alP_all]
  intro k hk
  obtain ⟨b1, b2, b3⟩ := be3_get (its := its) (i := k) hk
  have z := po.2 (its.getD k it0) (getD_mem hk)
  unfold okRw
  rw [show 45 + 1 + 3 * k = 46 + 3 * k from by omega]
  simp only [gi (3 * k), show 46 + 3 * k + 1 = 46 + (3 * k + 1) from rfl, gi, show 46 + 3 * k + 2 = 46 + (3 * k + 2) from rfl, b1, b2, b3]
  rw [decide_eq_true (show (its.getD k it0).1 < 32 by omega), decide_eq_true (show (its.getD k it0).2.1 < 16 by omega), decide_eq_true (show 0 < (its.getD k it0).2.2 by omega), decide_eq_true (show (its.getD k it0).2.2 < 16 by omega)]
  rfl
