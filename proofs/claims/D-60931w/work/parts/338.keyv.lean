/-! keys as values -/
abbrev Ky : Type := Int × Int × Int × Int × Int
def ky (x : KF) : Ky := (x 0, x 1, x 2, x 3, x 4)
def kf (x : Ky) : KF := fun i => if i = 0 then x.1 else if i = 1 then x.2.1 else if i = 2 then x.2.2.1 else if i = 3 then x.2.2.2.1 else x.2.2.2.2
theorem ky_kf (x : Ky) : ky (kf x) = x := rfl
theorem kf_ky (x : KF) {i : Nat} (h : i < 5) : kf (ky x) i = x i := by
  have : i = 0 ∨ i = 1 ∨ i = 2 ∨ i = 3 ∨ i = 4 := by omega
  rcases this with rfl | rfl | rfl | rfl | rfl <;> rfl
theorem ky_eq {x y : KF} : ky x = ky y ↔ kq x y := by
  unfold ky kq
  simp only [Prod.mk.injEq]
def kc (x y : Ky) : Int := kcom (kf x) (kf y)
def kdi (x t : Ky) : Nat := kdst (kf x) (kf t)
def kvl (x : Ky) : Nat := kval (kf x)
def kyo (x : Ky) : Prop := kok (kf x)
theorem kc_ky (x y : KF) : kc (ky x) (ky y) = kcom x y := rfl
theorem kdi_ky (x y : KF) : kdi (ky x) (ky y) = kdst x y := rfl
theorem kvl_ky (x : KF) : kvl (ky x) = kval x := rfl
theorem kyo_ky {x : KF} (h : kok x) : kyo (ky x) := fun i hi => by rw [kf_ky x hi]; exact h i hi
theorem bxor_comm (x y : Int) : bxor x y = bxor y x := by
  unfold bxor
  rw [Int32.xor_comm]
theorem kc_comm (x y : Ky) : kc x y = kc y x := by
  unfold kc kcom
  simp only [bxor_comm (kf x _) (kf y _)]
theorem kc_160 {x y : Ky} (hx : kyo x) (hy : kyo y) : kc x y = 160 ↔ x = y := by
  have h := kcom_160 hx hy
  rw [← ky_eq, ky_kf, ky_kf] at h
  exact h
theorem kc_lo (x y : Ky) : 0 ≤ kc x y := kcom_lo _ _
theorem kc_hi (x y : Ky) : kc x y ≤ 160 := kcom_hi _ _
theorem u32_in {x y : Int} (hx : w32 x = x) (hy : w32 y = y) (h : u32 x = u32 y) : x = y := by
  rw [← hx, ← hy, w32_u32, w32_u32, h]
theorem kdi_inj {x y t : Ky} (hx : kyo x) (hy : kyo y) (h : kdi x t = kdi y t) : x = y := by
  have h := kdst_eq.mp h
  rw [← ky_kf x, ← ky_kf y, ky_eq]
  exact ⟨u32_in (hx 0 (by decide)) (hy 0 (by decide)) h.1, u32_in (hx 1 (by decide)) (hy 1 (by decide)) h.2.1, u32_in (hx 2 (by decide)) (hy 2 (by decide)) h.2.2.1, u32_in (hx 3 (by decide)) (hy 3 (by decide)) h.2.2.2.1, u32_in (hx 4 (by decide)) (hy 4 (by decide)) h.2.2.2.2⟩
/-- the reference's key in an array from a place on -/
def gk (V : VV) (e p : Nat) : Ky := ky (kV V e p)
theorem gk_ok (V : VV) (e p : Nat) : kyo (gk V e p) := kyo_ky (kV_ok V e p)
section GK
variable {V W : VV} {e n p e' n' p' e'' n'' p'' a b j k : Nat} {v : Int}
theorem gk_ext (h : ∀ i, i < 5 → vI W e' (p' + i) = vI V e (p + i)) : gk W e' p' = gk V e p := by
  rw [gk, gk, ky_eq]
  exact alleq_kq.mp h
theorem gk_st2 (h : e ≠ a) : gk (st2 V a k v) e p = gk V e p := gk_ext (fun i _ => vI_ne (fun q => h q.1))
theorem gk_kput (h : e ≠ a) : gk (kput V a b e' p') e p = gk V e p := gk_ext (fun i _ => by rw [kput_vI, if_neg (fun q => h q.1)])
theorem gk_kput2 (h : p + 5 ≤ b ∨ b + 5 ≤ p) : gk (kput V a b e' p') e p = gk V e p := gk_ext (fun i hi => by rw [kput_vI, if_neg (fun q => by omega)])
theorem gk_kput3 : gk (kput V a b e' p') a b = gk V e' p' := gk_ext (fun i hi => by rw [kput_vI, if_pos ⟨rfl, by omega, by omega⟩, show b + i - b = i by omega])
theorem vI_kput (h : e ≠ a) : vI (kput V a b e' p') e j = vI V e j := by rw [kput_vI, if_neg (fun q => h q.1)]
theorem v_same (h : mA e n) (hp : p + 5 ≤ n) (hn : n ≤ 1000000) (h' : mA e' n') (hp' : p' + 5 ≤ n') (hn' : n' ≤ 1000000) :
    f_X16_same (e : Int) (p : Int) (e' : Int) (p' : Int) V = some (b2i (decide (gk V e p = gk V e' p'))) := by
  rw [e_same h hp hn h' hp' hn']
  have hq : (eqs (kV V e p) (kV V e' p') 5 = true) ↔ gk V e p = gk V e' p' := by rw [eqs5, gk, gk, ky_eq]
  unfold b2i
  by_cases c : gk V e p = gk V e' p'
  · rw [if_pos (hq.mpr c), if_pos (decide_eq_true c)]
  · rw [if_neg (fun z => c (hq.mp z)), if_neg (by simpa using c)]
theorem v_common (h : mA e n) (hp : p + 5 ≤ n) (hn : n ≤ 1000000) (h' : mA e' n') (hp' : p' + 5 ≤ n') (hn' : n' ≤ 1000000) :
    f_X16_common (e : Int) (p : Int) (e' : Int) (p' : Int) V = some (kc (gk V e p) (gk V e' p')) := e_common h hp hn h' hp' hn'
theorem v_nearer (h : mA e n) (hp : p + 5 ≤ n) (hn : n ≤ 1000000) (h' : mA e' n') (hp' : p' + 5 ≤ n') (hn' : n' ≤ 1000000) (h'' : mA e'' n'') (hp'' : p'' + 5 ≤ n'') (hn'' : n'' ≤ 1000000) :
    f_X16_nearer (e : Int) (p : Int) (e' : Int) (p' : Int) (e'' : Int) (p'' : Int) V = some (b2i (decide (kdi (gk V e p) (gk V e'' p'') < kdi (gk V e' p') (gk V e'' p'')))) := by
  rw [e_nearer h hp hn h' hp' hn' h'' hp'' hn'']
  show some (if kdi (gk V e p) (gk V e'' p'') < kdi (gk V e' p') (gk V e'' p'') then 1 else 0) = _
  unfold b2i
  by_cases c : kdi (gk V e p) (gk V e'' p'') < kdi (gk V e' p') (gk V e'' p'')
  · rw [if_pos c, if_pos (decide_eq_true c)]
  · rw [if_neg c, if_neg (by simpa using c)]
theorem v_below (h : mA e n) (hp : p + 5 ≤ n) (hn : n ≤ 1000000) (h' : mA e' n') (hp' : p' + 5 ≤ n') (hn' : n' ≤ 1000000) :
    f_X16_below (e : Int) (p : Int) (e' : Int) (p' : Int) V = some (b2i (decide (kvl (gk V e p) < kvl (gk V e' p')))) := by
  rw [e_below h hp hn h' hp' hn']
  show some (if kvl (gk V e p) < kvl (gk V e' p') then 1 else 0) = _
  unfold b2i
  by_cases c : kvl (gk V e p) < kvl (gk V e' p')
  · rw [if_pos c, if_pos (decide_eq_true c)]
  · rw [if_neg c, if_neg (by simpa using c)]
end GK
theorem b2i_0 {b : Bool} : b2i b = 0 ↔ b = false := by cases b <;> decide
theorem b2i_1 {b : Bool} : b2i b = 1 ↔ b = true := by cases b <;> decide
theorem b2i_inj {b c : Bool} : b2i b = b2i c ↔ b = c := by cases b <;> cases c <;> decide
theorem b2i_v {b : Bool} : b2i b = 0 ∨ b2i b = 1 := by cases b <;> decide
