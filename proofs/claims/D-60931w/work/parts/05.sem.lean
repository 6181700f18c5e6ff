/-! SEM: the machine seen through one flat memory of ints and references -/
def w32 (z : Int) : Int := (Int32.ofInt z).toInt
theorem w32_id {z : Int} (h1 : -2147483648 ≤ z) (h2 : z ≤ 2147483647) : w32 z = z := Int32.toInt_ofInt_of_le (by omega) (by omega)
theorem w32_lo (z : Int) : -2147483648 ≤ w32 z := by have := Int32.le_toInt (Int32.ofInt z); unfold w32; omega
theorem w32_hi (z : Int) : w32 z ≤ 2147483647 := by have := Int32.toInt_lt (Int32.ofInt z); unfold w32; omega
theorem ofInt_w32 (z : Int) : Int32.ofInt (w32 z) = Int32.ofInt z := Int32.ofInt_toInt _
theorem w32_w32 (z : Int) : w32 (w32 z) = w32 z := by unfold w32; rw [Int32.ofInt_toInt]
theorem w32_toInt (x : Int32) : w32 x.toInt = x.toInt := by unfold w32; rw [Int32.ofInt_toInt]
theorem w32_lt {x y : Int} : Int32.ofInt x < Int32.ofInt y ↔ w32 x < w32 y := Int32.lt_iff_toInt_lt
theorem w32_le {x y : Int} : Int32.ofInt x ≤ Int32.ofInt y ↔ w32 x ≤ w32 y := Int32.le_iff_toInt_le
theorem w32_eq {x y : Int} : Int32.ofInt x = Int32.ofInt y ↔ w32 x = w32 y := Int32.toInt_inj.symm
theorem w32_lt0 {x : Int} : Int32.ofInt x < 0 ↔ w32 x < 0 := Int32.lt_iff_toInt_lt
theorem w32_le0 {x : Int} : Int32.ofInt x ≤ 0 ↔ w32 x ≤ 0 := Int32.le_iff_toInt_le
theorem w32_0le {x : Int} : 0 ≤ Int32.ofInt x ↔ 0 ≤ w32 x := Int32.le_iff_toInt_le
theorem w32_0lt {x : Int} : 0 < Int32.ofInt x ↔ 0 < w32 x := Int32.lt_iff_toInt_lt
theorem w32_eq0 {x : Int} : Int32.ofInt x = 0 ↔ w32 x = 0 := Int32.toInt_inj.symm
theorem w32_clamp (z : Int) : (Int32.ofInt z).toNatClampNeg = (w32 z).toNat := rfl
theorem w32_in {z : Int} {n : Nat} (h1 : 0 ≤ w32 z) (h2 : w32 z < n) : vp_in (Int32.ofInt z) n := by
  unfold vp_in
  rw [w32_lt0, w32_clamp]
  omega
def idv (x y : Int) : Int := (w32 x).tdiv (w32 y)
def irm (x y : Int) : Int := (w32 x).tmod (w32 y)
def band (x y : Int) : Int := (Int32.ofInt x &&& Int32.ofInt y).toInt
def bor (x y : Int) : Int := (Int32.ofInt x ||| Int32.ofInt y).toInt
def bxor (x y : Int) : Int := (Int32.ofInt x ^^^ Int32.ofInt y).toInt
def bshl (x y : Int) : Int := (Int32.ofInt x <<< (Int32.ofInt y &&& 31)).toInt
def bshr (x y : Int) : Int := (Int32.ofInt x >>> (Int32.ofInt y &&& 31)).toInt
def bush (x y : Int) : Int := ((Int32.ofInt x).toUInt32 >>> ((Int32.ofInt y).toUInt32 &&& Int32.toUInt32 31)).toInt32.toInt
def sx8 (x : Int) : Int := (Int32.ofInt x).toInt8.toInt32.toInt
def lrm (x y : Int) : Int := (Int64.ofInt x).toInt.tmod (Int64.ofInt y).toInt
def lnd (x y : Int) : Int := (Int64.ofInt x &&& Int64.ofInt y).toInt
def lcv (x : Int) : Int := (Int64.ofInt x).toInt32.toInt
theorem ofInt_idv (x y : Int) : Int32.ofInt (idv x y) = Int32.ofInt x / Int32.ofInt y := by
  apply Int32.toInt_inj.mp
  rw [Int32.toInt_div, Int32.toInt_ofInt]
  rfl
theorem ofInt_irm (x y : Int) : Int32.ofInt (irm x y) = Int32.ofInt x - Int32.ofInt x / Int32.ofInt y * Int32.ofInt y := by
  have h : irm x y = w32 x - idv x y * w32 y := by
    unfold irm idv
    rw [Int.tmod_def, Int.mul_comm]
  rw [h, Int32.ofInt_sub, Int32.ofInt_mul, ofInt_idv, ofInt_w32, ofInt_w32]
theorem ofInt_lrm (x y : Int) : Int64.ofInt (lrm x y) = Int64.ofInt x - Int64.ofInt x / Int64.ofInt y * Int64.ofInt y := by
  have h : lrm x y = (Int64.ofInt x).toInt - (Int64.ofInt x / Int64.ofInt y).toInt * (Int64.ofInt y).toInt + ((Int64.ofInt x / Int64.ofInt y).toInt - (Int64.ofInt x).toInt.tdiv (Int64.ofInt y).toInt) * (Int64.ofInt y).toInt := by
    unfold lrm
    rw [Int.tmod_def, Int.sub_mul, Int.mul_comm (Int64.ofInt y).toInt]
    omega
  have h2 : Int64.ofInt (((Int64.ofInt x / Int64.ofInt y).toInt - (Int64.ofInt x).toInt.tdiv (Int64.ofInt y).toInt)) = 0 := by
    rw [Int64.ofInt_sub, Int64.ofInt_toInt]
    have : Int64.ofInt ((Int64.ofInt x).toInt.tdiv (Int64.ofInt y).toInt) = Int64.ofInt x / Int64.ofInt y := by
      apply Int64.toInt_inj.mp
      rw [Int64.toInt_div, Int64.toInt_ofInt]
    rw [this, Int64.sub_self]
  rw [h, Int64.ofInt_add, Int64.ofInt_mul, h2, Int64.zero_mul, Int64.add_zero, Int64.ofInt_sub, Int64.ofInt_mul]
  simp only [Int64.ofInt_toInt]
abbrev GG : Type := va_G × (Nat → ClassId) × Nat × Nat × Nat × (Nat → Int32)
abbrev gD (g : GG) : va_G := g.1
abbrev gca (g : GG) : Nat → ClassId := g.2.1
abbrev gb (g : GG) : Nat := g.2.2.1
abbrev gs (g : GG) : Nat := g.2.2.2.1
abbrev gL (g : GG) : Nat := g.2.2.2.2.1
abbrev gxs (g : GG) : Nat → Int32 := g.2.2.2.2.2
abbrev MM : Type := (Nat → Nat → Int) × (Nat → Nat → Int) × (Nat → Nat × Nat) × Nat × Nat
abbrev AV : Type := Nat × Int
abbrev YY : Type := String × ByteArray × Nat × MethodName × Option FieldType
def cvr (g : GG) (z : Int) : Option Nat := if z = -1 then none else if z = -2 then some (gs g) else some (gb g + z.toNat)
def cv (g : GG) (v : AV) : Value := if v.1 = 0 then .int (Int32.ofInt v.2) else if v.1 = 1 then va_rf (cvr g v.2) else .long (Int64.ofInt v.2)
def ftag (ci k : Nat) : Nat := (ftabs.getD ci []).getD k 0
def nfl (ci : Nat) : Nat := nfs.getD ci 0
def aty (t : Nat) : FieldType := atys.getD t .int
def anm (t : Nat) : String := anms.getD t ""
def rdv (M : MM) (t a i : Nat) : Int := if t = 1 then M.2.1 a i else if t = 2 then M.1 a i else w32 (M.1 a i)
def fvs (g : GG) (M : MM) (ci a : Nat) : List Value := (List.range (nfl ci)).map (fun i => cv g (ftag ci i, rdv M (ftag ci i) a i))
def acon (g : GG) (M : MM) (tc a : Nat) : ((Nat → Int32) ⊕ (Nat → Int64) ⊕ (Nat → UInt32) ⊕ (Nat → UInt64) ⊕ (Nat → Option Nat)) :=
  if tc = 1 then .inl (fun i => (Int32.ofInt (M.1 a i)).toInt8.toInt32) else if tc ≤ 2 then .inl (fun i => Int32.ofInt (M.1 a i)) else .inr (.inr (.inr (.inr (fun i => cvr g (M.2.1 a i)))))
def ce (g : GG) (M : MM) (a : Nat) : va_E :=
  if (M.2.2.1 a).1 < 64 then .inr ((M.2.2.1 a).1, fvs g M (M.2.2.1 a).1 a) else .inl (gca g ((M.2.2.1 a).1 % 16), (M.2.2.1 a).2, acon g M ((M.2.2.1 a).1 % 16) a)
def wso (g : GG) (M : MM) : va_W := (List.range M.2.2.2.1).map (fun a => (gb g + a, ce g M a))
def Hold (g : GG) (M : MM) (H : Heap) : Prop := H.size = gb g + M.2.2.2.1 ∧ va_P (gD g) vwCl (wso g M) H ∧ ∀ a, M.2.2.2.1 ≤ a → (M.2.2.1 a).1 = 63
def lsv (g : GG) (ls : List AV) : List (Nat × Value) := ls.zipIdx.filterMap (fun q => if q.1.1 < 3 then some (q.2, cv g q.1) else none)
def tyo (g : GG) : List (ClassId × FieldType) := (List.range 14).map (fun t => (gca g t, aty t))
def lwN (w : Cond) : Bool := match w with
  | .fieldLinkNest _ _ _ _ _ _ => true
  | .methodLinkNest _ _ _ _ => true
  | .declares _ => true
  | _ => false
def EnvOK (g : GG) (U : State) : Prop := va_K (gD g) vwCl (tyo g) U ∧ (∀ w ∈ lw_tbl, lwN w = true → va_Nw w U) ∧ (∀ t, 3 ≤ t → t < 14 → va_AO (anm t) U) ∧ gs g < gb g
abbrev gA (g : GG) : Nat → Prop := fun q => gb g ≤ q
def Cx (g : GG) (Y : YY) (p : Program) (s : State) (m : MethodId) (args : Array Value) (meth : Method) (c : Code) : Prop :=
  p.tables.exec = Jvm.exec ∧ c.code = Y.2.1 ∧ c.maxLocals = Y.2.2.1 ∧ s.vm.findClass Y.1 = some m.cls ∧ (∀ w ∈ lw_all, w.before args s = true) ∧ EnvOK g s ∧ va_X (gs g) (gL g) (gxs g) s s.heap ∧ gb g ≤ s.heap.size ∧ (Y.2.2.2.1.name = "<init>" → meth.name = "<init>")
def Rm (d : Nat) (R : Room) (cells slots : Nat) (M : MM) (o : AV × MM) : Prop := d ≤ R.frames ∧ 64 * d ≤ R.locals ∧ cells + o.2.2.2.2.1 ≤ R.cells + M.2.2.2.1 ∧ slots + o.2.2.2.2.2 ≤ R.slots + M.2.2.2.2
def RetAt (Y : YY) (pc : Nat) (v : AV) : Prop :=
  (v.1 = 0 ∧ decode Y.2.1 pc = .ok (.ireturn, 1) ∧ ∃ ty, Y.2.2.2.2 = some ty ∧ narrow ty (.int (Int32.ofInt v.2)) = .int (Int32.ofInt v.2)) ∨ (v.1 = 1 ∧ decode Y.2.1 pc = .ok (.areturn, 1) ∧ ∃ ty, Y.2.2.2.2 = some ty ∧ ((∃ n, ty = .object n) ∨ ∃ t, ty = .array t)) ∨ (v.1 = 9 ∧ decode Y.2.1 pc = .ok (.return_, 1) ∧ Y.2.2.2.2 = none)
def rst (g : GG) (v : AV) : List Value := if v.1 = 9 then [] else [cv g v]
def Sem (g : GG) (d : Nat) (Y : YY) (pc : Nat) (ls st : List AV) (M : MM) (o : AV × MM) : Prop :=
  (M.2.2.2.1 ≤ o.2.2.2.2.1 ∧ M.2.2.2.2 ≤ o.2.2.2.2.2) ∧
  ∀ (p : Program) (l : Launch) (e : Env) (R : Room) (s : State) (m : MethodId) (args : Array Value) (below : List Frame) (meth : Method) (c : Code) (H : Heap) (locs : List Loc) (cells slots : Nat) (Q : State → Prop) (arr : Array Slot),
    Cx g Y p s m args meth c → Rm d R cells slots M o → Hold g M H → va_S (gA g) s.heap H locs → lv_has arr Y.2.2.1 (lsv g ls) →
    (∀ (pc' : Nat) (arr' : Array Slot) (H' : Heap) (locs' : List Loc) (cells' slots' : Nat), cells' + M.2.2.2.1 = cells + o.2.2.2.2.1 → slots' + M.2.2.2.2 = slots + o.2.2.2.2.2 → RetAt Y pc' o.1 → Hold g o.2 H' → va_S (gA g) s.heap H' locs' → W p l e R s m args below meth c H' locs' cells' slots' Q (F0 m pc' arr' (rst g o.1))) →
    W p l e R s m args below meth c H locs cells slots Q (F0 m pc arr (st.map (cv g)))
section SEM
variable {g : GG} {d : Nat} {Y : YY} {pc : Nat} {ls st : List AV} {M : MM} {o : AV × MM}
theorem S_pure {pc' : Nat} {st' : List AV}
    (h : ∀ (p : Program) (l : Launch) (e : Env) (R : Room) (s : State) (m : MethodId) (args : Array Value) (below : List Frame) (meth : Method) (c : Code) (H : Heap) (locs : List Loc) (cells slots : Nat) (Q : State → Prop) (arr : Array Slot), p.tables.exec = Jvm.exec → c.code = Y.2.1 → s.vm.findClass Y.1 = some m.cls → (∀ w ∈ lw_all, w.before args s = true) → lv_has arr Y.2.2.1 (lsv g ls) →
      W p l e R s m args below meth c H locs cells slots Q (F0 m pc' arr (st'.map (cv g))) → W p l e R s m args below meth c H locs cells slots Q (F0 m pc arr (st.map (cv g))))
    (k : Sem g d Y pc' ls st' M o) : Sem g d Y pc ls st M o := by
  refine ⟨k.1, ?_⟩
  intro p l e R s m args below meth c H locs cells slots Q arr cx hr hH hS hl kk
  exact h p l e R s m args below meth c H locs cells slots Q arr cx.1 cx.2.1 cx.2.2.2.1 cx.2.2.2.2.1 hl (k.2 p l e R s m args below meth c H locs cells slots Q arr cx hr hH hS hl kk)
theorem cv0 (z : Int) : cv g (0, z) = .int (Int32.ofInt z) := rfl
theorem cv1 (z : Int) : cv g (1, z) = va_rf (cvr g z) := rfl
theorem cv2 (z : Int) : cv g (2, z) = .long (Int64.ofInt z) := rfl
theorem lsv_mem {i : Nat} {v : AV} (h : ls[i]? = some v) (hv : v.1 < 3) : (i, cv g v) ∈ lsv g ls := by
  unfold lsv
  refine List.mem_filterMap.mpr ⟨(v, i), ?_, by simp [hv]⟩
  exact List.mk_mem_zipIdx_iff_getElem?.mpr h
theorem lsv_get {arr : Array Slot} {nL i : Nat} {v : AV} (hl : lv_has arr nL (lsv g ls)) (h : ls[i]? = some v) (hv : v.1 < 3) : arr[i]? = some (.val (cv g v)) := hl.2.2 _ (lsv_mem h hv)
theorem S_iconst {n z : Int} (hd : decode Y.2.1 pc = .ok (.iconst n, 1)) (hz : n = z) (k : Sem g d Y (pc + 1) ls ((0, z) :: st) M o) : Sem g d Y pc ls st M o :=
  S_pure (fun p l e R s m args below meth c H locs cells slots Q arr hx hb ho ht hl w => lv_iconst hx hb hd rfl (by subst hz; exact w)) k
theorem S_bipush {n z : Int} (hd : decode Y.2.1 pc = .ok (.bipush n, 2)) (hz : (Int8.ofInt n).toInt32 = Int32.ofInt z) (k : Sem g d Y (pc + 2) ls ((0, z) :: st) M o) : Sem g d Y pc ls st M o :=
  S_pure (fun p l e R s m args below meth c H locs cells slots Q arr hx hb ho ht hl w => lv_bipush hx hb hd hz w) k
theorem S_sipush {n z : Int} (hd : decode Y.2.1 pc = .ok (.sipush n, 3)) (hz : (Int16.ofInt n).toInt32 = Int32.ofInt z) (k : Sem g d Y (pc + 3) ls ((0, z) :: st) M o) : Sem g d Y pc ls st M o :=
  S_pure (fun p l e R s m args below meth c H locs cells slots Q arr hx hb ho ht hl w => lv_sipush hx hb hd hz w) k
theorem S_ldc {i : Nat} {z : Int} (hq : Cond.constant Y.1 i (Int32.ofInt z) ∈ lw_all) (hd : decode Y.2.1 pc = .ok (.ldc i, 2)) (k : Sem g d Y (pc + 2) ls ((0, z) :: st) M o) : Sem g d Y pc ls st M o :=
  S_pure (fun p l e R s m args below meth c H locs cells slots Q arr hx hb ho ht hl w => lv_ldc hx hb ho (ht _ hq) hd w) k
theorem S_ldc2 {i : Nat} {z : Int} (hq : Cond.constantLong Y.1 i (Int64.ofInt z) ∈ lw_all) (hd : decode Y.2.1 pc = .ok (.ldc2_w i, 3)) (k : Sem g d Y (pc + 3) ls ((2, z) :: st) M o) : Sem g d Y pc ls st M o :=
  S_pure (fun p l e R s m args below meth c H locs cells slots Q arr hx hb ho ht hl w => lv_ldc2 hx hb ho (ht _ hq) hd w) k
theorem S_iload_n {n : Fin 4} {i : Nat} {z : Int} (hd : decode Y.2.1 pc = .ok (.iload_n n, 1)) (hi : (n : Nat) = i) (h : ls[i]? = some (0, z)) (k : Sem g d Y (pc + 1) ls ((0, z) :: st) M o) : Sem g d Y pc ls st M o :=
  S_pure (fun p l e R s m args below meth c H locs cells slots Q arr hx hb ho ht hl w => lv_iload_n hx hb hd hi (lsv_get hl h (Nat.le_of_ble_eq_true rfl)) w) k
theorem S_iload {i : Nat} {z : Int} (hd : decode Y.2.1 pc = .ok (.iload i, 2)) (h : ls[i]? = some (0, z)) (k : Sem g d Y (pc + 2) ls ((0, z) :: st) M o) : Sem g d Y pc ls st M o :=
  S_pure (fun p l e R s m args below meth c H locs cells slots Q arr hx hb ho ht hl w => lv_iload hx hb hd (lsv_get hl h (Nat.le_of_ble_eq_true rfl)) w) k
theorem S_lload_n {n : Fin 4} {i : Nat} {z : Int} (hd : decode Y.2.1 pc = .ok (.lload_n n, 1)) (hi : (n : Nat) = i) (h : ls[i]? = some (2, z)) (k : Sem g d Y (pc + 1) ls ((2, z) :: st) M o) : Sem g d Y pc ls st M o :=
  S_pure (fun p l e R s m args below meth c H locs cells slots Q arr hx hb ho ht hl w => lv_lload_n hx hb hd hi (lsv_get hl h (Nat.le_of_ble_eq_true rfl)) w) k
theorem S_lload {i : Nat} {z : Int} (hd : decode Y.2.1 pc = .ok (.lload i, 2)) (h : ls[i]? = some (2, z)) (k : Sem g d Y (pc + 2) ls ((2, z) :: st) M o) : Sem g d Y pc ls st M o :=
  S_pure (fun p l e R s m args below meth c H locs cells slots Q arr hx hb ho ht hl w => lv_lload hx hb hd (lsv_get hl h (Nat.le_of_ble_eq_true rfl)) w) k
theorem S_aload_n {n : Fin 4} {i : Nat} {z : Int} (hd : decode Y.2.1 pc = .ok (.aload_n n, 1)) (hi : (n : Nat) = i) (h : ls[i]? = some (1, z)) (k : Sem g d Y (pc + 1) ls ((1, z) :: st) M o) : Sem g d Y pc ls st M o := by
  refine S_pure (fun p l e R s m args below meth c H locs cells slots Q arr hx hb ho ht hl w => ?_) k
  have h1 := lsv_get hl h (Nat.le_of_ble_eq_true rfl)
  simp only [List.map_cons, cv1] at w h1
  cases hc : cvr g z with
  | none => rw [hc] at w h1; exact lv_aload_nN hx hb hd hi h1 w
  | some a => rw [hc] at w h1; exact lv_aload_n hx hb hd hi h1 w
theorem S_aload {i : Nat} {z : Int} (hd : decode Y.2.1 pc = .ok (.aload i, 2)) (h : ls[i]? = some (1, z)) (k : Sem g d Y (pc + 2) ls ((1, z) :: st) M o) : Sem g d Y pc ls st M o := by
  refine S_pure (fun p l e R s m args below meth c H locs cells slots Q arr hx hb ho ht hl w => ?_) k
  have h1 := lsv_get hl h (Nat.le_of_ble_eq_true rfl)
  simp only [List.map_cons, cv1] at w h1
  cases hc : cvr g z with
  | none => rw [hc] at w h1; exact lv_aloadN hx hb hd h1 w
  | some a => rw [hc] at w h1; exact lv_aload hx hb hd h1 w
theorem S_iadd {x y : Int} (hd : decode Y.2.1 pc = .ok (.iadd, 1)) (k : Sem g d Y (pc + 1) ls ((0, x + y) :: st) M o) : Sem g d Y pc ls ((0, y) :: (0, x) :: st) M o :=
  S_pure (fun p l e R s m args below meth c H locs cells slots Q arr hx hb ho ht hl w => lv_iadd hx hb hd (by rw [← Int32.ofInt_add]; exact w)) k
theorem S_isub {x y : Int} (hd : decode Y.2.1 pc = .ok (.isub, 1)) (k : Sem g d Y (pc + 1) ls ((0, x - y) :: st) M o) : Sem g d Y pc ls ((0, y) :: (0, x) :: st) M o :=
  S_pure (fun p l e R s m args below meth c H locs cells slots Q arr hx hb ho ht hl w => lv_isub hx hb hd (by rw [← Int32.ofInt_sub]; exact w)) k
theorem S_imul {x y : Int} (hd : decode Y.2.1 pc = .ok (.imul, 1)) (k : Sem g d Y (pc + 1) ls ((0, x * y) :: st) M o) : Sem g d Y pc ls ((0, y) :: (0, x) :: st) M o :=
  S_pure (fun p l e R s m args below meth c H locs cells slots Q arr hx hb ho ht hl w => lv_imul hx hb hd (by rw [← Int32.ofInt_mul]; exact w)) k
theorem S_ineg {x : Int} (hd : decode Y.2.1 pc = .ok (.ineg, 1)) (k : Sem g d Y (pc + 1) ls ((0, -x) :: st) M o) : Sem g d Y pc ls ((0, x) :: st) M o :=
  S_pure (fun p l e R s m args below meth c H locs cells slots Q arr hx hb ho ht hl w => lv_ineg hx hb hd (by rw [← Int32.ofInt_neg]; exact w)) k
theorem S_idiv {x y : Int} (hd : decode Y.2.1 pc = .ok (.idiv, 1)) (hy : w32 y ≠ 0) (k : Sem g d Y (pc + 1) ls ((0, idv x y) :: st) M o) : Sem g d Y pc ls ((0, y) :: (0, x) :: st) M o :=
  S_pure (fun p l e R s m args below meth c H locs cells slots Q arr hx hb ho ht hl w => lv_idiv hx hb hd (fun h => hy (w32_eq0.mp h)) (by rw [← ofInt_idv]; exact w)) k
theorem S_irem {x y : Int} (hd : decode Y.2.1 pc = .ok (.irem, 1)) (hy : w32 y ≠ 0) (k : Sem g d Y (pc + 1) ls ((0, irm x y) :: st) M o) : Sem g d Y pc ls ((0, y) :: (0, x) :: st) M o :=
  S_pure (fun p l e R s m args below meth c H locs cells slots Q arr hx hb ho ht hl w => lv_irem hx hb hd (fun h => hy (w32_eq0.mp h)) (by rw [← ofInt_irm]; exact w)) k
theorem S_iand {x y : Int} (hd : decode Y.2.1 pc = .ok (.iand, 1)) (k : Sem g d Y (pc + 1) ls ((0, band x y) :: st) M o) : Sem g d Y pc ls ((0, y) :: (0, x) :: st) M o :=
  S_pure (fun p l e R s m args below meth c H locs cells slots Q arr hx hb ho ht hl w => lv_iand hx hb hd (by simp only [List.map_cons, cv0, band, Int32.ofInt_toInt] at w; exact w)) k
theorem S_ior {x y : Int} (hd : decode Y.2.1 pc = .ok (.ior, 1)) (k : Sem g d Y (pc + 1) ls ((0, bor x y) :: st) M o) : Sem g d Y pc ls ((0, y) :: (0, x) :: st) M o :=
  S_pure (fun p l e R s m args below meth c H locs cells slots Q arr hx hb ho ht hl w => lv_ior hx hb hd (by simp only [List.map_cons, cv0, bor, Int32.ofInt_toInt] at w; exact w)) k
theorem S_ixor {x y : Int} (hd : decode Y.2.1 pc = .ok (.ixor, 1)) (k : Sem g d Y (pc + 1) ls ((0, bxor x y) :: st) M o) : Sem g d Y pc ls ((0, y) :: (0, x) :: st) M o :=
  S_pure (fun p l e R s m args below meth c H locs cells slots Q arr hx hb ho ht hl w => lv_ixor hx hb hd (by simp only [List.map_cons, cv0, bxor, Int32.ofInt_toInt] at w; exact w)) k
theorem S_ishl {x y : Int} (hd : decode Y.2.1 pc = .ok (.ishl, 1)) (k : Sem g d Y (pc + 1) ls ((0, bshl x y) :: st) M o) : Sem g d Y pc ls ((0, y) :: (0, x) :: st) M o :=
  S_pure (fun p l e R s m args below meth c H locs cells slots Q arr hx hb ho ht hl w => lv_ishl hx hb hd (by simp only [List.map_cons, cv0, bshl, Int32.ofInt_toInt] at w; exact w)) k
theorem S_ishr {x y : Int} (hd : decode Y.2.1 pc = .ok (.ishr, 1)) (k : Sem g d Y (pc + 1) ls ((0, bshr x y) :: st) M o) : Sem g d Y pc ls ((0, y) :: (0, x) :: st) M o :=
  S_pure (fun p l e R s m args below meth c H locs cells slots Q arr hx hb ho ht hl w => lv_ishr hx hb hd (by simp only [List.map_cons, cv0, bshr, Int32.ofInt_toInt] at w; exact w)) k
theorem S_iushr {x y : Int} (hd : decode Y.2.1 pc = .ok (.iushr, 1)) (k : Sem g d Y (pc + 1) ls ((0, bush x y) :: st) M o) : Sem g d Y pc ls ((0, y) :: (0, x) :: st) M o :=
  S_pure (fun p l e R s m args below meth c H locs cells slots Q arr hx hb ho ht hl w => lv_iushr hx hb hd rfl (by simp only [List.map_cons, cv0, bush, Int32.ofInt_toInt] at w; exact w)) k
theorem S_i2b {x : Int} (hd : decode Y.2.1 pc = .ok (.i2b, 1)) (k : Sem g d Y (pc + 1) ls ((0, sx8 x) :: st) M o) : Sem g d Y pc ls ((0, x) :: st) M o :=
  S_pure (fun p l e R s m args below meth c H locs cells slots Q arr hx hb ho ht hl w => lv_i2b hx hb hd rfl (by simp only [List.map_cons, cv0, sx8, Int32.ofInt_toInt] at w; exact w)) k
theorem S_i2l {x : Int} (hd : decode Y.2.1 pc = .ok (.i2l, 1)) (k : Sem g d Y (pc + 1) ls ((2, w32 x) :: st) M o) : Sem g d Y pc ls ((0, x) :: st) M o :=
  S_pure (fun p l e R s m args below meth c H locs cells slots Q arr hx hb ho ht hl w => lv_i2l (v := Int64.ofInt (w32 x)) hx hb hd (by apply Int64.toInt_inj.mp; rw [Int32.toInt_toInt64]; exact (Int64.toInt_ofInt_of_le (Int.le_trans (by decide) (w32_lo x)) (Int.lt_of_le_of_lt (w32_hi x) (by decide))).symm) w) k
theorem S_ladd {x y : Int} (hd : decode Y.2.1 pc = .ok (.ladd, 1)) (k : Sem g d Y (pc + 1) ls ((2, x + y) :: st) M o) : Sem g d Y pc ls ((2, y) :: (2, x) :: st) M o :=
  S_pure (fun p l e R s m args below meth c H locs cells slots Q arr hx hb ho ht hl w => lv_ladd hx hb hd (by rw [← Int64.ofInt_add]; exact w)) k
theorem S_lmul {x y : Int} (hd : decode Y.2.1 pc = .ok (.lmul, 1)) (k : Sem g d Y (pc + 1) ls ((2, x * y) :: st) M o) : Sem g d Y pc ls ((2, y) :: (2, x) :: st) M o :=
  S_pure (fun p l e R s m args below meth c H locs cells slots Q arr hx hb ho ht hl w => lv_lmul hx hb hd (by rw [← Int64.ofInt_mul]; exact w)) k
theorem S_land {x y : Int} (hd : decode Y.2.1 pc = .ok (.land, 1)) (k : Sem g d Y (pc + 1) ls ((2, lnd x y) :: st) M o) : Sem g d Y pc ls ((2, y) :: (2, x) :: st) M o :=
  S_pure (fun p l e R s m args below meth c H locs cells slots Q arr hx hb ho ht hl w => lv_land hx hb hd (by simp only [List.map_cons, cv2, lnd, Int64.ofInt_toInt] at w; exact w)) k
theorem S_lrem {x y : Int} (hd : decode Y.2.1 pc = .ok (.lrem, 1)) (hy : Int64.ofInt y ≠ 0) (k : Sem g d Y (pc + 1) ls ((2, lrm x y) :: st) M o) : Sem g d Y pc ls ((2, y) :: (2, x) :: st) M o :=
  S_pure (fun p l e R s m args below meth c H locs cells slots Q arr hx hb ho ht hl w => lv_lrem hx hb hd hy (by rw [← ofInt_lrm]; exact w)) k
theorem S_l2i {x : Int} (hd : decode Y.2.1 pc = .ok (.l2i, 1)) (k : Sem g d Y (pc + 1) ls ((0, lcv x) :: st) M o) : Sem g d Y pc ls ((2, x) :: st) M o :=
  S_pure (fun p l e R s m args below meth c H locs cells slots Q arr hx hb ho ht hl w => lv_l2i hx hb hd rfl (by simp only [List.map_cons, cv0, lcv, Int32.ofInt_toInt] at w; exact w)) k
theorem cv_cat1 {v : AV} (h : v.1 < 2) : (cv g v).category = 1 := by
  obtain ⟨t, z⟩ := v
  have : t = 0 ∨ t = 1 := by simp only at h; omega
  rcases this with rfl | rfl
  · rfl
  · rw [cv1]
    cases cvr g z <;> rfl
theorem S_dup {v : AV} (hd : decode Y.2.1 pc = .ok (.dup, 1)) (hv : v.1 < 2) (k : Sem g d Y (pc + 1) ls (v :: v :: st) M o) : Sem g d Y pc ls (v :: st) M o :=
  S_pure (fun p l e R s m args below meth c H locs cells slots Q arr hx hb ho ht hl w => lv_dup hx hb hd (cv_cat1 hv) w) k
theorem S_null (hd : decode Y.2.1 pc = .ok (.aconst_null, 1)) (k : Sem g d Y (pc + 1) ls ((1, -1) :: st) M o) : Sem g d Y pc ls st M o :=
  S_pure (fun p l e R s m args below meth c H locs cells slots Q arr hx hb ho ht hl w => lv_null hx hb hd w) k
theorem S_goto {off : Int} {tgt : Nat} (hd : decode Y.2.1 pc = .ok (.goto off, 3)) (ht : (pc : Int) + off = (tgt : Int)) (k : Sem g d Y tgt ls st M o) : Sem g d Y pc ls st M o :=
  S_pure (fun p l e R s m args below meth c H locs cells slots Q arr hx hb ho ht' hl w => lv_goto hx hb hd ht w) k
end SEM
