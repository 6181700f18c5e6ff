/-! an answer comes to a peer -/
def FD : Nat → Bool := fun z => z == 1 || z == 2 || z == 3 || z == 5 || z == 6 || z == 7 || z == 11 || z == 12 || z == 13 || z == 14
/-- cells of the reference that an event leaves alone -/
def kp1 (a i : Nat) : Prop := a = 157 ∨ a = 158 ∨ a = 163 ∨ a = 164 ∨ (173 ≤ a ∧ a ≤ 178) ∨ (a = 156 ∧ (i = 4 ∨ i = 142))
def Kp1 (V W : VV) : Prop := ∀ a i, kp1 a i → W a i = V a i
def JD (M : MM) (V : VV) (m al N : Nat) (pa : Nat → Nat) (own : Nat → Ky) (sd ps sn pu rf : Nat → Int) (tm : Int) (tk : Nat → Nat) (pb as : Nat → Option Nat) (nb : Nat) (Lb : Nat → List Trm) (LA : Nat → List Nat) (dn : Nat → Int) (KL : List Ky) (k K : Nat) (nS : Nat → Nat) (B : Nat × Nat) (Y : Ys) : Prop :=
  ∃ h lf b0 eg mn sto fa Z ev oth tn, JX M V m al N pa own sd ps sn pu rf tm tk pb as nb Lb LA dn KL k h lf b0 eg mn sto fa Z ev oth tn Y ∧ CTR N own nb K nS B lf b0 Z ev oth tn Y
/-- what both sides have after an event -/
def JR (r : Option MM) (r2 : Option VV) (M : MM) (V : VV) (m al N : Nat) (pa : Nat → Nat) (own : Nat → Ky) (sd ps sn pu rf : Nat → Int) (tm : Int) (tk : Nat → Nat) (pb as : Nat → Option Nat) (nb : Nat) (Lb : Nat → List Trm) (LA : Nat → List Nat) (dn : Nat → Int) (KL : List Ky) (k K : Nat) (nS : Nat → Nat) (B : Nat × Nat) (Y : Ys) (pp : Nat) : Prop :=
  ∃ M' V' Y', r = some M' ∧ r2 = some V' ∧ JD M' V' m al N pa own sd ps sn pu rf tm tk pb as nb Lb LA dn KL k K nS B Y' ∧ FK FD M M' ∧ Kp1 V V' ∧ YR Y Y' ∧ EQ pp (yw Y) (yw Y')
def tkV (x1 x2 : Int) (V2 : VV) : Option VV :=
  (f_X16_awaited x1 x2 V2).bind fun v6 =>
  if w32 v6 < 0 then (l2 172 160 ((5 * x1) + 1) V2).bind fun v8 => (s2 172 160 ((5 * x1) + 1) (v8 + 1) V2).bind fun V5 => some V5
  else (f_X16_see x1 272 0 x2 V2).bind fun V3 => (s2z 197 1280 v6 0 V3).bind fun V4 => (l2 204 1280 v6 V4).bind fun v7 =>
    if w32 v7 < 0 then j_X16_deliver_208 V4 else if w32 v7 < 0 then j_X16_deliver_172 v6 v7 0 V4 else j_X16_deliver_172 v6 v7 v7 V4
section JTAKE
variable {S : Nat → Bool} {M M1 : MM} {V V' V2 W : VV} {m al N p t t' nb oth Z L k kx n s K q : Nat} {pa tk : Nat → Nat} {own : Nat → Ky} {sd ps sn pu rf : Nat → Int} {tm ad x1 : Int} {lf : Nat → Nat} {b0 B : Nat × Nat} {h h' : Gh} {eg : EG} {pb as : Nat → Option Nat} {mn sto : Nat → Int} {fa : Nat → Nat} {Y Y0 Y1 Ya Y' : Ys} {Lb : Nat → List Trm} {LA : Nat → List Nat} {dn : Nat → Int} {ev tn nS : Nat → Nat} {w w' : Wd} {KL : List Ky} {key : Ky} {l : List Int} {r : Option MM} {y x : Rq} {R : List Rq} {lk0 : Nat → LkA} {r0 : Nat}
theorem Kp1.refl : Kp1 V V := fun _ _ _ => rfl
theorem Kp1.trans (h : Kp1 V W) (h2 : Kp1 W V') : Kp1 V V' := fun a i z => (h2 a i z).trans (h a i z)
theorem kp1_m {a i : Nat} (h : kp1 a i) : mv a i = 4 ∨ mv a i = 8 := by
  unfold kp1 at h
  unfold mv mvS mvA
  rcases h with h | h | h | h | ⟨h1, h2⟩ | ⟨h2, h | h⟩
  · right; rw [h]; rfl
  · right; rw [h]; rfl
  · right; rw [h]; rfl
  · right; rw [h]; rfl
  · left; rw [if_neg (by omega), if_neg (by omega), if_neg (by omega), if_neg (by omega), if_pos ⟨h1, h2⟩]
  · right; rw [h2, h]; rfl
  · right; rw [h2, h]; rfl
theorem Kp1_fr (f : FrV S V W) (h4 : S 4 = false) (h8 : S 8 = false) : Kp1 V W := fun a i z => f a i (by rcases kp1_m z with q | q <;> rw [q] <;> assumption)
theorem Kp1_fs {P : Nat → Nat → Prop} (f : FrS P V W) (h : ∀ a i, P a i → G5 (mv a i) = true) : Kp1 V W := Kp1_fr (G5_fs f h) rfl rfl
theorem Kp1_kp (h : KpV V W) : Kp1 V W := fun a i z => h.1 a i (by unfold kp1 at z; unfold kp0; omega)
theorem FD_11 (z : Nat) (h : F11 z = true) : FD z = true := by
  unfold F11 at h
  unfold FD
  simp only [Bool.or_eq_true, beq_iff_eq] at h ⊢
  omega
theorem FD_5 (z : Nat) (h : P5 z = true) : FD z = true := by
  unfold P5 at h
  unfold FD
  simp only [Bool.or_eq_true, beq_iff_eq] at h ⊢
  omega
theorem num_uq (h : R.Pairwise (fun a b => qNum a < qNum b)) (hx : x ∈ R) (hy : y ∈ R) (e : qNum x = qNum y) : x = y := by
  induction R with
  | nil => cases hx
  | cons z R ih =>
    obtain ⟨h1, h2⟩ := List.pairwise_cons.mp h
    rcases List.mem_cons.mp hx with a | a <;> rcases List.mem_cons.mp hy with b | b
    · rw [a, b]
    · have := h1 y b; rw [a] at e; omega
    · have := h1 x a; rw [b] at e; omega
    · exact ih h2 a b
theorem askY_mem {ty : Int} {bd : List Int} {wk : Option Nat} {pr : Option Int} (hy : y ∈ wQ w q) : y ∈ wQ (askY N own sd tm w p ad ty key bd wk pr).1 q := by
  unfold askY
  split
  · exact hy
  · show y ∈ fup (wQ w) p _ q
    by_cases c : q = p
    · rw [c, fup_eq]; rw [c] at hy; exact List.mem_append_left _ hy
    · rw [fup_ne c]; exact hy
theorem see_mem (hy : y ∈ wQ w q) : y ∈ wQ (seeY m N own sd tm w p key ad) q := by
  unfold seeY
  split
  · split
    · exact askY_mem (w := setT w _) hy
    · exact hy
  · exact hy
theorem wT_see (hq : q ≠ p) : wT (seeY m N own sd tm w p key ad) q = wT w q := by
  have e : ∀ (w : Wd) (x ty : Int) (ky' : Ky) (pr : Option Int), wT (askY N own sd tm w p x ty ky' [] none pr).1 = wT w := fun w x ty ky' pr => by unfold askY; split <;> rfl
  unfold seeY
  split
  · split
    · rw [e]; exact fup_ne hq
    · exact fup_ne hq
  · exact fup_ne hq
/-- slots in use stay in use -/
theorem sl_SK (h : SK V W) (hs : s ∈ slQ V p) : s ∈ slQ W p := by
  unfold slQ at hs ⊢
  obtain ⟨a, b⟩ := List.mem_filter.mp hs
  have b := of_decide_eq_true b
  exact List.mem_filter.mpr ⟨a, by rw [(h s b).1]; exact decide_eq_true b⟩
theorem sl_num (h : SK V W) (hs : s ∈ slQ V p) : qNum (gQ W s) = qNum (gQ V s) := (h s (of_decide_eq_true (List.mem_filter.mp hs).2)).2
/-- a sender's key -/
theorem j_key (hJ : JX M V m al N pa own sd ps sn pu rf tm tk pb as nb Lb LA dn KL k h lf b0 eg mn sto fa Z ev oth tn Y) (hN : 12 + N ≤ 44) (hq : PkC M 22 l) (hI : InV V l) (hb : isBL l) (hl : 25 ≤ l.length) : ∃ M' V', f_X4_getKey ((22 : Nat) : Int) 5 ((42 : Nat) : Int) M = some M' ∧ f_X16_keyAt 272 5 V = some V' ∧ JX M' V' m al N pa own sd ps sn pu rf tm tk pb as nb Lb LA dn KL k h lf b0 eg mn sto fa Z ev oth tn Y ∧ ky (kC M' 42) = kyP l 5 ∧ gk V' 272 0 = kyP l 5 ∧ FK (fun z => z == 7) M M' ∧ FrS (fun a _ => a = 272) V V' := by
  have hC := hJ.1.1.1.1
  have hu := hC.2.2.2.2.1.1
  obtain ⟨b1, b2, b3, b4, b5, b6, ⟨p1, p2, p3, p4, p5, p6⟩, b8, b9⟩ := id hC.1.1
  obtain ⟨M', a1, a2, a3⟩ := e_X4_getKey (p := 5) hq.1 p5 (by decide)
  have mo := BdS_mo hC.1.1
  obtain ⟨c1, c2⟩ := cp_board hC a3 (by decide) (fun z _ hz => by rw [hz]; exact mo.2.2.2.2.2.2.2.2.1.2)
  have f := c2 (fun z => z == 7) rfl
  obtain ⟨V', d1, d2, d3⟩ := v_keyIn (e := 272) (n := 5) (q := 5) hI hb ⟨by decide, by decide, by decide, by decide, by decide⟩ (by decide) (by decide) (by omega)
  refine ⟨M', V', a1, d1, JX_s hJ hN c1 f (by decide) (fun a i z => d3 a i (fun e => by rw [e, show mv 272 i = 9 from rfl] at z; cases z)), ?_, d2, f, d3⟩
  rw [show ky (kC M' 42) = ky (kB (bC M 22 5)) from ky_eq.mpr ⟨a2 0 (by decide), a2 1 (by decide), a2 2 (by decide), a2 3 (by decide), a2 4 (by decide)⟩, pk_key hq (by omega)]
theorem pay_none (hL : LksC M m (12 + N) pa lk0 lf eg) (hw : wkC M N pa lf r0 none) (h5 : (kd M r0).1 = 24) {X : Option MM} : (if rR M r0 9 = -1 then some M else (gfi 11 5 (rR M r0 9) M).bind fun v11 => (gfi 24 5 (r0 : Int) M).bind fun v12 => if w32 v11 = w32 v12 then X else some M) = some M := by
  rcases hw with z | ⟨t, t1, t2, t3⟩
  · rw [if_pos z]
  · rw [t2, if_neg (by omega), gfi_e (hL.2.2.1 t t1).1.1, gfi_e h5]
    simp only [Option.bind_some]
    rw [(hL.2.2.1 t t1).2.2.2.2, if_neg]
    intro e
    rw [show w32 ((lf t : Nat) : Int) = (lf t : Int) by rw [← (hL.2.2.1 t t1).2.2.2.2]; exact w32_rI, w32_rI] at e
    omega
theorem pay_some (hL : LksC M m (12 + N) pa lk0 lf eg) (hw : wkC M N pa lf r0 (some t)) (h5 : (kd M r0).1 = 24) {X : Option MM} : (if rR M r0 9 = -1 then some M else (gfi 11 5 (rR M r0 9) M).bind fun v11 => (gfi 24 5 (r0 : Int) M).bind fun v12 => if w32 v11 = w32 v12 then X else some M) = X := by
  obtain ⟨t1, t2, t3⟩ := hw
  rw [t2, if_neg (by omega), gfi_e (hL.2.2.1 t t1).1.1, gfi_e h5]
  simp only [Option.bind_some]
  rw [(hL.2.2.1 t t1).2.2.2.2, t3, if_pos rfl]
/-- what the class does behind `see` -/
def tkC (x0 x1 x2 x3 : Int) (M1 : MM) : Option MM :=
  ck 4 x2 M1 <| (f_X4_number x2 M1).bind fun v6 =>
  ck 17 x0 M1 <| (f_X17_find x0 v6 M1).bind fun v7 =>
  ck 17 x0 M1 <| (f_X17_remove x0 v7 M1).bind fun r1 =>
  (gfr 24 9 r1.1 r1.2).bind fun v8 =>
  (gfr 17 0 x0 r1.2).bind fun v9 =>
  (gfr 6 11 v9 r1.2).bind fun v10 =>
  ck 3 v10 r1.2 <| (f_X3_set v10 x3 r1.2).bind fun M2 =>
  if v8 = -1 then some M2
  else (gfi 11 5 v8 M2).bind fun v11 => (gfi 24 5 r1.1 M2).bind fun v12 =>
    if w32 v11 = w32 v12 then
      (gfi 24 6 r1.1 M2).bind fun v13 => (gfr 17 0 x0 M2).bind fun v14 => (gfr 6 11 v14 M2).bind fun v15 =>
      ck 11 v8 M2 <| (f_X11_answered v8 v13 v15 x2 M2).bind fun M3 => some M3
    else some M2
theorem aw_e {num : Int} {ty : Int} : awQ num ad ty key y = true ↔ (((qNum y = num ∧ qAdr y = ad) ∧ qTyp y = ty) ∧ qKey y = key) := by
  unfold awQ
  simp only [Bool.and_eq_true, decide_eq_true_eq]
theorem aw_f {num : Int} {ty : Int} (h : ¬ (((qNum y = num ∧ qAdr y = ad) ∧ qTyp y = ty) ∧ qKey y = key)) : awQ num ad ty key y = false := by
  cases c : awQ num ad ty key y with
  | false => rfl
  | true => exact absurd (aw_e.mp c) h
theorem wd4_w {f : Nat → Int} : w32 (wd4 f) = wd4 f := w32_w32 _
/-- whether the class takes an answer -/
theorem c_tk0 {b : Nat × Nat} (hC : CPs M m al N pa own sd ps sn pu rf tm lf b w h) (hO : okW N own tm w) (hp : p < N) (hq : PkC M 22 l) (hl : 25 ≤ l.length) (hc : ky (kC M 42) = key) (ha : 0 ≤ ad ∧ ad < 32) :
    (∀ y, y ∈ wQ w p → awQ (wdL l) ad (l.getD 0 0 - 1) key y = true → f_X17_takeAnswer ((pa p : Nat) : Int) ad ((22 : Nat) : Int) ((42 : Nat) : Int) M = ((f_X17_see ((pa p : Nat) : Int) ((42 : Nat) : Int) ad M).bind (tkC ((pa p : Nat) : Int) ad ((22 : Nat) : Int) ((42 : Nat) : Int)))) ∧ ((∀ y, y ∈ wQ w p → awQ (wdL l) ad (l.getD 0 0 - 1) key y = false) → f_X17_takeAnswer ((pa p : Nat) : Int) ad ((22 : Nat) : Int) ((42 : Nat) : Int) M = j_X17_takeAnswer_69 ((pa p : Nat) : Int) M) := by
  obtain ⟨c1, c2, c3, c4, c5, c6, c7, c8, c9⟩ := hC
  obtain ⟨pe, _⟩ := c5.2.2 p hp
  have k17 : (kd M (pa p)).1 = 17 := by rw [pe.1]
  have k4 : (kd M 22).1 = 4 := hq.1.1
  have k42 : isK M 42 := c1.1.2.2.2.2.2.2.1.2.2.2.2.1
  have hw : w32 (wdL l) = wdL l := wd4_w
  have ty := pk_b hq (q := 0) (by omega)
  have e0 : f_X17_takeAnswer ((pa p : Nat) : Int) ad ((22 : Nat) : Int) ((42 : Nat) : Int) M = (f_X17_find ((pa p : Nat) : Int) (wdL l) M).bind fun v2 => if w32 v2 = w32 (-1) then j_X17_takeAnswer_27 ((pa p : Nat) : Int) ad ((22 : Nat) : Int) ((42 : Nat) : Int) (-1) M else (gfr 17 8 ((pa p : Nat) : Int) M).bind fun v3 => (lar 11 v3 v2 M).bind fun v4 => j_X17_takeAnswer_27 ((pa p : Nat) : Int) ad ((22 : Nat) : Int) ((42 : Nat) : Int) v4 M := by
    unfold f_X17_takeAnswer
    rw [ck_e k4, pk_num hq (by omega), Option.bind_some, ck_e k17]
  rcases c_findQ c6 c5 hp hw with ⟨i, i1, i2, i3, i4⟩ | ⟨i2, i3⟩
  · obtain ⟨r1, r2, r3, r4, r5, r6, r7, r8, r9⟩ := c6.2.2.1 p hp
    have rq := r9 i i1
    have ir := (r6 i (by omega)).2
    have kr : (kd M ((h.2.2.2.2 p).2 i)).1 = 24 := by rw [ir.1]
    have e1 : f_X17_takeAnswer ((pa p : Nat) : Int) ad ((22 : Nat) : Int) ((42 : Nat) : Int) M = j_X17_takeAnswer_27 ((pa p : Nat) : Int) ad ((22 : Nat) : Int) ((42 : Nat) : Int) (((h.2.2.2.2 p).2 i : Nat) : Int) M := by
      rw [e0, i2, Option.bind_some, if_neg (by rw [w32_nn (by omega)]; show ¬ ((i : Nat) : Int) = -1; omega), gfr_e k17, Option.bind_some, pe.2.2.1.2.2.2.2.2.1, lar_e (k := 603) (l := 40) (j := i) r2 (by decide) (by decide) (w32_nn (by omega)) (by omega), Option.bind_some, (r6 i (by omega)).1]
    have okty : 0 ≤ qTyp ((wQ w p).getD i q0) ∧ qTyp ((wQ w p).getD i q0) < 256 := ((hO.2.2.2 p hp).2.2.2.2.2 _ (getD_mem i1)).2.2.1
    have yq : ∀ y, y ∈ wQ w p → qNum y = wdL l → y = (wQ w p).getD i q0 := fun y hy e => num_uq (hO.2.2.2 p hp).2.2.2.2.1 hy (getD_mem i1) (by rw [e, i3])
    have body : j_X17_takeAnswer_27 ((pa p : Nat) : Int) ad ((22 : Nat) : Int) ((42 : Nat) : Int) (((h.2.2.2.2 p).2 i : Nat) : Int) M = if qAdr ((wQ w p).getD i q0) = ad then (if qTyp ((wQ w p).getD i q0) + 1 = l.getD 0 0 then (if qKey ((wQ w p).getD i q0) = key then ((f_X17_see ((pa p : Nat) : Int) ((42 : Nat) : Int) ad M).bind (tkC ((pa p : Nat) : Int) ad ((22 : Nat) : Int) ((42 : Nat) : Int))) else j_X17_takeAnswer_69 ((pa p : Nat) : Int) M) else j_X17_takeAnswer_69 ((pa p : Nat) : Int) M) else j_X17_takeAnswer_69 ((pa p : Nat) : Int) M := by
      obtain ⟨q1, q2, q3, q4, q5, q6, q7, q8⟩ := rq
      have ky160 : kcom (kC M ((h.2.2.2.2 p).2 i + 1)) (kC M 42) = 160 ↔ qKey ((wQ w p).getD i q0) = key := by rw [kcom_160 (kC_ok _ _) (kC_ok _ _), ← ky_eq, q7, hc]
      have had : w32 ad = ad := w32_id (by omega) (by omega)
      have hty : rU M (22 + 1) 0 = l.getD 0 0 := hq.2.2.2 0 (by omega)
      have w2 : w32 (qTyp ((wQ w p).getD i q0) + 1) = qTyp ((wQ w p).getD i q0) + 1 := w32_id (by have := okty; omega) (by have := okty; omega)
      unfold j_X17_takeAnswer_27
      rw [if_neg (by omega), gfi_e kr, Option.bind_some, w32_rI, q2, had]
      by_cases z2 : qAdr ((wQ w p).getD i q0) = ad
      · rw [if_pos z2, if_pos z2, gfi_e kr, Option.bind_some, ck_e k4, e_type hq.1, Option.bind_some, hty, q3, w2, w32_id (by omega) (by omega)]
        by_cases z3 : qTyp ((wQ w p).getD i q0) + 1 = l.getD 0 0
        · rw [if_pos z3, if_pos z3, gfr_e kr, Option.bind_some, ir.2.1, ck_e ir.2.2.2.1.1, e_X3_is ir.2.2.2.1 k42, Option.bind_some]
          by_cases z4 : qKey ((wQ w p).getD i q0) = key
          · rw [if_pos (ky160.mpr z4), if_neg (by decide), if_pos z4, ck_e k17]
            rfl
          · rw [if_neg (fun e => z4 (ky160.mp e)), if_pos (by decide), if_neg z4]
        · rw [if_neg z3, if_neg z3]
      · rw [if_neg z2, if_neg z2]
    rw [e1, body]
    refine ⟨fun y hy e => ?_, fun hn => ?_⟩
    · obtain ⟨⟨⟨z1, z2⟩, z3⟩, z4⟩ := aw_e.mp e
      have := yq y hy z1
      rw [← this, if_pos z2, if_pos (by omega), if_pos z4]
    · have g := hn _ (getD_mem (d := q0) i1)
      by_cases z2 : qAdr ((wQ w p).getD i q0) = ad
      · by_cases z3 : qTyp ((wQ w p).getD i q0) + 1 = l.getD 0 0
        · by_cases z4 : qKey ((wQ w p).getD i q0) = key
          · rw [aw_e.mpr ⟨⟨⟨i3, z2⟩, by omega⟩, z4⟩] at g; cases g
          · rw [if_pos z2, if_pos z3, if_neg z4]
        · rw [if_pos z2, if_neg z3]
      · rw [if_neg z2]
  · refine ⟨fun y hy e => absurd (aw_e.mp e).1.1.1 (i3 y hy), fun _ => ?_⟩
    rw [e0, i2, Option.bind_some, if_pos rfl]
    unfold j_X17_takeAnswer_27
    rw [if_pos rfl]
end JTAKE
