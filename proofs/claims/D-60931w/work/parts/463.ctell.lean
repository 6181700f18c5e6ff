/-! what a task of the class is told -/
def AH (U : MM) (A : Nat) (l : List Int) : Prop := ∀ i, i < l.length → rI U A i = l.getD i 0
theorem AH_app {U : MM} {A : Nat} {l : List Int} {v : Int} (h : AH U A l) (hv : w32 v = v) : AH (sI U A l.length v) A (l ++ [v]) := fun i hi => by
  rw [List.length_append] at hi
  have hi : i < l.length + 1 := hi
  by_cases c : i = l.length
  · rw [c, rI_eq rfl, hv, List.getD_eq_getElem?_getD, List.getElem?_append_right (Nat.le_refl _), Nat.sub_self]; rfl
  · rw [rI_ne (fun z => c z.2), h i (by omega), List.getD_eq_getElem?_getD, List.getD_eq_getElem?_getD, List.getElem?_append_left (by omega)]
section CTELL
variable {M M1 M2 : MM} {m al N p t nb n wd r : Nat} {pa tk : Nat → Nat} {own : Nat → Ky} {sd ps sn pu rf : Nat → Int} {tm how : Int} {lf : Nat → Nat} {b0 : Nat × Nat} {h : Gh} {eg : EG} {pb as : Nat → Option Nat} {mn : Nat → Int} {fa : Nat → Nat} {Y : Ys} {l : List Int}
/-- a task behind tell -/
def tellM (M : MM) (a n wd : Nat) : MM := sR (nw (sI (sI M a 4 (n : Int)) a 5 (wd : Int)) 528 (n * wd)) a 6 ((nN M : Nat) : Int)
theorem c_tell0 {a : Nat} (hk : (kd M a).1 = 26) (hn : n * wd ≤ 180) (ha : a < nN M) : f_X26_tell (a : Int) (n : Int) (wd : Int) M = some (tellM M a n wd) ∧ ExA (fun z => z = a) M (tellM M a n wd) ∧ nN (tellM M a n wd) = nN M + 1 ∧ nU (tellM M a n wd) = nU M + n * wd ∧ kd (tellM M a n wd) (nN M) = (528, n * wd) := by
  unfold tellM
  refine ⟨?_, ?_, ?_, ?_, ?_⟩
  · unfold f_X26_tell
    rw [pfi_e hk, Option.bind_some, pfi_e (by rw [kd_sI]; exact hk), Option.bind_some, nar_e (j := n * wd) (by rw [show (n : Int) * (wd : Int) = ((n * wd : Nat) : Int) from by simp]; exact w32_nn (by omega)) (by omega), Option.bind_some]
    dsimp only
    rw [pfr_e (by rw [kd_nw, nN_sI, nN_sI, if_neg (by omega), kd_sI, kd_sI]; exact hk), Option.bind_some, nN_sI, nN_sI]
  · have e1 : ExA (fun z => z = a) M (sI (sI M a 4 (n : Int)) a 5 (wd : Int)) := ((ExC_sI (A := fun z => z = a) rfl).trans (ExC_sI (A := fun z => z = a) rfl)).exa
    exact (e1.trans ExA_nw).oldR rfl
  · rw [nN_sR, nN_nw, nN_sI, nN_sI]
  · rw [nU_sR, nU_nw, nU_sI, nU_sI]
  · rw [kd_sR, kd_nw, nN_sI, nN_sI, if_pos rfl]
/-- a work's record is told -/
theorem c_tellW (hC : CB M m al N pa own sd ps sn pu rf tm lf b0 eg tk pb as nb mn fa Y h) (hr : r < nb) (hk : yv Y 265 r = 1 ∨ yv Y 265 r = 3) (hwd : ((wd : Nat) : Int) = if yv Y 265 r = 1 then 6 else 3) (hl : l.length = n * wd) (hn : n * wd ≤ 180) (hx : ExC (fun z => z = nN M) (tellM M (tk r) n wd) M2) (hA : AH M2 (nN M) l) :
    CB M2 m al N pa own sd ps sn pu rf tm lf (b0.1 + 1, b0.2 + 180) eg tk pb as nb (fup mn r (n : Int)) (fup fa r (nN M)) (yw Y, yl Y, st2 (ys Y) 269 r (n : Int), tlQ r l (yq Y)) h ∧ toldF M2 (tk r) (st2 (ys Y) 269 r (n : Int)) (tlQ r l (yq Y)) (fup fa r (nN M)) r ∧ FK (fun z => z == 11) M M2 := by
  obtain ⟨hP, hL, hW, hT⟩ := hC
  have hu := hL.1
  have tc := hT.1 r hr
  have k26 : (kd M (tk r)).1 = 26 := by rw [tc.1]
  have ltk : tk r < nN M := hu.lt (by rw [k26]; decide)
  have wd6 : wd = 6 ∨ wd = 3 := by
    by_cases c : yv Y 265 r = 1
    · rw [if_pos c] at hwd; omega
    · rw [if_neg c] at hwd; omega
  have n60 : n ≤ 60 := by rcases wd6 with e | e <;> rw [e] at hn <;> omega
  obtain ⟨_, e2, e3, e4, e5⟩ := c_tell0 (M := M) k26 hn ltk
  have x2 : ExA (fun z => z = tk r) M M2 := e2.trC hx (fun z hz e => by omega)
  have f2 : FK (fun z => z == 11) M M2 := FK_exa x2 (fun z _ hz => by rw [hz, mo_cl1 k26 (by decide) (by decide)]; rfl)
  have nn2 : nN M2 = nN M + 1 := by rw [hx.nN, e3]
  have nu2 : nU M2 = nU M + n * wd := by rw [hx.nU, e4]
  have ne : tk r ≠ nN M := by omega
  have R : ∀ i, rI M2 (tk r) i = rI (tellM M (tk r) n wd) (tk r) i := fun i => hx.rI ne i
  have RI : ∀ i, rI M2 (tk r) i = if i = 5 then (wd : Int) else if i = 4 then (n : Int) else rI M (tk r) i := fun i => by
    rw [R]
    unfold tellM
    rw [rI_sR, rI_nw, nN_sI, nN_sI, if_neg ne, rI_sI, rI_sI]
    by_cases c5 : i = 5
    · rw [if_pos ⟨rfl, c5⟩, if_pos c5, w32_nn (by omega)]
    · rw [if_neg (fun z => c5 z.2), if_neg c5]
      by_cases c4 : i = 4
      · rw [if_pos ⟨rfl, c4⟩, if_pos c4, w32_nn (by omega)]
      · rw [if_neg (fun z => c4 z.2), if_neg c4]
  have R6 : rR M2 (tk r) 6 = ((nN M : Nat) : Int) := by
    rw [hx.rR ne]
    unfold tellM
    rw [rR_sR, if_pos ⟨rfl, rfl⟩]
  have told : toldF M2 (tk r) (st2 (ys Y) 269 r (n : Int)) (tlQ r l (yq Y)) (fup fa r (nN M)) r := by
    have eq : qR (tlQ r l (yq Y)) r = l := fup_eq
    unfold toldF
    rw [eq, fup_eq, vI_ne (by omega)]
    refine ⟨R6, by rw [hx.kd, e5, hl], fun i hi => hA i hi, ?_⟩
    rw [RI 5, if_pos rfl, hwd]
  refine ⟨⟨?_, LksC_fk f2 (by decide) hL, ?_, ?_, fun r' r2 h1 h2 => hT.2 r' r2 h1 h2⟩, told, f2⟩
  · have c1 := cp_w6 (d1 := 1) (d2 := 180) hP f2 (by decide) (BoC_fk f2 hu (by decide) hP.1) (by omega) (by omega)
    refine cp_b c1 ?_ ?_
    · show b0.1 + 3 * sumN (fun t => (eg t).1) (12 + N) + 1 ≤ b0.1 + 1 + 3 * sumN (fun t => (eg t).1) (12 + N)
      omega
    · show b0.2 + 10 * sumN (fun t => (eg t).1) (12 + N) + 180 ≤ b0.2 + 180 + 10 * sumN (fun t => (eg t).1) (12 + N)
      omega
  · have W1 := Wks_fk hL f2 (by decide) hW
    exact fun t' ht' => Wk12_ag (W1 t' ht') (fun _ => rfl) (fun _ => rfl) (fun _ => rfl) (fun _ a z => vI_ne (by omega)) (vI_ne (by omega))
  · intro r' hr'
    by_cases c : r' = r
    · rw [c]
      obtain ⟨t1, t2, t3, t4, t5, t6, t7, t8⟩ := tc
      have v : ∀ a, a ≠ 269 → vI (st2 (ys Y) 269 r (n : Int)) a r = yv Y a r := fun a z => vI_ne (by omega)
      refine ⟨by rw [x2.kd ltk]; exact t1, by rw [RI 0, if_neg (by decide), if_neg (by decide), v _ (by decide)]; exact t2, by rw [RI 1, if_neg (by decide), if_neg (by decide), v _ (by decide)]; exact t3, by rw [RI 2, if_neg (by decide), if_neg (by decide), v _ (by decide)]; exact t4, by rw [RI 3, if_neg (by decide), if_neg (by decide), v _ (by decide)]; exact t5, by rw [RI 4, if_neg (by decide), if_pos rfl, fup_eq], fun _ => told, fun z => absurd (by rw [v _ (by decide)]; exact hk) z⟩
    · exact Tk_ag hu (hT.1 r' hr') x2 (fun e => c (hT.2 r' r hr' hr e)) (fun x hx2 e => by rw [e, k26] at hx2; exact absurd hx2 (by decide)) (fun a z => vI_ne (by omega)) (fup_ne c) (fup_ne c) (fup_ne c)
end CTELL
