/-! the class's net (19): settings 20, flying 21, inbox 22 -/
abbrev Dg : Type := Int × Int × Int × List Int
def fup {α : Type} (f : Nat → α) (k : Nat) (v : α) : Nat → α := fun i => if i = k then v else f i
def sdn (s : Int) : Int := band (s * 1103515245 + 12345) 2147483647
def drw (s : Int) : Int := sdn s / 65536
theorem sdn_lo (s : Int) : 0 ≤ sdn s ∧ sdn s < 2147483648 := by
  have h := u32_band (s * 1103515245 + 12345) 2147483647
  rw [show u32 2147483647 = 2 ^ 31 - 1 by decide, Nat.and_two_pow_sub_one_eq_mod] at h
  have h3 : w32 (sdn s) = sdn s := w32_toInt _
  have h4 := w32_u32 (sdn s)
  have h5 : u32 (sdn s) < 2147483648 := by show u32 (band _ _) < _; rw [h]; omega
  rw [if_pos h5] at h4
  omega
theorem drw_lo (s : Int) : 0 ≤ drw s ∧ drw s < 32768 := by
  have := sdn_lo s
  unfold drw
  omega
def isD (M : MM) (d : Nat) : Prop := kd M d = (25, 29) ∧ rR M d 3 = ((d + 1 : Nat) : Int) ∧ kd M (d + 1) = (4, 28) ∧ isP M (d + 1)
def DgC (M : MM) (d : Nat) (x : Dg) : Prop := isD M d ∧ rI M d 0 = x.1 ∧ rI M d 1 = x.2.1 ∧ rI M d 2 = x.2.2.1 ∧ PkC M (d + 1) x.2.2.2
def NetS (M : MM) : Prop := kd M 19 = (7, 3) ∧ rR M 19 0 = ((20 : Nat) : Int) ∧ rR M 19 1 = ((21 : Nat) : Int) ∧ rR M 19 5 = ((22 : Nat) : Int) ∧ kd M 20 = (128, 11) ∧ kd M 21 = (149, 400) ∧ kd M 22 = (4, 2) ∧ isP M 22
def dg0 : Dg := (0, 0, 0, [])
def FlyC (M : MM) (D : Nat → Nat) (fA : Nat) (fl : List Dg) : Prop := fA ≤ 400 ∧ fl.length ≤ fA ∧ (∀ i j, i < fA → j < fA → D i = D j → i = j) ∧ (∀ i, i < fA → rR M 21 i = ((D i : Nat) : Int) ∧ isD M (D i)) ∧ (∀ i, fA ≤ i → i < 400 → rR M 21 i = -1) ∧ ∀ i, i < fl.length → DgC M (D i) (fl.getD i dg0)
/-- settings, time, lost ones, the datagrams in flight, how many Datagram objects there are -/
def NetRep (M : MM) (st : Nat → Int) (tm lo : Int) (fl : List Dg) (fA : Nat) : Prop := NetS M ∧ (∀ i, i < 11 → rI M 20 i = st i) ∧ rI M 19 3 = tm ∧ rI M 19 4 = lo ∧ rI M 19 2 = (fl.length : Int) ∧ ∃ D : Nat → Nat, FlyC M D fA fl
def m1 : Nat → Bool := fun m => m == 1
theorem mo_obj {M : MM} {a c t : Nat} (h : kd M a = (c, t)) (hc : c < 64) (ht : t ≠ 1) : mo M a = moC c t := by
  unfold mo moO
  rw [h, if_pos hc, if_neg (fun q => ht q.2)]
theorem mo_arr {M : MM} {a k l : Nat} (h : kd M a = (k, l)) (hk : 64 ≤ k) (h2 : k ≠ 64 ∧ k ≠ 113 ∧ k ≠ 81 ∧ k ≠ 320 ∧ k ≠ 97 ∧ k ≠ 336 ∧ k ≠ 352) : mo M a = moA k := by
  unfold mo
  rw [h]
  simp only
  rw [if_neg (by omega), if_neg (by omega), if_neg (by omega), if_neg (by omega)]
theorem mo_lb1 {M : MM} {a k l c t : Nat} (h : kd M (a + 1) = (k, l)) (hk : k = 64 ∨ k = 113 ∨ k = 81 ∨ k = 320) (h2 : kd M a = (c, t)) (ht : t ≠ 1) : mo M (a + 1) = moC c t := by
  unfold mo moO
  rw [h]
  simp only
  rw [if_neg (by omega), if_pos hk, show a + 1 - 1 = a from rfl, h2]
  exact if_neg (fun q => ht q.2)
theorem mo19 {M : MM} (h : NetS M) : mo M 19 = 1 := mo_obj h.1 (by decide) (by decide)
theorem mo20 {M : MM} (h : NetS M) : mo M 20 = 1 := mo_arr h.2.2.2.2.1 (by decide) (by decide)
theorem mo21 {M : MM} (h : NetS M) : mo M 21 = 1 := mo_arr h.2.2.2.2.2.1 (by decide) (by decide)
theorem mo_isD {M : MM} {d : Nat} (h : isD M d) : mo M d = 1 ∧ mo M (d + 1) = 1 ∧ mo M (d + 2) = 1 := by
  exact ⟨mo_obj h.1 (by decide) (by decide), mo_obj h.2.2.1 (by decide) (by decide), mo_lb1 h.2.2.2.2.2 (Or.inr (Or.inl rfl)) h.2.2.1 (by decide)⟩
theorem NetS.ex {A : Nat → Prop} {M M1 : MM} (h : Ex A M M1) (hs : NetS M) : NetS M1 := by
  obtain ⟨h1, h2, h3, h4, h5, h6, h7, h8⟩ := hs
  exact ⟨by rw [h.kd]; exact h1, by rw [h.rR]; exact h2, by rw [h.rR]; exact h3, by rw [h.rR]; exact h4, by rw [h.kd]; exact h5, by rw [h.kd]; exact h6, by rw [h.kd]; exact h7, h8.ex h⟩
theorem isD.ex {A : Nat → Prop} {M M1 : MM} {d : Nat} (h : Ex A M M1) (hs : isD M d) : isD M1 d := ⟨by rw [h.kd]; exact hs.1, by rw [h.rR]; exact hs.2.1, by rw [h.kd]; exact hs.2.2.1, hs.2.2.2.ex h⟩
theorem DgC.ex {A : Nat → Prop} {M M1 : MM} {d : Nat} {x : Dg} (h : Ex A M M1) (hd : ¬ A d) (hd1 : ¬ A (d + 1)) (hd2 : ¬ A (d + 2)) (hs : DgC M d x) : DgC M1 d x := ⟨hs.1.ex h, by rw [h.rI hd]; exact hs.2.1, by rw [h.rI hd]; exact hs.2.2.1, by rw [h.rI hd]; exact hs.2.2.2.1, hs.2.2.2.2.ex h hd1 hd2⟩
/-- addresses of a Datagram and its parts are those of no array and of no other one -/
theorem isD_ne {M : MM} {d b : Nat} (h : isD M d) (hb : (kd M b).1 ≠ 25 ∧ (kd M b).1 ≠ 4 ∧ (kd M b).1 ≠ 113) : b ≠ d ∧ b ≠ d + 1 ∧ b ≠ d + 2 := by
  refine ⟨fun q => ?_, fun q => ?_, fun q => ?_⟩
  · rw [q, h.1] at hb; exact hb.1 rfl
  · rw [q, h.2.2.1] at hb; exact hb.2.1 rfl
  · rw [q, show kd M (d + 2) = (113, 460) from h.2.2.2.2.2] at hb; exact hb.2.2 rfl
theorem FlyC.ex20 {A : Nat → Prop} {M M1 : MM} {D : Nat → Nat} {fA : Nat} {fl : List Dg} (h : Ex A M M1) (hA : ∀ q, A q → (kd M q).1 ≠ 25 ∧ (kd M q).1 ≠ 4 ∧ (kd M q).1 ≠ 113) (hf : FlyC M D fA fl) : FlyC M1 D fA fl := by
  obtain ⟨f1, f2, f3, f4, f5, f6⟩ := hf
  refine ⟨f1, f2, f3, fun i hi => ⟨by rw [h.rR]; exact (f4 i hi).1, (f4 i hi).2.ex h⟩, fun i h1 h2 => by rw [h.rR]; exact f5 i h1 h2, fun i hi => ?_⟩
  have hd := (f4 i (by omega)).2
  exact (f6 i hi).ex h (fun q => (isD_ne hd (hA _ q)).1 rfl) (fun q => (isD_ne hd (hA _ q)).2.1 rfl) (fun q => (isD_ne hd (hA _ q)).2.2 rfl)
theorem e_draw {M : MM} {st : Nat → Int} {tm lo : Int} {fl : List Dg} {fA : Nat} (h : NetRep M st tm lo fl fA) : ∃ M', f_X7_draw ((19 : Nat) : Int) M = some (drw (st 10), M') ∧ NetRep M' (fup st 10 (sdn (st 10))) tm lo fl fA ∧ Ex (fun q => q = 20) M M' := by
  obtain ⟨hS, h1, h2, h3, h4, D, h6⟩ := h
  have hg : gfr 7 0 ((19 : Nat) : Int) M = some ((20 : Nat) : Int) := by rw [gfr_e (by rw [hS.1]), hS.2.1]
  let M1 := sI M 20 10 (sdn (st 10))
  have x : Ex (fun q => q = 20) M M1 := Ex.st rfl
  have hS1 := hS.ex x
  have hg1 : gfr 7 0 ((19 : Nat) : Int) M1 = some ((20 : Nat) : Int) := by rw [gfr_e (by rw [hS1.1]), hS1.2.1]
  have sd := sdn_lo (st 10)
  have r10 : rI M1 20 10 = sdn (st 10) := by show rI (sI _ _ _ _) 20 10 = _; rw [rI_sI, if_pos ⟨rfl, rfl⟩, w32_id (by omega) (by omega)]
  refine ⟨M1, ?_, ⟨hS1, ?_, by rw [x.rI (by decide)]; exact h2, by rw [x.rI (by decide)]; exact h3, by rw [x.rI (by decide)]; exact h4, D, h6.ex20 x (fun q hq => by rw [hq, hS.2.2.2.2.1]; decide)⟩, x⟩
  · unfold f_X7_draw
    rw [hg, Option.bind_some, Option.bind_some, lai_e hS.2.2.2.2.1 (by decide) (by decide) (show w32 10 = ((10 : Nat) : Int) by decide) (by decide), Option.bind_some, sai_e hS.2.2.2.2.1 (by decide) (by decide) (show w32 10 = ((10 : Nat) : Int) by decide) (by decide), Option.bind_some, h1 10 (by decide)]
    show ((gfr 7 0 ((19 : Nat) : Int) M1).bind fun v4 => (lai v4 10 M1).bind fun v5 => (dvi v5 65536).bind fun v6 => some (v6, M1)) = _
    rw [hg1, Option.bind_some, lai_e hS1.2.2.2.2.1 (by decide) (by decide) (show w32 10 = ((10 : Nat) : Int) by decide) (by decide), Option.bind_some, r10]
    have hd : dvi (sdn (st 10)) 65536 = some (drw (st 10)) := by
      rw [dvi_e (p := (sdn (st 10)).toNat) (q := 65536) (by rw [w32_id (by omega) (by omega)]; omega) (by decide) (by decide)]
      congr 1
      unfold drw
      omega
    rw [hd]
    rfl
  · intro i hi
    show rI (sI M 20 10 _) 20 i = if i = 10 then _ else _
    by_cases q : i = 10
    · rw [if_pos q, q]; exact r10
    · rw [if_neg q, rI_sI, if_neg (fun z => q z.2)]; exact h1 i hi
theorem e_setting {M : MM} {st : Nat → Int} {tm lo : Int} {fl : List Dg} {fA k : Nat} (h : NetRep M st tm lo fl fA) (hk : k < 11) : f_X7_setting ((19 : Nat) : Int) (k : Int) M = some (st k) := by
  obtain ⟨hS, h1, _⟩ := h
  unfold f_X7_setting
  rw [gfr_e (by rw [hS.1]), hS.2.1, Option.bind_some, lai_e hS.2.2.2.2.1 (by decide) (by decide) (w32_j (by omega)) hk, Option.bind_some, h1 k hk]
/-- when a datagram that is sent now comes -/
def arr (st : Nat → Int) (tm : Int) : Int := tm + st 1 + drw (st 10) % (st 2 + 1)
def dS (st : Nat → Int) : Nat → Int := fup st 10 (sdn (st 10))
theorem e_arrival {M : MM} {st : Nat → Int} {tm lo : Int} {fl : List Dg} {fA : Nat} (h : NetRep M st tm lo fl fA) (hj : 0 ≤ st 2 ∧ st 2 ≤ 50) : ∃ M', f_X7_arrival ((19 : Nat) : Int) M = some (arr st tm, M') ∧ NetRep M' (dS st) tm lo fl fA ∧ Ex (fun q => q = 20) M M' := by
  obtain ⟨M', g1, g2, g3⟩ := e_draw h
  have hS := h.1
  have hS' := g2.1
  refine ⟨M', ?_, g2, g3⟩
  unfold f_X7_arrival
  have hd := drw_lo (st 10)
  rw [gfi_e (by rw [hS.1]), Option.bind_some, gfr_e (by rw [hS.1]), hS.2.1, Option.bind_some, lai_e hS.2.2.2.2.1 (by decide) (by decide) (show w32 1 = ((1 : Nat) : Int) by decide) (by decide), Option.bind_some, ck_e (by rw [hS.1]), g1, Option.bind_some]
  show (gfr 7 0 ((19 : Nat) : Int) M').bind _ = _
  have e2 : rI M' 20 2 = st 2 := g2.2.1 2 (by decide)
  rw [gfr_e (by rw [hS'.1]), hS'.2.1, Option.bind_some, lai_e hS'.2.2.2.2.1 (by decide) (by decide) (show w32 2 = ((2 : Nat) : Int) by decide) (by decide), Option.bind_some, e2]
  have hr : rmi (drw (st 10)) (st 2 + 1) = some (drw (st 10) % (st 2 + 1)) := by
    rw [rmi_e (p := (drw (st 10)).toNat) (q := (st 2 + 1).toNat) (by rw [w32_id (by omega) (by omega)]; omega) (by rw [w32_id (by omega) (by omega)]; omega) (by omega)]
    congr 1
    rw [Int.natCast_emod, Int.toNat_of_nonneg (by omega), Int.toNat_of_nonneg (by omega)]
  rw [show (drw (st 10), M').1 = drw (st 10) from rfl, hr, Option.bind_some, h.2.1 1 (by decide), h.2.2.1]
  rfl
