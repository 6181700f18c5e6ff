/-! what a peer tells itself, read again -/
/-- what is to be so of an answer to a query's request -/
def shp (s : Int) (l : List Int) : Prop :=
  isBL l ∧ l.length ≤ 460 ∧ (s = 3 → ∃ n, (l.getD 28 0 * 256 + l.getD 29 0).toNat = n ∧ n ≤ 290 ∧ 30 + n ≤ l.length ∧ 1 ≤ l.getD 27 0 ∧ l.getD 27 0 ≤ 8) ∧ (s = 4 → ∃ n : Nat, l.getD 26 0 = (n : Int) ∧ n ≤ 30 ∧ 27 + 3 * n ≤ l.length ∧ okM (rdI l 27 n)) ∧ (s = 5 → ∃ n : Nat, l.getD 25 0 = (n : Int) ∧ n ≤ 30 ∧ 26 + 3 * n ≤ l.length ∧ okM (rdI l 26 n))
/-- what a query makes of it -/
def anS (t : Nat) (l : List Int) (Y : Ys) : Ys :=
  if yv Y 230 t = 3 then tbY t (l.getD 27 0) (rdF l 27) Y
  else if yv Y 230 t = 4 then tmY t (decide (l.getD 25 0 = 1)) (rdI l 27 (l.getD 26 0).toNat) Y
  else tcY t (rdI l 26 (l.getD 25 0).toNat) Y
theorem ans0_S {t : Nat} {key : Ky} {l : List Int} {Y : Ys} (h1 : yv Y 230 t ≠ 1) (h2 : yv Y 230 t ≠ 2) : ans0 t key l Y = anS t l Y := by
  unfold ans0 anS
  rw [if_neg h1, if_neg h2]
/-- an answer that is well formed -/
theorem shp_wl {l : List Int} {s : Int} (hb : isBL l) (hl : l.length ≤ 460) (hwl : wellL l = true) (hty : (s = 3 ∧ l.getD 0 0 = 10) ∨ (s = 4 ∧ l.getD 0 0 = 12) ∨ (s = 5 ∧ l.getD 0 0 = 14)) : shp s l := by
  refine ⟨hb, hl, fun z => ?_, fun z => ?_, fun z => ?_⟩
  · obtain ⟨n, b1, b2, b3, b4⟩ := wl_10 hb hwl (by omega)
    exact ⟨n, b1, b2, by omega, b4.1, b4.2⟩
  · obtain ⟨_, b1⟩ := wl_12 hb hwl (by omega)
    obtain ⟨b2, b3, b4, b5⟩ := rdI_okM hb b1 rfl
    exact ⟨_, b3, b4, by omega, b2⟩
  · obtain ⟨b2, b3, b4, b5⟩ := rdI_okM hb (wl_14 hb hwl (by omega)) rfl
    exact ⟨_, b3, b4, by omega, b2⟩
section OWNQ
variable {m h9 : Nat} {own : Ky} {wo : Option Ky} {T : List Row} {S : List Post} {l : List Int} {k : Ky} {num : Int} {r : List Int}
theorem be2_get {v : Int} (h : 0 ≤ v ∧ v < 65536) : (be v 2).length = 2 ∧ (be v 2).getD 0 0 * 256 + (be v 2).getD 1 0 = v := by
  refine ⟨be_len v 2, ?_⟩
  have e0 : (be v 2).getD 0 0 = bush v ((8 * 1 : Nat) : Int) % 256 := rfl
  have e1 : (be v 2).getD 1 0 = bush v ((8 * 0 : Nat) : Int) % 256 := rfl
  have key : ∀ j, j < 4 → (bush v ((8 * j : Nat) : Int) % 256 : Int) = ((u32 v / 2 ^ (8 * j) % 256 : Nat) : Int) := fun j hj => by
    have e1 := u32_bush v (n := 8 * j) (by omega)
    have e2 := u32_emod (bush v ((8 * j : Nat) : Int))
    rw [Nat.shiftRight_eq_div_pow] at e1
    rw [e1] at e2
    generalize bush v ((8 * j : Nat) : Int) = b at *
    generalize u32 v / 2 ^ (8 * j) = u at *
    omega
  rw [e0, e1, key 1 (by omega), key 0 (by omega)]
  have eu := u32_emod v
  simp only [Nat.reduceMul, Nat.reducePow, Nat.div_one]
  omega
theorem rdI_tl {l : List Int} {p : Nat} {tl : List It} (h : ∀ i, i < 3 * tl.length → l.getD (p + i) 0 = (tl.flatMap be3).getD i 0) : rdI l p tl.length = tl := by
  refine List.ext_getElem (by unfold rdI; rw [List.length_map, List.length_range]) (fun i h1 h2 => ?_)
  have e0 : (rdI l p tl.length)[i] = (l.getD (p + 3 * i) 0, l.getD (p + 3 * i + 1) 0, l.getD (p + 3 * i + 2) 0) := by
    have := rdI_get (l := l) (p := p) h2
    rw [gd_get h1] at this
    exact this
  obtain ⟨b1, b2, b3⟩ := be3_get (its := tl) (i := i) h2
  rw [e0, h (3 * i) (by omega), show p + 3 * i + 1 = p + (3 * i + 1) from rfl, h _ (by omega), show p + 3 * i + 2 = p + (3 * i + 2) from rfl, h _ (by omega), b1, b2, b3, gd_get h2]
/-- BITS -/
theorem own_9 (hk : kyo k) (hS : okSt S) (h8 : 1 ≤ h9 ∧ h9 ≤ 8) (hl : l = hdB 9 num (kf own) ++ (kbs k ++ r)) : shp 3 (ansB m h9 own wo T S l) ∧ (ansB m h9 own wo T S l).getD 27 0 = (h9 : Int) ∧ rdF (ansB m h9 own wo T S l) 27 = mkF h9 (choS k S) := by
  have g0 : l.getD 0 0 = 9 := by rw [hl]; exact hdB_0 (by decide)
  have gk : kyP l 25 = k := by rw [hl]; exact kyP25 hk
  obtain ⟨C, hC⟩ : ∃ C, C = choS k S := ⟨_, rfl⟩
  have Cl : C.length ≤ 200 := by rw [hC]; exact Nat.le_trans (List.length_filter_le _ _) hS.1
  obtain ⟨F, hF⟩ : ∃ F, F = mkF h9 C := ⟨_, rfl⟩
  have okF : okB F := by rw [hF]; exact mkF_okB Cl h8.2
  obtain ⟨b1, b2⟩ := be2_get (v := ((C.length : Nat) : Int)) (by omega)
  obtain ⟨b3, b4⟩ := be2_get (v := ((F.length : Nat) : Int)) (by have := okF.1; omega)
  have e : ansB m h9 own wo T S l = hdB 10 (wdL l) (kf own) ++ (be ((C.length : Nat) : Int) 2 ++ ((h9 : Int) :: be ((F.length : Nat) : Int) 2) ++ F) := by
    unfold ansB
    rw [g0, if_neg (by decide), if_neg (by decide), if_pos rfl, gk, ← hC, ← hF]
    rfl
  obtain ⟨l', hl'⟩ : ∃ l', l' = ansB m h9 own wo T S l := ⟨_, rfl⟩
  rw [← hl'] at e ⊢
  have at2 : ∀ i, l'.getD (27 + i) 0 = (((h9 : Int) :: be ((F.length : Nat) : Int) 2) ++ F).getD i 0 := fun i => by
    rw [e, show 27 + i = 25 + (2 + i) from by omega, app25, List.append_assoc, getD_app, b1, if_neg (by omega), show 2 + i - 2 = i from by omega]
  have g27 : l'.getD 27 0 = (h9 : Int) := at2 0
  have g28 : l'.getD 28 0 = (be ((F.length : Nat) : Int) 2).getD 0 0 := by
    rw [show (28 : Nat) = 27 + 1 from rfl, at2, getD_app, if_pos (by rw [List.length_cons, b3]; omega)]; rfl
  have g29 : l'.getD 29 0 = (be ((F.length : Nat) : Int) 2).getD 1 0 := by
    rw [show (29 : Nat) = 27 + 2 from rfl, at2, getD_app, if_pos (by rw [List.length_cons, b3]; omega)]; rfl
  have gi : ∀ i, l'.getD (30 + i) 0 = F.getD i 0 := fun i => by
    rw [show 30 + i = 27 + (3 + i) from by omega, at2, getD_app, if_neg (by rw [List.length_cons, b3]; omega), List.length_cons, b3, show 3 + i - (2 + 1) = i from by omega]
  have len : l'.length = 30 + F.length := by
    rw [e, List.length_append, hdB_len, List.length_append, List.length_append, b1, List.length_cons, b3]; omega
  have F290 := okF.1
  have hn : (l'.getD 28 0 * 256 + l'.getD 29 0).toNat = F.length := by rw [g28, g29]; omega
  refine ⟨⟨?_, by omega, fun _ => ⟨F.length, hn, F290, by omega, by omega, by omega⟩, fun z => absurd z (by decide), fun z => absurd z (by decide)⟩, g27, ?_⟩
  · rw [e]
    refine isBL_app (hdB_isBL _ _ _) (isBL_app (isBL_app (be_isBL _ 2) ?_) okF.2)
    intro b hb
    rcases List.mem_cons.mp hb with z | z
    · rw [z]; omega
    · exact be_isBL _ 2 b z
  · rw [← hC, ← hF]
    obtain ⟨q1, _⟩ := rdF_get (i := 0) hn (by omega)
    refine List.ext_getElem q1 (fun i i1 i2 => ?_)
    have := (rdF_get (i := i) hn (by omega)).2 i2
    rw [gd_get i1, show 27 + 3 + i = 30 + i from by omega, gi, gd_get i2] at this
    exact this
/-- MATCHES -/
theorem own_11 {sk hs : Int} {bs : List Int} (hk : kyo k) (hS : okSt S) (hsk : 0 ≤ sk ∧ sk < 65536) (hhs : 0 ≤ hs ∧ hs ≤ 8) (hb : okB bs) (hl : l = hdB 11 num (kf own) ++ (kbs k ++ (be sk 2 ++ ((hs :: be ((bs.length : Nat) : Int) 2) ++ bs)))) : shp 4 (ansB m h9 own wo T S l) ∧ decide ((ansB m h9 own wo T S l).getD 25 0 = 1) = moreS sk.toNat (mtcS hs.toNat bs (choS k S)) ∧ rdI (ansB m h9 own wo T S l) 27 ((ansB m h9 own wo T S l).getD 26 0).toNat = pageS sk.toNat (mtcS hs.toNat bs (choS k S)) := by
  have g0 : l.getD 0 0 = 11 := by rw [hl]; exact hdB_0 (by decide)
  have gk : kyP l 25 = k := by rw [hl]; exact kyP25 hk
  obtain ⟨b1, b2⟩ := be2_get hsk
  obtain ⟨b3, b4⟩ := be2_get (v := ((bs.length : Nat) : Int)) (by have := hb.1; omega)
  have a45 : ∀ i, l.getD (45 + i) 0 = (be sk 2 ++ ((hs :: be ((bs.length : Nat) : Int) 2) ++ bs)).getD i 0 := fun i => by rw [hl]; exact app45
  have g45 : l.getD 45 0 = (be sk 2).getD 0 0 := by rw [show (45 : Nat) = 45 + 0 from rfl, a45, getD_app, if_pos (by omega)]
  have g46 : l.getD 46 0 = (be sk 2).getD 1 0 := by rw [show (46 : Nat) = 45 + 1 from rfl, a45, getD_app, if_pos (by omega)]
  have a47 : ∀ i, l.getD (47 + i) 0 = ((hs :: be ((bs.length : Nat) : Int) 2) ++ bs).getD i 0 := fun i => by rw [show 47 + i = 45 + (2 + i) from by omega, a45, getD_app, b1, if_neg (by omega), show 2 + i - 2 = i from by omega]
  have g47 : l.getD 47 0 = hs := a47 0
  have g48 : l.getD 48 0 = (be ((bs.length : Nat) : Int) 2).getD 0 0 := by rw [show (48 : Nat) = 47 + 1 from rfl, a47, getD_app, if_pos (by rw [List.length_cons, b3]; omega)]; rfl
  have g49 : l.getD 49 0 = (be ((bs.length : Nat) : Int) 2).getD 1 0 := by rw [show (49 : Nat) = 47 + 2 from rfl, a47, getD_app, if_pos (by rw [List.length_cons, b3]; omega)]; rfl
  have g50 : ∀ i, l.getD (50 + i) 0 = bs.getD i 0 := fun i => by rw [show 50 + i = 47 + (3 + i) from by omega, a47, getD_app, if_neg (by rw [List.length_cons, b3]; omega), List.length_cons, b3, show 3 + i - (2 + 1) = i from by omega]
  have len : l.length = 50 + bs.length := by rw [hl, List.length_append, hdB_len, List.length_append, kbs_len, List.length_append, b1, List.length_append, List.length_cons, b3]; omega
  have hn : (l.getD 48 0 * 256 + l.getD 49 0).toNat = bs.length := by rw [g48, g49]; omega
  have rf : rdF l 47 = bs := by
    obtain ⟨q1, _⟩ := rdF_get (i := 0) hn (by omega)
    refine List.ext_getElem q1 (fun i i1 i2 => ?_)
    have := (rdF_get (i := i) hn (by omega)).2 i2
    rw [gd_get i1, show 47 + 3 + i = 50 + i from by omega, g50, gd_get i2] at this
    exact this
  obtain ⟨P, hP⟩ : ∃ P, P = pageS sk.toNat (mtcS hs.toNat bs (choS k S)) := ⟨_, rfl⟩
  obtain ⟨mo', hmo⟩ : ∃ mo', mo' = moreS sk.toNat (mtcS hs.toNat bs (choS k S)) := ⟨_, rfl⟩
  have okP : okM P := by rw [hP]; exact page_okM hS
  have P30 := okP.1
  have esk : (l.getD 45 0 * 256 + l.getD 46 0).toNat = sk.toNat := by rw [g45, g46, b2]
  have e : ansB m h9 own wo T S l = hdB 12 (wdL l) (kf own) ++ (b2i mo' :: ((P.length : Nat) : Int) :: P.flatMap be3) := by
    unfold ansB
    rw [g0, if_neg (by decide), if_neg (by decide), if_neg (by decide), if_pos rfl, gk, g47, rf, esk, ← hP, ← hmo]
    rfl
  obtain ⟨l', hl'⟩ : ∃ l', l' = ansB m h9 own wo T S l := ⟨_, rfl⟩
  rw [← hl', ← hP, ← hmo]
  rw [← hl'] at e
  have c25 : ∀ i, l'.getD (25 + i) 0 = (b2i mo' :: ((P.length : Nat) : Int) :: P.flatMap be3).getD i 0 := fun i => by rw [e]; exact app25
  have c0 : l'.getD 25 0 = b2i mo' := c25 0
  have c1 : l'.getD 26 0 = ((P.length : Nat) : Int) := c25 1
  have c2 : ∀ i, l'.getD (27 + i) 0 = (P.flatMap be3).getD i 0 := fun i => by rw [show 27 + i = 25 + (i + 2) from by omega, c25]; rfl
  have rd : rdI l' 27 P.length = P := rdI_tl (fun i _ => c2 i)
  have len' : l'.length = 27 + 3 * P.length := by rw [e, List.length_append, hdB_len, List.length_cons, List.length_cons, be3_flat]; omega
  refine ⟨⟨?_, by omega, fun z => absurd z (by decide), fun _ => ⟨P.length, c1, P30, by omega, by rw [rd]; exact okP⟩, fun z => absurd z (by decide)⟩, ?_, by rw [c1]; exact rd⟩
  · rw [e]
    refine isBL_app (hdB_isBL _ _ _) (fun b hb => ?_)
    rcases List.mem_cons.mp hb with z | z
    · rw [z]; cases mo' <;> decide
    · rcases List.mem_cons.mp z with z | z
      · rw [z]; omega
      · exact be3_isBL (fun w hw => by have := okP.2 w hw; omega) b z
  · rw [c0]; cases mo' <;> rfl
/-- CHECKED -/
theorem own_13 {cl : List (Int × Int)} (hk : kyo k) (hS : okSt S) (hc : cl.length ≤ 30) (hl : l = hdB 13 num (kf own) ++ (kbs k ++ (((cl.length : Nat) : Int) :: cl.flatMap (fun z => [z.1, z.2])))) : shp 5 (ansB m h9 own wo T S l) ∧ rdI (ansB m h9 own wo T S l) 26 ((ansB m h9 own wo T S l).getD 25 0).toNat = chkS k cl S := by
  have g0 : l.getD 0 0 = 13 := by rw [hl]; exact hdB_0 (by decide)
  have gk : kyP l 25 = k := by rw [hl]; exact kyP25 hk
  have a45 : ∀ i, l.getD (45 + i) 0 = (((cl.length : Nat) : Int) :: cl.flatMap (fun z => [z.1, z.2])).getD i 0 := fun i => by rw [hl]; exact app45
  have g45 : l.getD 45 0 = ((cl.length : Nat) : Int) := a45 0
  have g46 : ∀ i, l.getD (46 + i) 0 = (cl.flatMap (fun z => [z.1, z.2])).getD i 0 := fun i => by rw [show 46 + i = 45 + (i + 1) from by omega, a45]; rfl
  have two : ∀ (cl : List (Int × Int)) (i : Nat), i < cl.length → (cl.flatMap (fun z => [z.1, z.2])).getD (2 * i) 0 = (cl.getD i (0, 0)).1 ∧ (cl.flatMap (fun z => [z.1, z.2])).getD (2 * i + 1) 0 = (cl.getD i (0, 0)).2 := by
    intro cl
    induction cl with
    | nil => intro i hi; exact absurd hi (by simp)
    | cons z cl ih =>
      intro i hi
      rw [List.flatMap_cons]
      cases i with
      | zero => exact ⟨rfl, rfl⟩
      | succ i =>
        have := ih i (by simpa using hi)
        rw [show 2 * (i + 1) = 2 * i + 2 from by omega]
        refine ⟨?_, ?_⟩
        · rw [getD_app, if_neg (by show ¬ 2 * i + 2 < 2; omega)]; exact this.1
        · rw [getD_app, if_neg (by show ¬ 2 * i + 2 + 1 < 2; omega)]; exact this.2
  have rc : rdC l 46 cl.length = cl := by
    refine List.ext_getElem rdC_len (fun i i1 i2 => ?_)
    have := rdC_get (l := l) (p := 46) i2
    rw [gd_get i1] at this
    obtain ⟨t1, t2⟩ := two cl i i2
    rw [this, g46, show 46 + 2 * i + 1 = 46 + (2 * i + 1) from rfl, g46, t1, t2, gd_get i2]
  obtain ⟨P, hP⟩ : ∃ P, P = chkS k cl S := ⟨_, rfl⟩
  have okP : okM P := by rw [hP]; exact chk_okM hS hc
  have P30 := okP.1
  have e : ansB m h9 own wo T S l = hdB 14 (wdL l) (kf own) ++ (((P.length : Nat) : Int) :: P.flatMap be3) := by
    unfold ansB
    rw [g0, if_neg (by decide), if_neg (by decide), if_neg (by decide), if_neg (by decide), if_pos rfl, gk, g45, Int.toNat_natCast, rc, ← hP]
    rfl
  obtain ⟨l', hl'⟩ : ∃ l', l' = ansB m h9 own wo T S l := ⟨_, rfl⟩
  rw [← hl', ← hP]
  rw [← hl'] at e
  have c25 : ∀ i, l'.getD (25 + i) 0 = (((P.length : Nat) : Int) :: P.flatMap be3).getD i 0 := fun i => by rw [e]; exact app25
  have c0 : l'.getD 25 0 = ((P.length : Nat) : Int) := c25 0
  have c2 : ∀ i, l'.getD (26 + i) 0 = (P.flatMap be3).getD i 0 := fun i => by rw [show 26 + i = 25 + (i + 1) from by omega, c25]; rfl
  have rd : rdI l' 26 P.length = P := rdI_tl (fun i _ => c2 i)
  have len' : l'.length = 26 + 3 * P.length := by rw [e, List.length_append, hdB_len, List.length_cons, be3_flat]; omega
  refine ⟨⟨?_, by omega, fun z => absurd z (by decide), fun z => absurd z (by decide), fun _ => ⟨P.length, c0, P30, by omega, by rw [rd]; exact okP⟩⟩, by rw [c0]; exact rd⟩
  rw [e]
  refine isBL_app (hdB_isBL _ _ _) (fun b hb => ?_)
  rcases List.mem_cons.mp hb with z | z
  · rw [z]; omega
  · exact be3_isBL (fun w hw => by have := okP.2 w hw; omega) b z
end OWNQ
