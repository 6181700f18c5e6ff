/-! what a query asks -/
def tyQ (Y : Ys) (t : Nat) : Int := if yv Y 230 t = 3 then 9 else if yv Y 230 t = 4 then 11 else 13
def bdQ (Y : Ys) (t : Nat) : List Int :=
  if yv Y 230 t = 3 then kbs (qK (yq Y) (qQ Y t))
  else if yv Y 230 t = 4 then kbs (qK (yq Y) (qQ Y t)) ++ be (yv Y 254 t) 2 ++ (hsQ Y t :: be (((qB (yq Y) t).length : Nat) : Int) 2) ++ qB (yq Y) t
  else kbs (qK (yq Y) (qQ Y t)) ++ (((chQ Y t).length : Nat) : Int) :: (chQ Y t).flatMap (fun z => [z.1, z.2.1])
section QOWN
variable {m al N t nb : Nat} {own : Nat → Ky} {sd : Nat → Int} {tm : Int} {Y : Ys}
theorem wl_o9 {l : List Int} (h0 : l.getD 0 0 = 9) (hl : l.length = 45) : wellL l = true := by
  unfold wellL wellB
  rw [decide_eq_true (show 25 ≤ l.length by omega), Bool.true_and]
  show wellT l.length (fun i => l.getD i 0) (l.getD 0 0) = true
  unfold wellT
  rw [if_neg (by omega), if_pos (by omega)]
  exact decide_eq_true hl
theorem wl_o11 {l : List Int} (h0 : l.getD 0 0 = 11) (h1 : 1 ≤ l.getD 47 0 ∧ l.getD 47 0 ≤ 8) (h2 : l.getD 48 0 * 256 + l.getD 49 0 ≤ 290) (hl : ((l.length : Nat) : Int) = 50 + (l.getD 48 0 * 256 + l.getD 49 0)) (hl2 : 50 ≤ l.length) : wellL l = true := by
  unfold wellL wellB
  rw [decide_eq_true (show 25 ≤ l.length by omega), Bool.true_and]
  show wellT l.length (fun i => l.getD i 0) (l.getD 0 0) = true
  unfold wellT
  rw [if_neg (by omega), if_neg (by omega), if_neg (by omega), if_neg (by omega), if_neg (by omega), if_neg (by omega), if_pos h0]
  unfold btW
  dsimp only
  rw [decide_eq_true (show 47 + 2 < l.length by omega), decide_eq_true h1.1, decide_eq_true h1.2, decide_eq_true (show l.getD (47 + 1) 0 * 256 + l.getD (47 + 2) 0 ≤ 290 from h2), decide_eq_true (show ((l.length : Nat) : Int) = ((47 : Nat) : Int) + 3 + (l.getD (47 + 1) 0 * 256 + l.getD (47 + 2) 0) from by rw [show 47 + 1 = 48 from rfl, show 47 + 2 = 49 from rfl]; omega)]
  rfl
theorem wl_o13 {l : List Int} {n : Nat} (h0 : l.getD 0 0 = 13) (h1 : l.getD 45 0 = (n : Int)) (hn : 1 ≤ n ∧ n ≤ 30) (hl : l.length = 46 + 2 * n) (h2 : ∀ i, i < n → l.getD (46 + 2 * i) 0 < 32 ∧ l.getD (46 + 2 * i + 1) 0 < 16) : wellL l = true := by
  unfold wellL wellB
  rw [decide_eq_true (show 25 ≤ l.length by omega), Bool.true_and]
  show wellT l.length (fun i => l.getD i 0) (l.getD 0 0) = true
  unfold wellT
  rw [if_neg (by omega), if_neg (by omega), if_neg (by omega), if_neg (by omega), if_neg (by omega), if_neg (by omega), if_neg (by omega), if_neg (by omega), if_pos h0]
  unfold psW
  dsimp only
  have tn : (l.getD 45 0).toNat = n := by omega
  rw [decide_eq_true (show 45 < l.length by omega), decide_eq_true (show (1 : Int) ≤ l.getD 45 0 by omega), decide_eq_true (show l.getD 45 0 ≤ 30 by omega), decide_eq_true (show ((l.length : Nat) : Int) = ((45 : Nat) : Int) + 1 + ((2 : Nat) : Int) * l.getD 45 0 by omega), Bool.true_and, Bool.true_and, Bool.true_and, Bool.true_and, tn, alP_all]
  intro k hk
  obtain ⟨a1, a2⟩ := h2 k hk
  unfold okRw
  rw [show 45 + 1 + 2 * k = 46 + 2 * k from by omega, decide_eq_true a1, decide_eq_true a2]
  rfl
/-- the pairs of a check -/
theorem two_get (cl : List It) : ∀ i, i < cl.length → (cl.flatMap (fun z => [z.1, z.2.1])).getD (2 * i) 0 = (cl.getD i it0).1 ∧ (cl.flatMap (fun z => [z.1, z.2.1])).getD (2 * i + 1) 0 = (cl.getD i it0).2.1 := by
  induction cl with
  | nil => intro i hi; exact absurd hi (by simp)
  | cons z cl ih =>
    intro i hi
    rw [List.flatMap_cons]
    cases i with
    | zero => exact ⟨rfl, rfl⟩
    | succ i =>
      have := ih i (by simpa using hi)
      rw [show 2 * (i + 1) = 2 * i + 2 from by omega]
      refine ⟨?_, ?_⟩
      · rw [getD_app, if_neg (by show ¬ 2 * i + 2 < 2; omega)]; exact this.1
      · rw [getD_app, if_neg (by show ¬ 2 * i + 2 + 1 < 2; omega)]; exact this.2
theorem two_len (cl : List It) : (cl.flatMap (fun z => [z.1, z.2.1])).length = 2 * cl.length := by
  induction cl with
  | nil => rfl
  | cons z cl ih => rw [List.flatMap_cons, List.length_append, ih]; show 2 + _ = 2 * (cl.length + 1); omega
/-- one that asks itself -/
theorem qon_own (hq : qOK own Y t) (s9 : 1 ≤ wst (yw Y) 9 ∧ wst (yw Y) 9 ≤ 8) (hst : okSt (wS (yw Y) (yp Y t))) (hkk : kyo (qK (yq Y) (qQ Y t))) (o : qH (yq Y) (qQ Y t) = own (yp Y t)) (hd : dtW t (yw Y) = yw Y) {l l' : List Int} (hl : l = hdB (tyQ Y t) 0 (kf (own (yp Y t))) ++ bdQ Y t) (hl' : l' = ansB m (wst (yw Y) 9).toNat (own (yp Y t)) none (wT (yw Y) (yp Y t)) (wS (yw Y) (yp Y t)) l) :
    wellL l = true ∧ isBL l ∧ (l.getD 0 0 = 9 ∨ l.getD 0 0 = 11 ∨ l.getD 0 0 = 13) ∧ shp (yv Y 230 t) l' ∧ qonY N own sd tm t Y = (true, anS t l' Y) := by
  have eY : setW Y (dtW t (yw Y)) = Y := by rw [hd]; rfl
  have kbl : isBL (kbs (qK (yq Y) (qQ Y t))) := kbs_isBL _
  have s9' : (((wst (yw Y) 9).toNat : Nat) : Int) = wst (yw Y) 9 := by omega
  unfold qonY anS
  rw [eY]
  unfold tyQ bdQ at hl
  by_cases c3 : yv Y 230 t = 3
  · rw [if_pos c3, if_pos c3] at hl
    rw [if_pos c3, if_pos o, if_pos c3]
    have hl2 : l = hdB 9 0 (kf (own (yp Y t))) ++ (kbs (qK (yq Y) (qQ Y t)) ++ []) := by rw [hl, List.append_nil]
    obtain ⟨a1, a2, a3⟩ := own_9 (m := m) (wo := none) (T := wT (yw Y) (yp Y t)) (h9 := (wst (yw Y) 9).toNat) hkk hst (by omega) hl2
    rw [← hl'] at a1 a2 a3
    have g0 : l.getD 0 0 = 9 := by rw [hl]; exact hdB_0 (by decide)
    refine ⟨wl_o9 g0 (by rw [hl, List.length_append, hdB_len, kbs_len]), by rw [hl]; exact isBL_app (hdB_isBL _ _ _) kbl, Or.inl g0, by rw [c3]; exact a1, ?_⟩
    rw [a2, a3, s9']
  · rw [if_neg c3, if_neg c3] at hl
    rw [if_neg c3, if_neg c3]
    by_cases c4 : yv Y 230 t = 4
    · rw [if_pos c4, if_pos c4] at hl
      rw [if_pos c4, if_pos o, if_pos c4]
      have r54 : 0 ≤ yv Y 254 t ∧ yv Y 254 t ≤ 229 := by rw [qI4 c4] at o; exact hq.2.2.2.2.2.1 o
      have rh : 1 ≤ hsQ Y t ∧ hsQ Y t ≤ 8 := by
        unfold hsQ
        by_cases d : yv Y 247 t = 1
        · rw [if_pos d]; exact s9
        · rw [if_neg d]; exact hq.2.2.2.2.2.2.2.1 (by have := hq.1; omega) (by omega)
      have okb := hq.2.2.2.2.2.2.1
      have hl2 : l = hdB 11 0 (kf (own (yp Y t))) ++ (kbs (qK (yq Y) (qQ Y t)) ++ (be (yv Y 254 t) 2 ++ ((hsQ Y t :: be (((qB (yq Y) t).length : Nat) : Int) 2) ++ qB (yq Y) t))) := by rw [hl]; simp only [List.append_assoc]
      obtain ⟨a1, a2, a3⟩ := own_11 (m := m) (wo := none) (T := wT (yw Y) (yp Y t)) (h9 := (wst (yw Y) 9).toNat) hkk hst (by omega) (by omega) okb hl2
      rw [← hl'] at a1 a2 a3
      have g0 : l.getD 0 0 = 11 := by rw [hl2]; exact hdB_0 (by decide)
      obtain ⟨b1, b2⟩ := be2_get (v := yv Y 254 t) (by omega)
      obtain ⟨b3, b4⟩ := be2_get (v := (((qB (yq Y) t).length : Nat) : Int)) (by have := okb.1; omega)
      have a45 : ∀ i, l.getD (45 + i) 0 = (be (yv Y 254 t) 2 ++ ((hsQ Y t :: be (((qB (yq Y) t).length : Nat) : Int) 2) ++ qB (yq Y) t)).getD i 0 := fun i => by rw [hl2]; exact app45
      have a47 : ∀ i, l.getD (47 + i) 0 = ((hsQ Y t :: be (((qB (yq Y) t).length : Nat) : Int) 2) ++ qB (yq Y) t).getD i 0 := fun i => by rw [show 47 + i = 45 + (2 + i) from by omega, a45, getD_app, b1, if_neg (by omega), show 2 + i - 2 = i from by omega]
      have g47 : l.getD 47 0 = hsQ Y t := a47 0
      have g48 : l.getD 48 0 = (be (((qB (yq Y) t).length : Nat) : Int) 2).getD 0 0 := by rw [show (48 : Nat) = 47 + 1 from rfl, a47, getD_app, if_pos (by rw [List.length_cons, b3]; omega)]; rfl
      have g49 : l.getD 49 0 = (be (((qB (yq Y) t).length : Nat) : Int) 2).getD 1 0 := by rw [show (49 : Nat) = 47 + 2 from rfl, a47, getD_app, if_pos (by rw [List.length_cons, b3]; omega)]; rfl
      have len : l.length = 50 + (qB (yq Y) t).length := by rw [hl2, List.length_append, hdB_len, List.length_append, kbs_len, List.length_append, b1, List.length_append, List.length_cons, b3]; omega
      have okb1 := okb.1
      refine ⟨wl_o11 g0 (by omega) (by rw [g48, g49]; omega) (by rw [g48, g49]; omega) (by omega), ?_, Or.inr (Or.inl g0), by rw [c4]; exact a1, ?_⟩
      · rw [hl2]
        refine isBL_app (hdB_isBL _ _ _) (isBL_app kbl (isBL_app (be_isBL _ 2) (isBL_app ?_ okb.2)))
        intro b hb
        rcases List.mem_cons.mp hb with z | z
        · rw [z]; omega
        · exact be_isBL _ 2 b z
      · rw [a2, a3]; rfl
    · rw [if_neg c4, if_neg c4] at hl
      rw [if_neg c4, if_pos o, if_neg c4]
      have c5 : yv Y 230 t = 5 := by have := hq.2.1; omega
      have q64 := (hq.2.2.2.2.2.2.2.2.2.1 c5).2.1
      have okl := hq.2.2.2.2.2.2.2.2.1
      have cl30 : (chQ Y t).length ≤ 30 := by unfold chQ; rw [List.length_take]; omega
      have cl1 : 1 ≤ (chQ Y t).length := by unfold chQ; rw [List.length_take, List.length_drop]; omega
      have rg : ∀ z, z ∈ chQ Y t → (0 ≤ z.1 ∧ z.1 < 32) ∧ (0 ≤ z.2.1 ∧ z.2.1 < 16) := fun z hz => by
        have := okl.2.2 z (List.mem_of_mem_drop (List.mem_of_mem_take hz))
        exact ⟨this.1, this.2.1⟩
      have fm : (chQ Y t).flatMap (fun z => [z.1, z.2.1]) = ((chQ Y t).map od).flatMap (fun z => [z.1, z.2]) := by rw [List.flatMap_map]; rfl
      have hl2 : l = hdB 13 0 (kf (own (yp Y t))) ++ (kbs (qK (yq Y) (qQ Y t)) ++ (((((chQ Y t).map od).length : Nat) : Int) :: ((chQ Y t).map od).flatMap (fun z => [z.1, z.2]))) := by rw [hl, fm, List.length_map]
      obtain ⟨a1, a2⟩ := own_13 (m := m) (wo := none) (T := wT (yw Y) (yp Y t)) (h9 := (wst (yw Y) 9).toNat) hkk hst (by rw [List.length_map]; exact cl30) hl2
      rw [← hl'] at a1 a2
      have g0 : l.getD 0 0 = 13 := by rw [hl]; exact hdB_0 (by decide)
      have a45 : ∀ i, l.getD (45 + i) 0 = ((((chQ Y t).length : Nat) : Int) :: (chQ Y t).flatMap (fun z => [z.1, z.2.1])).getD i 0 := fun i => by rw [hl]; exact app45
      have g45 : l.getD 45 0 = (((chQ Y t).length : Nat) : Int) := a45 0
      have g46 : ∀ i, l.getD (46 + i) 0 = ((chQ Y t).flatMap (fun z => [z.1, z.2.1])).getD i 0 := fun i => by rw [show 46 + i = 45 + (i + 1) from by omega, a45]; rfl
      refine ⟨wl_o13 g0 g45 ⟨cl1, cl30⟩ ?_ (fun i hi => ?_), ?_, Or.inr (Or.inr g0), by rw [c5]; exact a1, by rw [a2]⟩
      · rw [hl, List.length_append, hdB_len, List.length_append, kbs_len, List.length_cons, two_len]; omega
      · obtain ⟨t1, t2⟩ := two_get (chQ Y t) i hi
        have := rg ((chQ Y t).getD i it0) (getD_mem hi)
        rw [g46, show 46 + 2 * i + 1 = 46 + (2 * i + 1) from rfl, g46, t1, t2]; omega
      · rw [hl]
        refine isBL_app (hdB_isBL _ _ _) (isBL_app kbl ?_)
        intro b hb
        rcases List.mem_cons.mp hb with z | z
        · rw [z]; omega
        · obtain ⟨y, hy, hy2⟩ := List.mem_flatMap.mp z
          have := rg y hy
          rcases List.mem_cons.mp hy2 with e | e
          · rw [e]; omega
          · rw [List.mem_singleton.mp e]; omega
end QOWN
