/-! the board and a peer, what they consist of; what is told of a table, of a store -/
def BdS (M : MM) (m : Nat) : Prop := kd M 18 = (6, 22) ∧ rI M 18 0 = (m : Int) ∧ (rR M 18 2 = ((19 : Nat) : Int) ∧ rR M 18 3 = ((24 : Nat) : Int) ∧ rR M 18 4 = ((28 : Nat) : Int) ∧ rR M 18 5 = ((30 : Nat) : Int) ∧ rR M 18 7 = ((47 : Nat) : Int) ∧ rR M 18 8 = ((31 : Nat) : Int) ∧ rR M 18 9 = ((33 : Nat) : Int) ∧ rR M 18 10 = ((35 : Nat) : Int) ∧ rR M 18 11 = ((40 : Nat) : Int) ∧ rR M 18 12 = ((42 : Nat) : Int) ∧ rR M 18 13 = ((44 : Nat) : Int) ∧ rR M 18 14 = ((46 : Nat) : Int)) ∧ kd M 30 = (247, 32) ∧ kd M 46 = (256, 40) ∧ kd M 47 = (230, m) ∧ (isP M 31 ∧ isP M 33 ∧ FltS M 35 ∧ isK M 40 ∧ isK M 42 ∧ isK M 44) ∧ (kd M 31 = (4, 6) ∧ kd M 33 = (4, 7) ∧ kd M 35 = (10, 8) ∧ kd M 40 = (3, 9) ∧ kd M 42 = (3, 10) ∧ kd M 44 = (3, 11) ∧ kd M 38 = (3, 1)) ∧ isSha M ∧ (1 ≤ m ∧ m ≤ 20)
def PeS (M : MM) (a p : Nat) : Prop := kd M a = (17, 46) ∧ rI M a 1 = (p : Int) ∧ (rR M a 0 = ((18 : Nat) : Int) ∧ rR M a 2 = ((a + 1 : Nat) : Int) ∧ rR M a 5 = ((a + 10 : Nat) : Int) ∧ rR M a 6 = ((a + 3 : Nat) : Int) ∧ rR M a 7 = ((a + 7 : Nat) : Int) ∧ rR M a 8 = ((a + 9 : Nat) : Int) ∧ rR M a 19 = ((a + 17 : Nat) : Int)) ∧ kd M (a + 1) = (3, 41) ∧ isK M (a + 1) ∧ kd M (a + 9) = (603, 40)
def nodesB (rs : List (Ky × Int)) : List Int := ((rs.length : Nat) : Int) :: rs.flatMap (fun x => kbs x.1 ++ be x.2 1)
theorem nodesB_flat (rs : List (Ky × Int)) : (rs.flatMap (fun x => kbs x.1 ++ be x.2 1)).length = 21 * rs.length := by
  induction rs with
  | nil => rfl
  | cons x rs ih =>
    rw [List.flatMap_cons, List.length_append, ih, List.length_append, be_len, List.length_cons]
    have : (kbs x.1).length = 20 := kbN_len _ 5
    omega
theorem flat_take {α : Type} {β : Type} (f : α → List β) (d : α) {L : List α} {k : Nat} (hk : k < L.length) : (L.take (k + 1)).flatMap f = (L.take k).flatMap f ++ f (L.getD k d) := by
  rw [take_s (d := d) hk, List.flatMap_append]
  simp
section CANS
variable {M M1 : MM} {a p m n bA be' kx x c k s A : Nat} {own : Ky} {T : List Row} {l : List Int} {D : Nat → Nat} {S : List Post}
variable {ow : Nat → Nat × Nat} {pf : Nat → Bool} {B : Nat → Nat} {P : Nat → Bool → List Nat} {Cn : Nat → Bool → List (Ky × Int)} {fl : Nat → Int} {ap len : Nat} {sp : List Nat} {wo : Option Ky} {x2 : Int} {Z : Nat → Prop}
theorem PeS.ex (h : Ex Z M M1) (ha : ¬ Z a) (hs : PeS M a p) : PeS M1 a p := by
  obtain ⟨a1, a2, ⟨a3, a4, a5, a6, a7, a8, a9⟩, b1, b2, b3⟩ := hs
  exact ⟨by rw [h.kd]; exact a1, by rw [h.rI ha]; exact a2, ⟨by rw [h.rR]; exact a3, by rw [h.rR]; exact a4, by rw [h.rR]; exact a5, by rw [h.rR]; exact a6, by rw [h.rR]; exact a7, by rw [h.rR]; exact a8, by rw [h.rR]; exact a9⟩, by rw [h.kd]; exact b1, b2.ex h, by rw [h.kd]; exact b3⟩
theorem BdS.ex (h : Ex Z M M1) (ha : ¬ Z 18) (hs : BdS M m) : BdS M1 m := by
  obtain ⟨a1, a2, ⟨c1, c2, c3, c4, c5, c6, c7, c8, c9, c10, c11, c12⟩, b1, b2, b3, ⟨d1, d2, d3, d4, d5, d6⟩, ⟨e1, e2, e3, e4, e5, e6, e7⟩, f1, f2⟩ := hs
  exact ⟨by rw [h.kd]; exact a1, by rw [h.rI ha]; exact a2, ⟨by rw [h.rR]; exact c1, by rw [h.rR]; exact c2, by rw [h.rR]; exact c3, by rw [h.rR]; exact c4, by rw [h.rR]; exact c5, by rw [h.rR]; exact c6, by rw [h.rR]; exact c7, by rw [h.rR]; exact c8, by rw [h.rR]; exact c9, by rw [h.rR]; exact c10, by rw [h.rR]; exact c11, by rw [h.rR]; exact c12⟩, by rw [h.kd]; exact b1, by rw [h.kd]; exact b2, by rw [h.kd]; exact b3, ⟨d1.ex h, d2.ex h, d3.ex h, d4.ex h, d5.ex h, d6.ex h⟩, ⟨by rw [h.kd]; exact e1, by rw [h.kd]; exact e2, by rw [h.kd]; exact e3, by rw [h.kd]; exact e4, by rw [h.kd]; exact e5, by rw [h.kd]; exact e6, by rw [h.kd]; exact e7⟩, f1.ex h, f2⟩
theorem isCt.ex (h : Ex Z M M1) (hc : isCt M c) : isCt M1 c := ⟨by rw [h.kd]; exact hc.1, by rw [h.rR]; exact hc.2.1, by rw [h.kd]; exact hc.2.2.1, hc.2.2.2.ex h⟩
theorem ctc.ex (h : Ex Z M M1) (h1 : ¬ Z c) (h2 : ¬ Z (c + 2)) : ctc M1 c = ctc M c := by
  unfold ctc
  have e : kC M1 (c + 1) = kC M (c + 1) := by funext i; exact h.rI h2 i
  rw [e, h.rI h1]
theorem ct_pk (hc : isCt M c) (hp : isP M x) : c ≠ x ∧ c ≠ x + 1 ∧ c + 1 ≠ x ∧ c + 1 ≠ x + 1 ∧ c + 2 ≠ x ∧ c + 2 ≠ x + 1 := by
  obtain ⟨a1, -, a3, -, -, a6⟩ := hc
  obtain ⟨b1, -, b3⟩ := hp
  have a6 : kd M (c + 2) = (64, 5) := a6
  refine ⟨fun q => ?_, fun q => ?_, fun q => ?_, fun q => ?_, fun q => ?_, fun q => ?_⟩
  · rw [← q, a1] at b1; cases b1
  · rw [← q, a1] at b3; cases b3
  · rw [← q, a3] at b1; cases b1
  · rw [← q, a3] at b3; cases b3
  · rw [← q, a6] at b1; cases b1
  · rw [← q, a6] at b3; cases b3
/-- contacts of the board's row are written to a packet -/
theorem c_nodesL {Q : List Nat} (hb : BdS M m) (hpe : PeS M a p) (ha : 276 ≤ a) (hx : x = 31 ∨ x = 33) (hQ : BstC M 47 230 m Q) (hp : PkC M x l) (hl : l.length + 21 * Q.length ≤ 460) :
    ∃ M', l_X17_putNodes_28 (a : Int) (x : Int) ((Q.length : Nat) : Int) 0 M = some M' ∧ PkC M' x (l ++ (Q.map (ctc M)).flatMap (fun y => kbs y.1 ++ be y.2 1)) ∧ Ex (fun q => q = x ∨ q = x + 1) M M' := by
  obtain ⟨q1, q2, q3, q4, q5⟩ := id hQ
  have hm := hb.2.2.2.2.2.2.2.2.2
  obtain ⟨⟨z, U⟩, n2, hn2, ⟨rfl, g1, g2⟩, r2⟩ := lp_inv (b := fun s : Int × MM => b_X17_putNodes_28 (a : Int) (x : Int) ((Q.length : Nat) : Int) s.1 s.2) (fun j s => s.1 = (j : Int) ∧ PkC s.2 x (l ++ ((Q.map (ctc M)).take j).flatMap (fun y => kbs y.1 ++ be y.2 1)) ∧ Ex (fun q => q = x ∨ q = x + 1) M s.2) Q.length
    (by
      rintro j ⟨z, U⟩ hj ⟨rfl, g1, g2⟩
      dsimp only at g1 g2 ⊢
      have hc := q5 _ (getD_mem (d := 0) hj)
      have hr := q4 j hj
      have hgd : (Q.map (ctc M)).getD j ((0, 0, 0, 0, 0), 0) = ctc M (Q.getD j 0) := by
        rw [gd_get (by rw [List.length_map]; exact hj), List.getElem_map, gd_get hj]
      have ft := flat_take (fun y : Ky × Int => kbs y.1 ++ be y.2 1) ((0, 0, 0, 0, 0), 0) (L := Q.map (ctc M)) (k := j) (by rw [List.length_map]; exact hj)
      rw [hgd] at ft
      have hlf := nodesB_flat ((Q.map (ctc M)).take j)
      rw [List.length_take, List.length_map] at hlf
      generalize Q.getD j 0 = c at hc hr ft
      have np := ct_pk hc hp.1
      have hcU := hc.ex g2
      have bU : BdS U m := hb.ex g2 (by omega)
      have pU : PeS U a p := hpe.ex g2 (by omega)
      obtain ⟨U1, s1, s2', s3⟩ := e_X4_putKey g1 hcU.2.2.2 (by rw [List.length_append]; omega)
      have g3 : Ex (fun q => q = x ∨ q = x + 1) M U1 := g2.trans s3
      have e1 : kC U (c + 1) = kC M (c + 1) := by funext i; exact g2.rI (by omega) i
      have e2 : kby (kC M (c + 1)) = kbs (ctc M c).1 := by
        unfold kbs kby
        exact kbN_congr 5 (fun i hi => (kf_ky _ hi).symm)
      rw [e1, e2] at s2'
      have lk : (kbs (ctc M c).1).length = 20 := kbN_len _ 5
      obtain ⟨U2, t1, t2, t3⟩ := e_X4_put (v := (ctc M c).2) (n := 1) s2' (by decide) (by rw [List.length_append, List.length_append]; omega)
      have bU1 : BdS U1 m := hb.ex g3 (by omega)
      have pU1 : PeS U1 a p := hpe.ex g3 (by omega)
      refine ⟨(((j + 1 : Nat) : Int), U2), ?_, rfl, ?_, g3.trans t3⟩
      · have k47 : kd U 47 = (230, m) := bU.2.2.2.2.2.1
        have k471 : kd U1 47 = (230, m) := bU1.2.2.2.2.2.1
        have ec : rI U1 c 1 = (ctc M c).2 := g3.rI (by omega) 1
        unfold b_X17_putNodes_28
        rw [w32_nn (by omega), w32_nn (by omega), if_pos (by omega), gfr_e (by rw [pU.1]), pU.2.2.1.1, Option.bind_some, gfr_e (by rw [bU.1]), bU.2.2.1.2.2.2.2.1, Option.bind_some, lar_n k47 (by decide) (by omega) (by omega), Option.bind_some, g2.rR, hr, gfr_e (by rw [hcU.1]), hcU.2.1, Option.bind_some, ck_e g1.1.1, s1, Option.bind_some, gfr_e (by rw [pU1.1]), pU1.2.2.1.1, Option.bind_some, gfr_e (by rw [bU1.1]), bU1.2.2.1.2.2.2.2.1, Option.bind_some, lar_n k471 (by decide) (by omega) (by omega), Option.bind_some, g3.rR, hr, gfi_e (by rw [g3.kd, hc.1]), Option.bind_some, ck_e s2'.1.1, ec, show f_X4_put (x : Int) (ctc M c).2 1 U1 = some U2 from t1, Option.bind_some, cadd1]
        rfl
      · dsimp only
        rw [ft, ← List.append_assoc, ← List.append_assoc]; exact t2) FU 0 (0, M) (by omega) (by unfold FU; omega) ⟨rfl, by rw [List.take_zero]; simpa using hp, Ex.refl⟩
  dsimp only at g1 g2
  rw [List.take_of_length_le (by rw [List.length_map]; exact Nat.le_refl _)] at g1
  refine ⟨U, ?_, g1, g2⟩
  unfold l_X17_putNodes_28
  refine r2.trans ?_
  refine lpN_end (b := fun s : Int × MM => b_X17_putNodes_28 (a : Int) (x : Int) ((Q.length : Nat) : Int) s.1 s.2) hn2 ?_
  dsimp only
  unfold b_X17_putNodes_28
  rw [if_neg (Int.lt_irrefl _)]
theorem c_putNodes (hb : BdS M m) (hpe : PeS M a p) (ha : 276 ≤ a) (hT : TT M ow (a + 10) (a + 1) m own T pf n bA B P Cn fl ap len sp) (hown : kyo own) (hkx : isK M kx) (hw : (x2 = -1 ∧ wo = none) ∨ ∃ w : Nat, x2 = (w : Int) ∧ isK M w ∧ wo = some (ky (kC M w))) (hp : PkC M 33 l) (hl : l.length + 1 + 21 * m ≤ 460) :
    ∃ M', f_X17_putNodes (a : Int) ((33 : Nat) : Int) (kx : Int) x2 M = some M' ∧ PkC M' 33 (l ++ nodesB ((nearT m (ky (kC M kx)) wo T).map kad)) ∧ ExC (fun q => q = 47 ∨ q = 33 ∨ q = 34) M M' := by
  have hm := hb.2.2.2.2.2.2.2.2.2
  obtain ⟨U, Q, a1, a2, a3, a4, a5⟩ := c_nearest (be := 47) (kb := 230) (x2 := x2) (wo := wo) hT hown hkx hw ⟨hb.2.2.2.2.2.1, by decide, by decide, by decide⟩
  have bU : BdS U m := by
    obtain ⟨h1, h2, ⟨c1, c2, c3, c4, c5, c6, c7, c8, c9, c10, c11, c12⟩, b1, b2, b3, ⟨d1, d2, d3, d4, d5, d6⟩, ⟨e1, e2, e3, e4, e5, e6, e7⟩, f1, f2⟩ := hb
    have kp : ∀ z, isP M z → z ≠ 47 → isP U z := fun z hz hn => ⟨by rw [a5.kd]; exact hz.1, by rw [a5.rR hn]; exact hz.2.1, by rw [a5.kd]; exact hz.2.2⟩
    refine ⟨by rw [a5.kd]; exact h1, by rw [a5.rI (by decide)]; exact h2, ⟨by rw [a5.rR (by decide)]; exact c1, by rw [a5.rR (by decide)]; exact c2, by rw [a5.rR (by decide)]; exact c3, by rw [a5.rR (by decide)]; exact c4, by rw [a5.rR (by decide)]; exact c5, by rw [a5.rR (by decide)]; exact c6, by rw [a5.rR (by decide)]; exact c7, by rw [a5.rR (by decide)]; exact c8, by rw [a5.rR (by decide)]; exact c9, by rw [a5.rR (by decide)]; exact c10, by rw [a5.rR (by decide)]; exact c11, by rw [a5.rR (by decide)]; exact c12⟩, by rw [a5.kd]; exact b1, by rw [a5.kd]; exact b2, by rw [a5.kd]; exact b3, ⟨kp 31 d1 (by decide), kp 33 d2 (by decide), ?_, a5.isK (by decide) d4, a5.isK (by decide) d5, a5.isK (by decide) d6⟩, ⟨by rw [a5.kd]; exact e1, by rw [a5.kd]; exact e2, by rw [a5.kd]; exact e3, by rw [a5.kd]; exact e4, by rw [a5.kd]; exact e5, by rw [a5.kd]; exact e6, by rw [a5.kd]; exact e7⟩, ?_, f2⟩
    · obtain ⟨g1, g2, g3, g4, g5, g6, g7, g8⟩ := d3
      exact ⟨by rw [a5.kd]; exact g1, by rw [a5.rR (by decide)]; exact g2, by rw [a5.kd]; exact g3, by rw [a5.rR (by decide)]; exact g4, by rw [a5.rR (by decide)]; exact g5, by rw [a5.kd]; exact g6, by rw [a5.rR (by decide)]; exact g7, a5.isK (by decide) g8⟩
    · obtain ⟨g1, g2, g3, g4, g5, g6, g7⟩ := f1
      exact ⟨by rw [a5.kd]; exact g1, by rw [a5.rR (by decide)]; exact g2, by rw [a5.rR (by decide)]; exact g3, by rw [a5.rR (by decide)]; exact g4, by rw [a5.kd]; exact g5, by rw [a5.kd]; exact g6, by rw [a5.kd]; exact g7⟩
  have peU : PeS U a p := by
    obtain ⟨h1, h2, ⟨h3, h4, h5, h6, h7, h8, h9⟩, b1, b2, b3⟩ := hpe
    exact ⟨by rw [a5.kd]; exact h1, by rw [a5.rI (by omega)]; exact h2, ⟨by rw [a5.rR (by omega)]; exact h3, by rw [a5.rR (by omega)]; exact h4, by rw [a5.rR (by omega)]; exact h5, by rw [a5.rR (by omega)]; exact h6, by rw [a5.rR (by omega)]; exact h7, by rw [a5.rR (by omega)]; exact h8, by rw [a5.rR (by omega)]; exact h9⟩, by rw [a5.kd]; exact b1, a5.isK (by omega) b2, by rw [a5.kd]; exact b3⟩
  have pkU : PkC U 33 l := by
    have hu : UN M := hT.1.1
    exact hp.exa a5.exa hu (by decide) (by decide)
  have hQl := a2.2.2.1
  obtain ⟨U1, s1, s2', s3⟩ := e_X4_put (v := ((Q.length : Nat) : Int)) (n := 1) pkU (by decide) (by omega)
  rw [be1 (by omega)] at s2'
  have bU1 := bU.ex s3 (by decide)
  have peU1 := peU.ex s3 (by omega)
  have ctE : ∀ c, c ∈ Q → ctc U1 c = ctc M c := fun c hc => by
    have h1 := a4 c hc
    have h2 := bst_ne hb.2.2.2.2.2.1 (by decide) h1
    have h3 := ct_pk h1 hp.1
    rw [ctc.ex s3 (by omega) (by omega), ctc.exc a5 (by omega) (by omega)]
  have bst1 : BstC U1 47 230 m Q := ⟨bU1.2.2.2.2.2.1, by decide, hQl, fun z hz => by rw [s3.rR]; exact a2.2.2.2.1 z hz, fun c hc => (a2.2.2.2.2 c hc).ex s3⟩
  obtain ⟨U2, t1, t2, t3⟩ := c_nodesL bU1 peU1 ha (Or.inr rfl) bst1 s2' (by rw [List.length_append]; simp; omega)
  have eQ : Q.map (ctc U1) = Q.map (ctc M) := List.map_congr_left ctE
  have eL : (nearT m (ky (kC M kx)) wo T).map kad = Q.map (ctc M) := a3.symm
  refine ⟨U2, ?_, ?_, (a5.mono (fun q z => Or.inl z)).trans ((ExC_ex (s3.trans t3)).mono (fun q z => Or.inr z))⟩
  · unfold f_X17_putNodes
    rw [gfr_e (by rw [hpe.1]), hpe.2.2.1.2.2.1, Option.bind_some, gfr_e (by rw [hpe.1]), hpe.2.2.1.1, Option.bind_some, gfr_e (by rw [hb.1]), hb.2.2.1.2.2.2.2.1, Option.bind_some, ck_e hT.1.2.1.1, a1, Option.bind_some]
    dsimp only
    rw [ck_e pkU.1.1, show f_X4_put ((33 : Nat) : Int) ((Q.length : Nat) : Int) 1 U = some U1 from s1, Option.bind_some]
    exact t1
  · unfold nodesB
    rw [eL, List.length_map]
    rw [eQ] at t2
    rw [List.append_assoc] at t2
    exact t2
end CANS
