/-! a term's postings are written -/
section CWRITE
variable {S : Nat → Bool} {M M1 M2 : MM} {m al N p t nb n P a x k lim : Nat} {pa tk : Nat → Nat} {own : Nat → Ky} {sd ps sn pu rf : Nat → Int} {tm how : Int} {lf : Nat → Nat} {b : Nat × Nat} {w : Wd} {h : Gh} {tr : Trm}
theorem set45 {l : List Int} {A B : List Int} {v : Int} (hA : A.length = n) (hl : l = A ++ 0 :: B) : l.set n v = A ++ v :: B := by
  rw [hl, ← hA, List.set_append_right _ _ (Nat.le_refl _), Nat.sub_self]; rfl
theorem c_write (hc : CPs M m al N pa own sd ps sn pu rf tm lf b w h) (hp : p < N) (hp32 : p < 32) (k11 : (kd M a).1 = 11) (r2 : rR M a 2 = ((pa p : Nat) : Int)) (PS : PbS M P) (ha : a ≠ 31 ∧ a ≠ 32) (hP : P ≠ 31 ∧ P ≠ 32 ∧ P + 1 ≠ 31 ∧ P + 1 ≠ 32) (hk : rI M P 2 = (k : Int)) (hk2 : k < 64) (hx : rR M (P + 1) k = ((x : Nat) : Int)) (hl : rI M P 3 = (lim : Int)) (hlim : lim ≤ 16) (tc : TrC M x tr) (hxn : ∀ z, x ≤ z → z ≤ x + 4 → z ≠ 31 ∧ z ≠ 32) (htr : okTr tr) :
    ∃ M', f_X30_write (P : Int) (a : Int) M = some (((31 : Nat) : Int), M') ∧ PkC M' 31 (hdB 7 0 (kf (own p)) ++ stB tr p lim) ∧ Ex (fun q => q = 31 ∨ q = 32) M M' := by
  obtain ⟨M1, b1, b2, b3, b4⟩ := cp_begin (ty := 7) hc hp
  obtain ⟨t1, t2, t3, t4, t5, t6, t7, t8, t9, t10, t11, t12⟩ := tc
  have k17 : (kd M (pa p)).1 = 17 := by rw [(hc.2.2.2.2.1.2.2 p hp).1.1]
  have pe1 : rI M (pa p) 1 = (p : Int) := (hc.2.2.2.2.1.2.2 p hp).1.2.1
  have p276 : 276 ≤ pa p := (hc.2.2.2.2.1.2.2 p hp).2.1
  obtain ⟨M2, c1, c2, c3⟩ := e_X4_putKey b3 (t8.ex b4) (by rw [hdB_len]; omega)
  have kcw : kC M1 (x + 2) = kC M (x + 2) := by funext i; exact b4.rI (by have := hxn (x + 3) (by omega) (by omega); show ¬ (x + 2 + 1 = 31 ∨ x + 2 + 1 = 32); omega) i
  rw [kcw, kby_ky, t9] at c2
  have ex2 : Ex (fun q => q = 31 ∨ q = 32) M M2 := b4.trans c3
  obtain ⟨M3, d1, d2, d3⟩ := e_X4_put (n := 1) (v := 0) c2 (by omega) (by rw [List.length_append, hdB_len, kbs_len]; omega)
  have ex3 : Ex (fun q => q = 31 ∨ q = 32) M M3 := ex2.trans d3
  rw [be1 (by decide)] at d2
  have k4 : (kd M 31).1 = 4 := by rw [BdS_31 hc.1.1]
  have k30 : (kd M P).1 = 30 := by rw [PS.1]
  -- the rows
  obtain ⟨H, hH⟩ : ∃ H, H = hdB 7 0 (kf (own p)) ++ kbs tr.2.1 := ⟨_, rfl⟩
  have Hl : H.length = 45 := by rw [hH, List.length_append, hdB_len, kbs_len]
  rw [← hH] at d2 c2
  have loop : ∀ (d j fu : Nat) (U : MM), d + j = lim → d < fu → PkC U 31 (H ++ 0 :: (pstT p j tr).flatMap be3) → Ex (fun q => q = 31 ∨ q = 32) M U → ∃ U', lpN (fun s : Int × Int × MM => b_X30_write_46 (P : Int) (a : Int) ((31 : Nat) : Int) (x : Int) 45 s.1 s.2.1 s.2.2) fu ((((pstT p j tr).length : Nat) : Int), (j : Int), U) = some (((31 : Nat) : Int), U') ∧ PkC U' 31 (H ++ (((pstT p lim tr).length : Nat) : Int) :: (pstT p lim tr).flatMap be3) ∧ Ex (fun q => q = 31 ∨ q = 32) M U' := by
    intro d
    induction d with
    | zero =>
      intro j fu U hj hf hU hE
      have : j = lim := by omega
      subst this
      have pl := pst_len (p := p) (x := tr) j
      refine ⟨sI U 32 45 (sx8 (((pstT p j tr).length : Nat) : Int)), lpN_end (by omega) ?_, ?_, hE.trans (Ex.st (A := fun q => q = 31 ∨ q = 32) (Or.inr rfl))⟩
      · show b_X30_write_46 (P : Int) (a : Int) ((31 : Nat) : Int) (x : Int) 45 (((pstT p j tr).length : Nat) : Int) (j : Int) U = _
        unfold b_X30_write_46 j_X30_write_108
        rw [gfi_e (by rw [hE.kd]; exact k30), hE.rI (by omega), hl, Option.bind_some, if_neg (by omega), gfr_e (by rw [hE.kd]; exact k4), hU.1.2.1, Option.bind_some, sab_e (j := 45) hU.1.2.2 (by decide) (by decide) rfl (by decide), Option.bind_some]
      · have := pk_setb (j := 45) (v := (((pstT p j tr).length : Nat) : Int)) hU (by rw [List.length_append, Hl, List.length_cons]; omega) (by omega)
        rw [set45 Hl rfl] at this
        exact this
    | succ d ih =>
      intro j fu U hj hf hU hE
      obtain ⟨fu', rfl⟩ : ∃ f, fu = f + 1 := ⟨fu - 1, by omega⟩
      have k29 : (kd U x).1 = 29 := by rw [hE.kd]; exact t1
      have wj := htr.2.2.2 j
      have rw3 : rR U x 3 = ((x + 4 : Nat) : Int) := by rw [hE.rR]; exact t10
      have wv : ∀ U, Ex (fun q => q = 31 ∨ q = 32) M U → lai ((x + 4 : Nat) : Int) (j : Int) U = some (tr.2.2 j) := fun U hE => by
        rw [lai_e (j := j) (show kd U (x + 4) = (512, 16) from by rw [hE.kd]; exact t11) (by decide) (by decide) (w32_nn (by omega)) (by omega), hE.rI (by have := hxn (x + 4) (by omega) (by omega); omega), t12 j (by omega)]
      have pl := pst_len (p := p) (x := tr) j
      have body : b_X30_write_46 (P : Int) (a : Int) ((31 : Nat) : Int) (x : Int) 45 (((pstT p j tr).length : Nat) : Int) (j : Int) U = if tr.2.2 j = 0 then some (.inl ((((pstT p j tr).length : Nat) : Int), ((j + 1 : Nat) : Int), U)) else (f_X4_put ((31 : Nat) : Int) (p : Int) 1 U).bind fun M1 => (ck 4 ((31 : Nat) : Int) M1 <| (f_X4_put ((31 : Nat) : Int) (j : Int) 1 M1).bind fun M2 => (gfr 29 3 (x : Int) M2).bind fun v6 => (lai v6 (j : Int) M2).bind fun v7 => ck 4 ((31 : Nat) : Int) M2 <| (f_X4_put ((31 : Nat) : Int) v7 1 M2).bind fun M3 => some (.inl ((((pstT p j tr).length : Nat) : Int) + 1, ((j + 1 : Nat) : Int), M3))) := by
        unfold b_X30_write_46 j_X30_write_102
        rw [gfi_e (by rw [hE.kd]; exact k30), hE.rI (by omega), hl, Option.bind_some, w32_nn (by omega), w32_nn (by omega), if_pos (by omega), gfr_e k29, rw3, Option.bind_some, wv U hE, Option.bind_some, w32s (by omega), gfr_e (by rw [hE.kd]; exact k11), hE.rR, r2, Option.bind_some, gfi_e (by rw [hE.kd]; exact k17), hE.rI (by omega), pe1, Option.bind_some, ck_e (by rw [hE.kd]; exact k4)]
        rfl
      by_cases c : tr.2.2 j = 0
      · rw [if_pos c] at body
        have e : pstT p (j + 1) tr = pstT p j tr := by rw [pst_s, if_neg (by omega), List.append_nil]
        obtain ⟨U', g1, g2, g3⟩ := ih (j + 1) fu' U (by omega) (by omega) (by rw [e]; exact hU) hE
        rw [e] at g1
        refine ⟨U', ?_, g2, g3⟩
        rw [lpN_cnt (b := fun s : Int × Int × MM => b_X30_write_46 (P : Int) (a : Int) ((31 : Nat) : Int) (x : Int) 45 s.1 s.2.1 s.2.2) (s := ((((pstT p j tr).length : Nat) : Int), (j : Int), U)) body]
        exact g1
      · rw [if_neg c] at body
        have e : pstT p (j + 1) tr = pstT p j tr ++ [((p : Int), (j : Int), tr.2.2 j)] := by rw [pst_s, if_pos (by omega)]
        have ln : (H ++ 0 :: (pstT p j tr).flatMap be3).length = 46 + 3 * (pstT p j tr).length := by rw [List.length_append, Hl, List.length_cons, be3_flat]; omega
        obtain ⟨U1, q1, q2, q3⟩ := e_X4_put (n := 1) (v := (p : Int)) hU (by omega) (by omega)
        rw [be1 (by omega)] at q2
        obtain ⟨U2, q4, q5, q6⟩ := e_X4_put (n := 1) (v := (j : Int)) q2 (by omega) (by rw [List.length_append, ln]; show 46 + 3 * (pstT p j tr).length + 1 + 1 ≤ 460; omega)
        rw [be1 (by omega)] at q5
        obtain ⟨U3, q7, q8, q9⟩ := e_X4_put (n := 1) (v := tr.2.2 j) q5 (by omega) (by rw [List.length_append, List.length_append, ln]; show 46 + 3 * (pstT p j tr).length + 1 + 1 + 1 ≤ 460; omega)
        rw [be1 (by omega)] at q8
        have E1 := hE.trans q3
        have E2 := E1.trans q6
        have E3 := E2.trans q9
        have pk3 : PkC U3 31 (H ++ 0 :: (pstT p (j + 1) tr).flatMap be3) := by
          rw [e, List.flatMap_append]
          have : H ++ 0 :: (pstT p j tr).flatMap be3 ++ [(p : Int)] ++ [(j : Int)] ++ [tr.2.2 j] = H ++ 0 :: ((pstT p j tr).flatMap be3 ++ [((p : Int), (j : Int), tr.2.2 j)].flatMap be3) := by
            rw [List.append_assoc, List.append_assoc, List.append_assoc]; rfl
          rw [this] at q8; exact q8
        obtain ⟨U', g1, g2, g3⟩ := ih (j + 1) fu' U3 (by omega) (by omega) pk3 E3
        refine ⟨U', ?_, g2, g3⟩
        rw [lpN_cnt (b := fun s : Int × Int × MM => b_X30_write_46 (P : Int) (a : Int) ((31 : Nat) : Int) (x : Int) 45 s.1 s.2.1 s.2.2) (s := ((((pstT p j tr).length : Nat) : Int), (j : Int), U)) (s' := ((((pstT p (j + 1) tr).length : Nat) : Int), ((j + 1 : Nat) : Int), U3))]
        · exact g1
        · have q1 : f_X4_put ((31 : Nat) : Int) (p : Int) 1 U = some U1 := q1
          have q4 : f_X4_put ((31 : Nat) : Int) (j : Int) 1 U1 = some U2 := q4
          have q7 : f_X4_put ((31 : Nat) : Int) (tr.2.2 j) 1 U2 = some U3 := q7
          show b_X30_write_46 (P : Int) (a : Int) ((31 : Nat) : Int) (x : Int) 45 (((pstT p j tr).length : Nat) : Int) (j : Int) U = _
          rw [body, q1, Option.bind_some, ck_e (by rw [E1.kd]; exact k4), q4, Option.bind_some, gfr_e (by rw [E2.kd]; exact t1), E2.rR, t10, Option.bind_some, wv U2 E2, Option.bind_some, ck_e (by rw [E2.kd]; exact k4), q7, Option.bind_some, e, List.length_append]
          rfl
  obtain ⟨U', g1, g2, g3⟩ := loop lim 0 FU M3 (by omega) (by unfold FU; omega) d2 ex3
  refine ⟨U', ?_, ?_, g3⟩
  · unfold f_X30_write l_X30_write_46
    have b1 : f_X17_begin ((pa p : Nat) : Int) 7 M = some (((31 : Nat) : Int), M1) := b1
    have c1 : f_X4_putKey ((31 : Nat) : Int) ((x + 2 : Nat) : Int) M1 = some M2 := c1
    have d1 : f_X4_put ((31 : Nat) : Int) 0 1 M2 = some M3 := d1
    have r45 : rI M2 31 1 = 45 := by rw [c2.2.1, Hl]; rfl
    rw [gfr_e k11, r2, Option.bind_some, ck_e k17, b1, Option.bind_some]
    dsimp only
    rw [gfr_e (by rw [b4.kd]; exact k30), b4.rR, PS.2.1, Option.bind_some, gfi_e (by rw [b4.kd]; exact k30), b4.rI (by omega), hk, Option.bind_some, lar_n (show kd M1 (P + 1) = (618, 64) from by rw [b4.kd]; exact PS.2.2) (by decide) hk2 (by decide), Option.bind_some, b4.rR, hx, gfr_e (by rw [b4.kd]; exact t1), b4.rR, t6, Option.bind_some, ck_e (by rw [b4.kd]; exact k4), c1, Option.bind_some, gfi_e (by rw [ex2.kd]; exact k4), r45, Option.bind_some, ck_e (by rw [ex2.kd]; exact k4), d1, Option.bind_some]
    exact g1
  · unfold stB
    rw [← List.append_assoc, ← hH]
    exact g2
end CWRITE
