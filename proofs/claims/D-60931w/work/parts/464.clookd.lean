/-! a task of the class is told of a lookup -/
section CLOOKD
variable {M M1 M2 : MM} {m al N p t nb n wd r : Nat} {pa tk : Nat → Nat} {own : Nat → Ky} {sd ps sn pu rf : Nat → Int} {tm how : Int} {lf : Nat → Nat} {b0 : Nat × Nat} {h : Gh} {eg : EG} {pb as : Nat → Option Nat} {mn : Nat → Int} {fa : Nat → Nat} {Y : Ys} {l : List Int} {Lb : Nat → List Trm}
theorem front_len {m : Nat} (E : List Ent) (hm : m ≤ 20) : (frontE m E).length ≤ 20 := by unfold frontE; rw [List.length_take]; omega
/-- behind the lookup of a looking -/
theorem c_looked14 (hC : CB M m al N pa own sd ps sn pu rf tm lf b0 eg tk pb as nb mn fa Y h) (hm : 1 ≤ m ∧ m ≤ 20) (hrec : recY nb Y) (hh : hdW N Y t) (ht : t < 12) (hlf : lf t + 1 < 2147483648) (hk : yv Y 227 t = 1) :
    ∃ M' mn' fa', f_X14_looked ((wa pa t + 4 : Nat) : Int) ((wa pa t : Nat) : Int) M = some (0, M') ∧ CB M' m al N pa own sd ps sn pu rf tm (fup lf t (lf t + 1)) (b0.1 + 1, b0.2 + 180) eg tk pb as nb mn' fa' (behY m N own sd tm Lb t Y) h ∧ FK FJ M M' ∧ yv (behY m N own sd tm Lb t Y) 226 t = 0 ∧ mn' = fup mn (yv Y 229 t).toNat (((frontE m (yl Y t).2.2.1).length : Nat) : Int) := by
  obtain ⟨hP, hL, hW, hT⟩ := id hC
  obtain ⟨hu, u1, u2, u3⟩ := id hL
  obtain ⟨w1, w2, w3, w4, w5⟩ := u2 t (by omega)
  have hgo : yv Y 226 t ≠ 0 := by rw [hh.1]; decide
  obtain ⟨g1, g2, g3, g4⟩ := (hW t (by omega)).2.2.2 hgo
  obtain ⟨q1, q2, q3⟩ := hrec.2 t ht hgo
  obtain ⟨r, hr⟩ : ∃ r : Nat, yv Y 229 t = (r : Int) := ⟨(yv Y 229 t).toNat, by omega⟩
  have hr' : vI (ys Y) 229 t = (r : Int) := hr
  have er : (yv Y 229 t).toNat = r := by omega
  have rnb : r < nb := by omega
  rw [er, hk] at q2
  rw [er]
  obtain ⟨a, ha⟩ : ∃ a, a = wa pa t := ⟨_, rfl⟩
  rw [← ha] at w1 w2 ⊢
  have g2 : rR M a 4 = ((tk r : Nat) : Int) := by rw [ha, g2, if_neg (by omega), hr']; rfl
  obtain ⟨F, hF⟩ : ∃ F, F = frontE m (yl Y t).2.2.1 := ⟨_, rfl⟩
  have F20 : F.length ≤ 20 := by rw [hF]; exact front_len _ hm.2
  have tc := hT.1 r rnb
  have k26 : (kd M (tk r)).1 = 26 := by rw [tc.1]
  have ltk : tk r < nN M := hu.lt (by rw [k26]; decide)
  have k15 : (kd M (a + 5)).1 = 15 := by rw [w2.1.1]
  have hlt := WlS_lt hu w1
  have hlu := LuS_lt hu w2.1
  -- how many
  have cnt1 : ∀ d j fu, d + j = F.length → d < fu → lpN (fun s : Int => b_X14_looked_7 (a : Int) ((a + 5 : Nat) : Int) s M) fu (j : Int) = j_X14_looked_21 (a : Int) ((a + 5 : Nat) : Int) ((F.length : Nat) : Int) M := by
    intro d
    induction d with
    | zero =>
      intro j fu hj hf
      have : j = F.length := by omega
      subst this
      refine lpN_end (by omega) ?_
      show b_X14_looked_7 (a : Int) ((a + 5 : Nat) : Int) ((F.length : Nat) : Int) M = _
      unfold b_X14_looked_7
      rw [ck_e k15]
      rcases c_front w2 hm F20 with ⟨j, j1, j2, j3⟩ | ⟨j2, j3⟩
      · rw [← hF, List.getElem?_eq_none (Nat.le_refl _)] at j3; cases j3
      · rw [j2, Option.bind_some, if_pos rfl]
    | succ d ih =>
      intro j fu hj hf
      obtain ⟨fu', rfl⟩ : ∃ f, fu = f + 1 := ⟨fu - 1, by omega⟩
      rw [lpN_cnt (b := fun s : Int => b_X14_looked_7 (a : Int) ((a + 5 : Nat) : Int) s M) (s := (j : Int)) (s' := ((j + 1 : Nat) : Int))]
      · exact ih (j + 1) fu' (by omega) (by omega)
      · show b_X14_looked_7 (a : Int) ((a + 5 : Nat) : Int) (j : Int) M = _
        unfold b_X14_looked_7
        rw [ck_e k15]
        rcases c_front (i := j) w2 hm (by omega) with ⟨i, j1, j2, j3⟩ | ⟨j2, j3⟩
        · rw [j2, Option.bind_some, if_neg (by omega)]; rfl
        · rw [← hF, List.getElem?_eq_getElem (by omega)] at j3; cases j3
  obtain ⟨e1, e2, e3, e4, e5⟩ := c_tell0 (M := M) (n := F.length) (wd := 6) k26 (by omega) ltk
  obtain ⟨A, hA⟩ : ∃ A, A = nN M := ⟨_, rfl⟩
  obtain ⟨MT, hMT⟩ : ∃ MT, MT = tellM M (tk r) F.length 6 := ⟨_, rfl⟩
  rw [← hMT] at e1 e2 e3 e4 e5
  rw [← hA] at e5
  have t6 : rR MT (tk r) 6 = (A : Int) := by
    rw [hMT, hA]
    unfold tellM
    rw [rR_sR, if_pos ⟨rfl, rfl⟩]
  -- one of the front
  have fill : ∀ (d j fu : Nat) (U : MM), d + j = F.length → d < fu → ExC (fun z => z = A) MT U → AH U A (fwE (F.take j)) → ∃ U', lpN (fun s : Int × MM => b_X14_looked_34 (a : Int) ((a + 5 : Nat) : Int) ((F.length : Nat) : Int) s.1 s.2) fu ((j : Int), U) = j_X14_looked_116 (a : Int) U' ∧ ExC (fun z => z = A) MT U' ∧ AH U' A (fwE F) := by
    intro d
    induction d with
    | zero =>
      intro j fu U hj hf hx hAH
      have : j = F.length := by omega
      subst this
      rw [List.take_length] at hAH
      refine ⟨U, lpN_end (by omega) ?_, hx, hAH⟩
      show b_X14_looked_34 (a : Int) ((a + 5 : Nat) : Int) ((F.length : Nat) : Int) ((F.length : Nat) : Int) U = _
      unfold b_X14_looked_34
      rw [if_neg (by omega)]
    | succ d ih =>
      intro j fu U hj hf hx hAH
      obtain ⟨fu', rfl⟩ : ∃ f, fu = f + 1 := ⟨fu - 1, by omega⟩
      have xU : ExA (fun z => z = tk r) M U := e2.trC hx (fun z hz e => by omega)
      have nt : ∀ z, (kd M z).1 ≠ 26 → z ≠ tk r := fun z hz e => hz (by rw [e]; exact k26)
      have luU : LuC U (a + 5) m (yl Y t).1 (yl Y t).2.2.1 (eg t).1 (eg t).2 := w2.exa xU hu (fun z z1 z2 e => by
        have mz : mo M z = 11 := by rw [e]; exact mo_cl1 k26 (by decide) (by decide)
        obtain ⟨o1, o2, o3, o4⟩ := Lu_mo w2.1
        have e : z = a + 5 ∨ z = a + 5 + 1 ∨ z = a + 5 + 2 ∨ z = a + 5 + 3 := by omega
        rcases e with e | e | e | e <;> rw [e] at mz <;> omega) (fun i hi z z1 z2 e => by
        rcases en_kinds (w2.2.2.2.2.2.1 i hi).2 z1 z2 with ⟨_, k⟩ | ⟨_, k⟩ | ⟨_, k⟩
        · rw [e, k26] at k; exact absurd k (by decide)
        · rw [e, tc.1] at k; exact absurd k (by decide)
        · rw [e, k26] at k; exact absurd k (by decide))
      have k15U : (kd U (a + 5)).1 = 15 := by rw [luU.1.1]
      rcases c_front (i := j) luU hm (by omega) with ⟨i, j1, j2, j3⟩ | ⟨j2, j3⟩
      · obtain ⟨x, hx0⟩ : ∃ x, x = (yl Y t).2.2.1.getD i ent0 := ⟨_, rfl⟩
        rw [← hx0, ← hF] at j3
        have exj : F.getD j ent0 = x := by rw [List.getD_eq_getElem?_getD, j3]; rfl
        have hen := (luU.2.2.2.2.2.1 i (by have := luU.2.2.2.1; omega)).2
        have hxe := luU.2.2.2.2.2.2.2.2.2 i j1
        rw [← hx0] at hxe
        obtain ⟨dd, hdd⟩ : ∃ dd, dd = (eg t).2 i := ⟨_, rfl⟩
        rw [← hdd] at j2 hen hxe
        have okx : okE x := luU.2.2.2.2.2.2.2.2.1.2.2 x (by rw [hx0]; exact getD_mem j1)
        have huU := xU.un hu
        have k11U : (kd U a).1 = 11 := by rw [xU.kd (by omega)]; exact w1.1
        have r4U : rR U a 4 = ((tk r : Nat) : Int) := by rw [xU.rR (by omega) (nt _ (by rw [w1.1]; decide))]; exact g2
        have k26U : (kd U (tk r)).1 = 26 := by rw [xU.kd ltk]; exact k26
        have r6U : rR U (tk r) 6 = (A : Int) := by rw [hx.rR (by omega)]; exact t6
        have kAU : kd U A = (528, F.length * 6) := by rw [hx.kd]; exact e5
        have dA : ∀ z, dd ≤ z → z ≤ dd + 2 → z ≠ A := fun z z1 z2 e => by
          rcases en_kinds hen z1 z2 with ⟨_, k⟩ | ⟨_, k⟩ | ⟨_, k⟩
          · rw [e, kAU] at k; exact absurd k (by show ¬ 528 = 27; decide)
          · rw [e, kAU] at k; exact absurd (congrArg Prod.fst k) (by show ¬ 528 = 3; decide)
          · rw [e, kAU] at k; exact absurd k (by show ¬ 528 = 64; decide)
        have hlen : (fwE (F.take j)).length = 6 * j := by rw [fw6, List.length_take]; omega
        obtain ⟨kx, hkx⟩ : ∃ kx : Nat → Int, kx = fun c => rI U (dd + 2) c := ⟨_, rfl⟩
        have ek : eKey x = (kx 0, kx 1, kx 2, kx 3, kx 4) := by rw [← hxe, hkx]; rfl
        have ea : eAdr x = rI U dd 1 := by rw [← hxe]; rfl
        -- its key
        have key : ∀ (d2 c fu2 : Nat) (W : MM) (L0 : List Int), d2 + c = 5 → d2 < fu2 → ExC (fun z => z = A) U W → L0.length = 6 * j + 1 + c → AH W A L0 → ∃ W', lpN (fun s : Int × MM => b_X14_looked_69 (a : Int) ((a + 5 : Nat) : Int) ((F.length : Nat) : Int) (j : Int) (dd : Int) s.1 s.2) fu2 ((c : Int), W) = j_X14_looked_110 (a : Int) ((a + 5 : Nat) : Int) ((F.length : Nat) : Int) (j : Int) W' ∧ ExC (fun z => z = A) U W' ∧ AH W' A (L0 ++ ((List.range d2).map (fun e => kx (c + e)))) := by
          intro d2
          induction d2 with
          | zero =>
            intro c fu2 W L0 hc hf2 hW hL0 hAW
            have : c = 5 := by omega
            subst this
            refine ⟨W, lpN_end (by omega) ?_, hW, by rw [show (List.range 0).map (fun e => kx (5 + e)) = [] from rfl, List.append_nil]; exact hAW⟩
            show b_X14_looked_69 (a : Int) ((a + 5 : Nat) : Int) ((F.length : Nat) : Int) (j : Int) (dd : Int) 5 W = _
            unfold b_X14_looked_69
            rw [if_neg (by decide)]
          | succ d2 ih2 =>
            intro c fu2 W L0 hc hf2 hW hL0 hAW
            obtain ⟨fu3, rfl⟩ : ∃ f, fu2 = f + 1 := ⟨fu2 - 1, by omega⟩
            have kw : rI W (dd + 2) c = kx c := by rw [hkx]; exact hW.rI (dA _ (by omega) (by omega)) c
            have wkx : w32 (kx c) = kx c := by rw [hkx]; exact w32_rI
            have e27 : (kd W dd).1 = 27 := by rw [hW.kd, hen.1]
            have nA1 : tk r ≠ A := by omega
            have nA2 : a ≠ A := by omega
            obtain ⟨W', r1, r2, r3⟩ := ih2 (c + 1) fu3 (sI W A L0.length (kx c)) (L0 ++ [kx c]) (by omega) (by omega) (hW.trans (ExC_sI (A := fun z => z = A) rfl)) (by rw [List.length_append]; show L0.length + 1 = _; omega) (AH_app hAW wkx)
            refine ⟨W', ?_, r2, ?_⟩
            · rw [lpN_cnt (b := fun s : Int × MM => b_X14_looked_69 (a : Int) ((a + 5 : Nat) : Int) ((F.length : Nat) : Int) (j : Int) (dd : Int) s.1 s.2) (s := ((c : Int), W)) (s' := (((c + 1 : Nat) : Int), sI W A L0.length (kx c)))]
              · exact r1
              · show b_X14_looked_69 (a : Int) ((a + 5 : Nat) : Int) ((F.length : Nat) : Int) (j : Int) (dd : Int) (c : Int) W = _
                unfold b_X14_looked_69
                rw [w32_nn (by omega), if_pos (show (c : Int) < w32 5 from by show (c : Int) < 5; omega), gfr_e (by rw [hW.kd]; exact k11U), hW.rR nA2, r4U, Option.bind_some, gfr_e (by rw [hW.kd]; exact k26U), hW.rR nA1, r6U, Option.bind_some, gfr_e e27, hW.rR (dA _ (by omega) (by omega)), hen.2.1, Option.bind_some, gfr_e (by rw [hW.kd, hen.2.2.1]), hW.rR (dA _ (by omega) (by omega)), hen.2.2.2.2.1, Option.bind_some, lai_e (j := c) (show kd W (dd + 1 + 1) = (64, 5) from by rw [hW.kd]; exact hen.2.2.2.2.2) (by decide) (by decide) (w32_nn (by omega)) (by omega), Option.bind_some, show dd + 1 + 1 = dd + 2 from rfl, kw, sai_e (j := L0.length) (show kd W A = (528, F.length * 6) from by rw [hW.kd]; exact kAU) (by decide) (by decide) (by rw [show (6 * (j : Int) + 1) + (c : Int) = ((L0.length : Nat) : Int) from by omega]; exact w32_nn (by omega)) (by omega), Option.bind_some]
                rfl
            · have : (List.range (d2 + 1)).map (fun e => kx (c + e)) = kx c :: (List.range d2).map (fun e => kx (c + 1 + e)) := by
                rw [List.range_succ_eq_map, List.map_cons, List.map_map]
                congr 1
                refine List.map_congr_left (fun e _ => ?_)
                show kx (c + (e + 1)) = kx (c + 1 + e)
                rw [show c + (e + 1) = c + 1 + e from by omega]
              rw [this]
              rw [List.append_assoc] at r3
              exact r3
        have okA : w32 (eAdr x) = eAdr x := w32_id (by have := okx.2.1; omega) (by have := okx.2.1; omega)
        obtain ⟨W', r1, r2, r3⟩ := key 5 0 FU (sI U A (fwE (F.take j)).length (eAdr x)) (fwE (F.take j) ++ [eAdr x]) (by omega) (by decide) (ExC_sI (A := fun z => z = A) rfl) (by rw [List.length_append, hlen]; rfl) (AH_app hAH okA)
        have e6 : fwE (F.take (j + 1)) = fwE (F.take j) ++ [eAdr x] ++ (List.range 5).map (fun e => kx (0 + e)) := by
          have := flat_take (fun x => [eAdr x, (eKey x).1, (eKey x).2.1, (eKey x).2.2.1, (eKey x).2.2.2.1, (eKey x).2.2.2.2]) ent0 (L := F) (k := j) (by omega)
          show (F.take (j + 1)).flatMap _ = _
          rw [this, exj, ek, List.append_assoc]
          rfl
        rw [← e6] at r3
        obtain ⟨U', s1, s2, s3⟩ := ih (j + 1) fu' W' (by omega) (by omega) (hx.trans r2) r3
        refine ⟨U', ?_, s2, s3⟩
        rw [lpN_cnt (b := fun s : Int × MM => b_X14_looked_34 (a : Int) ((a + 5 : Nat) : Int) ((F.length : Nat) : Int) s.1 s.2) (s := ((j : Int), U)) (s' := (((j + 1 : Nat) : Int), W'))]
        · exact s1
        · show b_X14_looked_34 (a : Int) ((a + 5 : Nat) : Int) ((F.length : Nat) : Int) (j : Int) U = _
          unfold b_X14_looked_34 l_X14_looked_69
          rw [w32_nn (by omega), w32_nn (by omega), if_pos (by omega), ck_e k15U, j2, Option.bind_some, gfr_e k11U, r4U, Option.bind_some, gfr_e k26U, r6U, Option.bind_some, gfi_e (by rw [hen.1]), ← ea, Option.bind_some, sai_e (j := (fwE (F.take j)).length) kAU (by decide) (by decide) (by rw [show 6 * (j : Int) = (((fwE (F.take j)).length : Nat) : Int) from by omega]; exact w32_nn (by omega)) (by omega), Option.bind_some]
          rw [show lpN (fun s : Int × MM => b_X14_looked_69 (a : Int) ((a + 5 : Nat) : Int) ((F.length : Nat) : Int) (j : Int) (dd : Int) s.1 s.2) FU (0, sI U A (fwE (F.take j)).length (eAdr x)) = _ from r1]
          unfold j_X14_looked_110
          rfl
      · rw [← hF, List.getElem?_eq_getElem (by omega)] at j3; cases j3
  obtain ⟨U', s1, s2, s3⟩ := fill F.length 0 FU MT (by omega) (by unfold FU; omega) .refl (fun i hi => by simp [fwE] at hi)
  obtain ⟨c1, c2, c3⟩ := c_tellW (n := F.length) (wd := 6) (l := fwE F) hC rnb (Or.inl q2) (by rw [if_pos q2]; rfl) (by rw [fw6]; omega) (by omega) (M2 := U') (by rw [← hMT, ← hA]; exact s2) (by rw [← hA]; exact s3)
  obtain ⟨Ym, hYm⟩ : ∃ Ym : Ys, Ym = (yw Y, yl Y, st2 (ys Y) 269 r ((F.length : Nat) : Int), tlQ r (fwE F) (yq Y)) := ⟨_, rfl⟩
  have v : ∀ b i, b ≠ 269 → yv Ym b i = yv Y b i := fun b i z => by rw [hYm]; exact vI_ne (by omega)
  rw [← hYm] at c1
  obtain ⟨M', d1, d2, d3⟩ := c_end (how := 1) c1 (t := t) (by omega) (by rw [v _ _ (by decide)]; exact hgo) (Or.inr (by rw [v _ _ (by decide)]; omega)) (by
    right; right; right
    rw [v _ _ (by decide), er, hYm]
    exact c2) (by decide) hlf
  have eb : behY m N own sd tm Lb t Y = clY t 1 Ym := by
    unfold behY
    rw [if_neg (by omega), if_pos hk]
    unfold tlY
    rw [er, hYm, hF]
  rw [eb]
  refine ⟨M', _, _, ?_, d2, FK.trans (c3.mono (mo1 rfl)) (d3.mono (mo2 ⟨rfl, rfl⟩)), clS_0, by rw [hF]⟩
  unfold f_X14_looked l_X14_looked_7
  rw [gfr_e w1.1, w1.2.1.2.1, Option.bind_some]
  rw [show lpN (fun s : Int => b_X14_looked_7 (a : Int) ((a + 5 : Nat) : Int) s M) FU 0 = _ from cnt1 F.length 0 FU (by omega) (by unfold FU; omega)]
  unfold j_X14_looked_21 l_X14_looked_34
  rw [gfr_e w1.1, g2, Option.bind_some, ck_e k26]
  have e1 : f_X26_tell ((tk r : Nat) : Int) ((F.length : Nat) : Int) 6 M = some MT := e1
  rw [e1, Option.bind_some]
  rw [show lpN (fun s : Int × MM => b_X14_looked_34 (a : Int) ((a + 5 : Nat) : Int) ((F.length : Nat) : Int) s.1 s.2) FU (0, MT) = _ from s1]
  unfold j_X14_looked_116
  rw [← ha] at d1
  have k11U : (kd U' a).1 = 11 := by rw [c3.kd (by omega)]; exact w1.1
  rw [ck_e k11U, d1, Option.bind_some]
end CLOOKD
