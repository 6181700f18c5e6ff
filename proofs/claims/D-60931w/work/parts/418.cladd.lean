/-! one more is known to a lookup -/
def AL (u A : Nat) (D : Nat → Nat) (q : Nat) : Prop := q = u ∨ q = u + 1 ∨ ∃ i, i < A ∧ (q = D i ∨ q = D i + 2)
section CLADD
variable {M M1 : MM} {B : Nat → Prop} {u m A e e' kx k : Nat} {tgt : Ky} {E : List Ent} {D : Nat → Nat} {ad stt : Int}
theorem c_newEn (hu : UN M) : ∃ M4, f_X27_init ((nN M : Nat) : Int) (nwo M 27 4 31) = some M4 ∧ isEn M4 (nN M) ∧ nN M4 = nN M + 3 ∧ nU M4 = nU M + 10 ∧ ExA (fun _ => False) M M4 := by
  generalize hn : nN M = n
  obtain ⟨M4, hM4⟩ : ∃ M4, M4 = sR (sR (nw (nwo (nwo M 27 4 31) 3 1 30) 64 5) (n + 1) 0 ((n + 2 : Nat) : Int)) n 0 ((n + 1 : Nat) : Int) := ⟨_, rfl⟩
  have kd4 : ∀ z, kd M4 z = if z = n + 2 then (64, 5) else if z = n + 1 then (3, 30) else if z = n then (27, 31) else kd M z := fun z => by
    rw [hM4, kd_sR, kd_sR, kd_nw, kd_nwo, kd_nwo, nN_nwo, nN_nwo, hn]
  have r0 : rR M4 n 0 = ((n + 1 : Nat) : Int) := by rw [hM4, rR_eq rfl]
  have r1 : rR M4 (n + 1) 0 = ((n + 2 : Nat) : Int) := by rw [hM4, rR_ne (by omega), rR_eq rfl]
  refine ⟨M4, ?_, ⟨by rw [kd4, if_neg (by omega), if_neg (by omega), if_pos rfl], r0, by rw [kd4, if_neg (by omega), if_pos rfl], by rw [kd4, if_neg (by omega), if_pos rfl], r1, by rw [kd4, if_pos rfl]⟩, by rw [hM4]; show nN M + 1 + 1 + 1 = _; rw [hn], by rw [hM4]; rfl, ?_⟩
  · unfold f_X27_init f_X3_init
    rw [nn_e, nob_e, Option.bind_some]
    dsimp only
    have n1 : nN (nwo M 27 4 31) = n + 1 := by rw [nN_nwo, hn]
    have n2 : nN (nwo (nwo M 27 4 31) 3 1 30) = n + 2 := by rw [nN_nwo, n1]
    rw [n1, nn_e, nn_e, nar_e (j := 5) (by decide) (by decide), Option.bind_some]
    dsimp only
    rw [n2, pfr_e (by rw [kd_nw, if_neg (by rw [n2]; omega), kd_nwo, if_pos n1.symm]), Option.bind_some, Option.bind_some, pfr_e (by rw [kd_sR, kd_nw, if_neg (by rw [n2]; omega), kd_nwo, if_neg (by rw [n1]; omega), kd_nwo, if_pos hn.symm]), Option.bind_some, hM4]
  · rw [hM4]
    have b1 : ExA (fun _ => False) M (nw (nwo (nwo M 27 4 31) 3 1 30) 64 5) := (ExA_nwo.trans ExA_nwo).trans ExA_nw
    exact (b1.newR (by omega)).newR (by omega)
/-- a slot more -/
theorem lu_more (hL : LuC M u m tgt E A D) (hu : UN M) (hA : A < 65) (h : ExA (fun _ => False) M M1) (hq : isEn M1 (nN M)) : LuC (sR M1 (u + 1) A ((nN M : Nat) : Int)) u m tgt E (A + 1) (fup D A (nN M)) ∧ ExA (fun q => q = u + 1) M (sR M1 (u + 1) A ((nN M : Nat) : Int)) := by
  have ex : ExA (fun q => q = u + 1) M (sR M1 (u + 1) A ((nN M : Nat) : Int)) := (h.mono (fun _ z => z.elim)).oldR rfl
  obtain ⟨l1, l2, l3, l4, l5, l6, l7, l8, l9, l10⟩ := hL
  have hl := LuS_lt hu l1
  have ltD : ∀ i, i < A → D i + 2 < nN M := fun i hi => isEn_lt hu (l6 i hi).2
  have st : ∀ i, i < A → ∀ z, D i ≤ z → z ≤ D i + 2 → ¬ (z = u + 1) := fun i hi z z1 z2 e => en_lu (l6 i hi).2 l1 (z := z) (by omega) ⟨z1, z2⟩
  refine ⟨⟨l1.exa ex hu (by omega) (by omega), by rw [ex.kC (by omega) (by omega)]; exact l2, by rw [ex.rI (by omega) (by omega)]; exact l3, by omega, by omega, fun i hi => ?_, fun i j hi hj he => ?_, fun i a b => ?_, l9, fun i hi => ?_⟩, ex⟩
  · by_cases c : i = A
    · subst c
      rw [rR_eq rfl, fup_eq]
      refine ⟨rfl, hq.1, ?_, hq.2.2.1, hq.2.2.2.1, ?_, hq.2.2.2.2.2⟩
      · rw [rR_ne (by omega)]; exact hq.2.1
      · rw [rR_ne (by omega)]; exact hq.2.2.2.2.1
    · rw [rR_ne (fun z => c z.2), fup_ne c, h.rR (by omega) (fun z => z)]
      exact ⟨(l6 i (by omega)).1, (l6 i (by omega)).2.exa ex hu (st i (by omega))⟩
  · by_cases c : i = A
    · by_cases d : j = A
      · omega
      · rw [c, fup_eq, fup_ne d] at he
        have := ltD j (by omega)
        omega
    · by_cases d : j = A
      · rw [d, fup_eq, fup_ne c] at he
        have := ltD i (by omega)
        omega
      · rw [fup_ne c, fup_ne d] at he
        exact l7 i j (by omega) (by omega) he
  · rw [rR_ne (by omega), h.rR (by omega) (fun z => z)]
    exact l8 i (by omega) b
  · rw [fup_ne (by omega), enC.exa ex hu (st i (by omega)) (l6 i (by omega)).2]
    exact l10 i hi
/-- one is put to its place -/
theorem c_ladd37 (hL : LuC M u m tgt E A D) (hA : E.length < A) (hk : isK M kx) (hkx : kd M kx ≠ (3, 30) ∧ kx ≠ u + 2) (hno : hasE E (ky (kC M kx)) = false) (had : 0 ≤ ad ∧ ad < 32) (hst : 0 ≤ stt ∧ stt ≤ 3) :
    ∃ M' D', j_X15_add_37 (u : Int) (kx : Int) ad stt M = some M' ∧ LuC M' u m tgt ((insM (dE tgt) (ky (kC M kx), ad, stt, 0) E).take 64) A D' ∧ (∀ i, i < A → ∃ j, j < A ∧ D' i = D j) ∧ ExC (AL u A D) M M' ∧ ∀ k, k ≠ 3 → rI M' u k = rI M u k := by
  have hL0 := hL
  obtain ⟨l1, l2, l3, l4, l5, l6, l7, l8, l9, l10⟩ := hL
  have k15 : (kd M u).1 = 15 := by rw [l1.1]
  have len := l9.1
  obtain ⟨L, hLL⟩ : ∃ L, L = E.length := ⟨_, rfl⟩
  obtain ⟨e, he⟩ : ∃ e, e = D L := ⟨_, rfl⟩
  obtain ⟨key, hkey⟩ : ∃ key, key = ky (kC M kx) := ⟨_, rfl⟩
  obtain ⟨x, hx⟩ : ∃ x : Ent, x = (key, ad, stt, 0) := ⟨_, rfl⟩
  rw [← hLL] at l3 l4 hA len
  have hen : isEn M e := by rw [he]; exact (l6 L (by omega)).2
  have kyk : kyo key := by rw [hkey]; exact kyo_ky (kC_ok _ _)
  have okx : okE x := by rw [hx]; exact ⟨kyk, had, hst, by show (0 : Int) ≤ 0 ∧ (0 : Int) ≤ 65535; omega⟩
  have eu : ∀ z, (u ≤ z ∧ z ≤ u + 3) → ¬ (e ≤ z ∧ z ≤ e + 2) := fun z hz => en_lu hen l1 hz
  have eu0 := eu u (by omega); have eu1 := eu (u + 1) (by omega); have eu2 := eu (u + 2) (by omega); have eu3 := eu (u + 3) (by omega)
  have kxe : kx + 1 ≠ e ∧ kx + 1 ≠ e + 2 := by
    refine ⟨fun z => by have := hk.2.2; rw [z, hen.1] at this; exact absurd this (by decide), fun z => ?_⟩
    have : kx = e + 1 := by omega
    rw [this, hen.2.2.1] at hkx
    exact hkx.1 rfl
  -- the words of the entry
  obtain ⟨U1, s1, s2, s3⟩ := e_X3_set hen.2.2.2 hk
  obtain ⟨U, hU⟩ : ∃ U, U = sI (sI (sI U1 e 1 ad) e 2 stt) e 3 0 := ⟨_, rfl⟩
  have xU : Ex (fun q => q = e ∨ q = e + 2) M U := by
    rw [hU]
    exact (((s3.mono (fun q hq => Or.inr (by have : q = e + 1 + 1 := hq; omega))).trans (Ex.st (A := fun q => q = e ∨ q = e + 2) (Or.inl rfl))).trans (Ex.st (A := fun q => q = e ∨ q = e + 2) (Or.inl rfl))).trans (Ex.st (A := fun q => q = e ∨ q = e + 2) (Or.inl rfl))
  have enU : enC U e = x := by
    have k1 : ky (kC U (e + 1)) = key := by
      have : ∀ i, i < 5 → kC U (e + 1) i = kC M kx i := fun i hi => by
        rw [← s2 i hi, hU]
        show rI (sI (sI (sI U1 e 1 ad) e 2 stt) e 3 0) (e + 1 + 1) i = rI U1 (e + 1 + 1) i
        rw [rI_ne (by omega), rI_ne (by omega), rI_ne (by omega)]
      rw [hkey]
      unfold ky
      rw [this 0 (by decide), this 1 (by decide), this 2 (by decide), this 3 (by decide), this 4 (by decide)]
    have i1 : rI U e 1 = ad := by rw [hU, rI_ne (by omega), rI_ne (by omega), rI_eq rfl, w32_id (by omega) (by omega)]
    have i2 : rI U e 2 = stt := by rw [hU, rI_ne (by omega), rI_eq rfl, w32_id (by omega) (by omega)]
    have i3 : rI U e 3 = 0 := by rw [hU, rI_eq rfl]; decide
    unfold enC
    rw [k1, i1, i2, i3, hx]
  have kU : isK U kx := hk.ex xU
  have kkU : ky (kC U kx) = key := by
    have : kC U kx = kC M kx := by funext i; exact xU.rI (by omega) i
    rw [this]; exact hkey.symm
  have other : ∀ i, i < A → i ≠ L → isEn U (D i) ∧ enC U (D i) = enC M (D i) := fun i hi hn => by
    have st : ∀ z, D i ≤ z → z ≤ D i + 2 → ¬ (z = e ∨ z = e + 2) := fun z z1 z2 q => en_apart hen (l6 i hi).2 (fun w => hn (l7 i L hi (by omega) (by rw [w, he]))) z1 z2 (by omega)
    have hi' := (l6 i hi).2
    refine ⟨⟨by rw [xU.kd]; exact hi'.1, by rw [xU.rR]; exact hi'.2.1, by rw [xU.kd]; exact hi'.2.2.1, hi'.2.2.2.ex xU⟩, ?_⟩
    unfold enC
    have : kC U (D i + 1) = kC M (D i + 1) := by funext j; exact xU.rI (st (D i + 1 + 1) (by omega) (by omega)) j
    rw [this, xU.rI (st (D i) (by omega) (by omega)), xU.rI (st (D i) (by omega) (by omega)), xU.rI (st (D i) (by omega) (by omega))]
  have tgU : isK U (u + 2) ∧ ky (kC U (u + 2)) = tgt := by
    refine ⟨l1.2.2.2.2.2.1.ex xU, ?_⟩
    have : kC U (u + 2) = kC M (u + 2) := by funext j; exact xU.rI (by omega) j
    rw [this]; exact l2
  have uU0 : ∀ i, rI U u i = rI M u i := fun i => xU.rI (by omega) i
  -- the place
  obtain ⟨n, hn⟩ : ∃ n, n = bk (fun y => decide (dE tgt x < dE tgt y)) ent0 E L := ⟨_, rfl⟩
  have hnL : n ≤ L := by rw [hn]; exact bk_le _ _ _ _
  have loop : ∀ (at0 : Nat) (W : MM) (fu : Nat), at0 ≤ L → at0 < fu → bk (fun y => decide (dE tgt x < dE tgt y)) ent0 E at0 = n → ExC (fun q => q = u + 1) U W → (∀ w, rR W (u + 1) w = if at0 < w ∧ w ≤ L then ((D (w - 1) : Nat) : Int) else rR M (u + 1) w) → ∃ W', lpN (fun s : Int × MM => b_X15_add_81 (u : Int) (kx : Int) (e : Int) s.1 s.2) fu ((at0 : Int), W) = j_X15_add_131 (u : Int) (e : Int) (n : Int) W' ∧ ExC (fun q => q = u + 1) U W' ∧ ∀ w, rR W' (u + 1) w = if n < w ∧ w ≤ L then ((D (w - 1) : Nat) : Int) else rR M (u + 1) w := by
    intro at0
    induction at0 with
    | zero =>
      intro W fu _ hf hb hW hw
      have e0 : n = 0 := by rw [← hb]; rfl
      refine ⟨W, ?_, hW, by rw [e0]; exact hw⟩
      refine lpN_end (b := fun s : Int × MM => b_X15_add_81 (u : Int) (kx : Int) (e : Int) s.1 s.2) (by omega) ?_
      dsimp only
      unfold b_X15_add_81
      rw [if_neg (by decide), e0]
    | succ p ih =>
      intro W fu hp hf hb hW hw
      obtain ⟨f, rfl⟩ : ∃ f, fu = f + 1 := ⟨fu - 1, by omega⟩
      have k15W : (kd W u).1 = 15 := by rw [hW.kd, xU.kd]; exact k15
      have kA : kd W (u + 1) = (376, 65) := by rw [hW.kd, xU.kd]; exact l1.2.2.1
      have r0 : rR W u 0 = ((u + 1 : Nat) : Int) := by rw [hW.rR (by omega), xU.rR]; exact l1.2.1
      have r1 : rR W u 1 = ((u + 2 : Nat) : Int) := by rw [hW.rR (by omega), xU.rR]; exact l1.2.2.2.1
      have rp : rR W (u + 1) p = ((D p : Nat) : Int) := by rw [hw, if_neg (by omega)]; exact (l6 p (by omega)).1
      obtain ⟨o1, o2⟩ := other p (by omega) (by omega)
      have nu : ∀ z, (kd M z).1 ≠ 376 → ¬ (z = u + 1) := fun z hz q => hz (by rw [q, l1.2.2.1])
      have isk : ∀ z, isK U z → isK W z := fun z hz => by
        have k3 : (kd M z).1 = 3 := by rw [← xU.kd]; exact hz.1
        exact ⟨by rw [hW.kd]; exact hz.1, by rw [hW.rR (nu z (by rw [k3]; decide))]; exact hz.2.1, by rw [hW.kd]; exact hz.2.2⟩
      have kcs : ∀ z, isK U z → kC W z = kC U z := fun z hz => by
        funext i
        exact hW.rI (nu (z + 1) (by rw [← xU.kd, hz.2.2]; decide)) i
      have nr : f_X3_isNearer (kx : Int) ((D p + 1 : Nat) : Int) ((u + 2 : Nat) : Int) W = some (if dE tgt x < dE tgt (E.getD p ent0) then 1 else 0) := by
        rw [e_X3_isNearer (isk _ kU) (isk _ o1.2.2.2) (isk _ tgU.1), kcs _ kU, kcs _ o1.2.2.2, kcs _ tgU.1]
        have e1 : dE tgt x = kdst (kC U kx) (kC U (u + 2)) := by
          rw [hx, ← kkU, ← tgU.2]; rfl
        have e2 : dE tgt (E.getD p ent0) = kdst (kC U (D p + 1)) (kC U (u + 2)) := by
          rw [← l10 p (by omega), ← o2, ← tgU.2]; rfl
        rw [e1, e2]
      have gp : (kd W (D p)).1 = 27 := by rw [hW.kd]; rw [o1.1]
      have rDp : rR W (D p) 0 = ((D p + 1 : Nat) : Int) := by rw [hW.rR (nu (D p) (by rw [← xU.kd, o1.1]; decide))]; exact o1.2.1
      have bs : bk (fun y => decide (dE tgt x < dE tgt y)) ent0 E (p + 1) = if dE tgt x < dE tgt (E.getD p ent0) then bk (fun y => decide (dE tgt x < dE tgt y)) ent0 E p else p + 1 := by
        show (if decide (dE tgt x < dE tgt (E.getD p ent0)) = true then _ else _) = _
        by_cases c : dE tgt x < dE tgt (E.getD p ent0)
        · rw [if_pos (by simpa using c), if_pos c]
        · rw [if_neg (by simpa using c), if_neg c]
      have pre : b_X15_add_81 (u : Int) (kx : Int) (e : Int) ((p + 1 : Nat) : Int) W = if dE tgt x < dE tgt (E.getD p ent0) then some (.inl ((p : Int), sR W (u + 1) (p + 1) ((D p : Nat) : Int))) else xit (j_X15_add_131 (u : Int) (e : Int) ((p + 1 : Nat) : Int) W) := by
        unfold b_X15_add_81
        rw [w32_nn (by omega), if_pos (by omega), gfr_e k15W, r0, Option.bind_some, show (((p + 1 : Nat) : Int) - 1) = (p : Int) by omega, lar_n kA (by decide) (by omega) (by decide), rp, Option.bind_some, gfr_e gp, rDp, Option.bind_some, gfr_e k15W, r1, Option.bind_some, ck_e (isk _ kU).1, nr, Option.bind_some]
        by_cases c : dE tgt x < dE tgt (E.getD p ent0)
        · rw [if_pos c, if_neg (by decide), if_pos c, Option.bind_some, Option.bind_some, lar_n kA (by decide) (by omega) (by decide), rp, Option.bind_some, sar_n kA (by decide) (by omega) (by decide) (by rw [gp]; rfl), Option.bind_some, show (((p + 1 : Nat) : Int) + (-1)) = (p : Int) by omega]
          rfl
        · rw [if_neg c, if_pos (by decide), if_neg c]
      rw [bs] at hb
      by_cases c : dE tgt x < dE tgt (E.getD p ent0)
      · rw [if_pos c] at pre hb
        rw [lpN_cnt (b := fun s : Int × MM => b_X15_add_81 (u : Int) (kx : Int) (e : Int) s.1 s.2) (s := (((p + 1 : Nat) : Int), W)) pre]
        refine ih _ f (by omega) (by omega) hb (hW.trans (ExC_sR (A := fun q => q = u + 1) rfl)) (fun w => ?_)
        rw [rR_sR]
        by_cases d : w = p + 1
        · rw [if_pos ⟨rfl, d⟩, if_pos (by omega), d]; rfl
        · rw [if_neg (fun z => d z.2), hw]
          by_cases d2 : p + 1 < w ∧ w ≤ L
          · rw [if_pos d2, if_pos (by omega)]
          · rw [if_neg d2, if_neg (by omega)]
      · rw [if_neg c] at pre hb
        refine ⟨W, ?_, hW, by rw [← hb]; exact hw⟩
        rw [← hb]
        exact lpN_xit (b := fun s : Int × MM => b_X15_add_81 (u : Int) (kx : Int) (e : Int) s.1 s.2) (s := (((p + 1 : Nat) : Int), W)) pre
  obtain ⟨W, w1, w2, w3⟩ := loop L U FU (Nat.le_refl _) (by unfold FU; omega) hn.symm ExC.refl (fun w => by rw [if_neg (by omega), xU.rR])
  have k15W : (kd W u).1 = 15 := by rw [w2.kd, xU.kd]; exact k15
  have kA : kd W (u + 1) = (376, 65) := by rw [w2.kd, xU.kd]; exact l1.2.2.1
  have r0 : rR W u 0 = ((u + 1 : Nat) : Int) := by rw [w2.rR (by omega), xU.rR]; exact l1.2.1
  have i3 : rI W u 3 = (L : Int) := by rw [w2.rI (by omega), uU0]; exact l3
  obtain ⟨N', hN'⟩ : ∃ N', N' = sI (sR W (u + 1) n (e : Int)) u 3 (jmin ((L : Int) + 1) 64) := ⟨_, rfl⟩
  have insLen : (insM (dE tgt) x E).length = L + 1 := by rw [insM_len, hLL]
  have sz : jmin ((L : Int) + 1) 64 = ((((insM (dE tgt) x E).take 64).length : Nat) : Int) := by
    rw [List.length_take, insLen]
    unfold jmin
    rw [show w32 ((L : Int) + 1) = (L : Int) + 1 from w32_id (by omega) (by omega), show w32 64 = 64 by decide]
    split <;> omega
  have exN : ExC (AL u A D) M N' := by
    rw [hN']
    have a1 : ExC (AL u A D) M U := (ExC_ex xU).mono (fun q hq => Or.inr (Or.inr ⟨L, by omega, by rw [← he]; exact hq⟩))
    have a2 : ExC (AL u A D) U W := w2.mono (fun q hq => Or.inr (Or.inl hq))
    exact ((a1.trans a2).trans (ExC_sR (A := AL u A D) (Or.inr (Or.inl rfl)))).trans (ExC_sI (A := AL u A D) (Or.inl rfl))
  have kN : ∀ z, kd N' z = kd M z := fun z => exN.kd z
  have rN : ∀ w, rR N' (u + 1) w = ((insD D n L w : Nat) : Int) ∨ (A ≤ w ∧ rR N' (u + 1) w = rR M (u + 1) w) := fun w => by
    rw [hN', rR_sI, rR_sR]
    unfold insD
    by_cases c1 : w = n
    · left; rw [if_pos ⟨rfl, c1⟩, if_neg (by omega), if_pos c1, he]
    · rw [if_neg (fun z => c1 z.2), w3]
      by_cases c2 : w < n
      · left; rw [if_neg (by omega), if_pos c2]; exact (l6 w (by omega)).1
      · by_cases c3 : w ≤ L
        · left; rw [if_pos (by omega), if_neg c2, if_neg c1, if_pos c3]
        · rw [if_neg (by omega)]
          by_cases c4 : w < A
          · left; rw [if_neg c2, if_neg c1, if_neg c3]; exact (l6 w c4).1
          · right; exact ⟨by omega, rfl⟩
  have insIdx : ∀ w, w < A → ∃ j, j < A ∧ insD D n L w = D j ∧ (w < n → j = w) ∧ (w = n → j = L) ∧ (n < w → w ≤ L → j = w - 1) ∧ (L < w → j = w) := fun w hw => by
    unfold insD
    by_cases c2 : w < n
    · exact ⟨w, hw, by rw [if_pos c2], fun _ => rfl, by omega, by omega, by omega⟩
    · by_cases c1 : w = n
      · exact ⟨L, by omega, by rw [if_neg c2, if_pos c1], by omega, fun _ => rfl, by omega, by omega⟩
      · by_cases c3 : w ≤ L
        · exact ⟨w - 1, by omega, by rw [if_neg c2, if_neg c1, if_pos c3], by omega, by omega, fun _ _ => rfl, by omega⟩
        · exact ⟨w, hw, by rw [if_neg c2, if_neg c1, if_neg c3], by omega, by omega, by omega, fun _ => rfl⟩
  have cells : ∀ z, z ≠ u → z ≠ u + 1 → (∀ i, rI N' z i = rI U z i) ∧ ∀ i, rR N' z i = rR U z i := fun z z1 z2 => ⟨fun i => by rw [hN', rI_ne (by omega), rI_sR, w2.rI z2], fun i => by rw [hN', rR_sI, rR_ne (by omega), w2.rR z2]⟩
  have enN : ∀ i, i < A → isEn N' (D i) ∧ enC N' (D i) = enC U (D i) := fun i hi => by
    have hi' := (l6 i hi).2
    have z0 : ∀ z, D i ≤ z → z ≤ D i + 2 → z ≠ u ∧ z ≠ u + 1 := fun z z1 z2 => ⟨fun q => en_lu hi' l1 (z := z) (by omega) ⟨z1, z2⟩, fun q => en_lu hi' l1 (z := z) (by omega) ⟨z1, z2⟩⟩
    have q0 := z0 (D i) (by omega) (by omega)
    have q1 := z0 (D i + 1) (by omega) (by omega)
    have q2 := z0 (D i + 2) (by omega) (by omega)
    refine ⟨⟨by rw [kN]; exact hi'.1, by rw [(cells _ q0.1 q0.2).2, xU.rR]; exact hi'.2.1, by rw [kN]; exact hi'.2.2.1, by rw [kN]; exact hi'.2.2.2.1, by rw [(cells _ q1.1 q1.2).2, xU.rR]; exact hi'.2.2.2.2.1, by rw [kN]; exact hi'.2.2.2.2.2⟩, ?_⟩
    unfold enC
    have : kC N' (D i + 1) = kC U (D i + 1) := by funext j; exact (cells _ q2.1 q2.2).1 j
    rw [this, (cells _ q0.1 q0.2).1, (cells _ q0.1 q0.2).1, (cells _ q0.1 q0.2).1]
  have hins := bk_ins (x := x) (d := ent0) l9.2.1
  rw [← hLL, ← hn] at hins
  have okE' : okEs tgt ((insM (dE tgt) x E).take 64) := by
    have := okEs_add l9 okx
    unfold addE at this
    rw [if_neg (by rw [hx]; show ¬ (hasE E key = true); rw [hkey, hno]; decide)] at this
    exact this
  refine ⟨N', insD D n L, ?_, ⟨?_, ?_, ?_, ?_, l5, fun i hi => ?_, fun i j hi hj hij => ?_, fun i a c => ?_, ?_, fun i hi => ?_⟩, fun i hi => ?_, exN, fun k hk => by rw [hN', rI_ne (by omega), rI_sR, w2.rI (by omega), uU0]⟩
  · unfold j_X15_add_37 l_X15_add_81
    rw [gfr_e k15, l1.2.1, Option.bind_some, gfi_e k15, l3, Option.bind_some, lar_n l1.2.2.1 (by decide) (by omega) (by decide), (l6 L (by omega)).1, ← he, Option.bind_some, gfr_e (by rw [hen.1]), hen.2.1, Option.bind_some, ck_e hen.2.2.2.1, s1, Option.bind_some, pfi_e (by rw [s3.kd, hen.1]), Option.bind_some, pfi_e (by rw [kd_sI, s3.kd, hen.1]), Option.bind_some, pfi_e (by rw [kd_sI, kd_sI, s3.kd, hen.1]), Option.bind_some, ← hU, gfi_e (by rw [xU.kd]; exact k15), uU0, l3, Option.bind_some, w1]
    unfold j_X15_add_131
    rw [gfr_e k15W, r0, Option.bind_some, sar_n kA (by decide) (by omega) (by decide) (by rw [w2.kd, xU.kd, hen.1]; rfl), Option.bind_some, gfi_e (by rw [kd_sR]; exact k15W), rI_sR, i3, Option.bind_some, pfi_e (by rw [kd_sR]; exact k15W), Option.bind_some, hN']
  · obtain ⟨t1, t2, t3, t4, t5, t6, t7⟩ := l1
    have cu : ∀ i, rR N' u i = rR M u i := fun i => by rw [hN', rR_sI, rR_ne (by omega), w2.rR (by omega), xU.rR]
    refine ⟨by rw [kN]; exact t1, by rw [cu]; exact t2, by rw [kN]; exact t3, by rw [cu]; exact t4, by rw [kN]; exact t5, ⟨by rw [kN]; exact t6.1, by rw [(cells (u + 2) (by omega) (by omega)).2, xU.rR]; exact t6.2.1, by rw [kN]; exact t6.2.2⟩, ?_⟩
    rw [hN', rI_ne (by omega), rI_sR, w2.rI (by omega), uU0]; exact t7
  · have : kC N' (u + 2) = kC U (u + 2) := by funext j; exact (cells (u + 2 + 1) (by omega) (by omega)).1 j
    rw [this]; exact tgU.2
  · rw [← hkey, ← hx, hN', rI_eq rfl, sz, w32_nn (by rw [List.length_take]; omega)]
  · rw [← hkey, ← hx, List.length_take, insLen]; omega
  · obtain ⟨j, j1, j2, _⟩ := insIdx i hi
    rcases rN i with h | h
    · refine ⟨h, ?_⟩
      rw [j2]; exact (enN j j1).1
    · omega
  · obtain ⟨a, a1, a2, a3, a4, a5, a6⟩ := insIdx i hi
    obtain ⟨c, c1, c2, c3, c4, c5, c6⟩ := insIdx j hj
    rw [a2, c2] at hij
    have := l7 a c a1 c1 hij
    omega
  · rcases rN i with h | h
    · exfalso
      have : insD D n L i = D i := by unfold insD; rw [if_neg (by omega), if_neg (by omega), if_neg (by omega)]
      have r := l8 i a c
      have hh : rR N' (u + 1) i = rR M (u + 1) i := by
        rw [hN', rR_sI, rR_ne (by omega), w3, if_neg (by omega)]
      rw [hh, r] at h
      omega
    · rw [h.2]; exact l8 i a c
  · rw [← hkey, ← hx]; exact okE'
  · rw [← hkey, ← hx] at hi ⊢
    rw [List.length_take, insLen] at hi
    obtain ⟨j, j1, j2, j3, j4, j5, j6⟩ := insIdx i (by omega)
    rw [j2, (enN j j1).2, List.getD_eq_getElem?_getD, List.getElem?_take_of_lt (by omega), ← hins]
    have lt1 : (E.take n).length = n := by rw [List.length_take]; omega
    rcases Nat.lt_trichotomy i n with c | c | c
    · rw [List.getElem?_append_left (by omega), List.getElem?_take_of_lt c, ← List.getD_eq_getElem?_getD, j3 c, (other i (by omega) (by omega)).2]
      exact l10 i (by omega)
    · rw [List.getElem?_append_right (by omega), lt1, c, Nat.sub_self, j4 c, ← he]
      exact enU
    · rw [List.getElem?_append_right (by omega), lt1, show i - n = (i - 1 - n) + 1 by omega, List.getElem?_cons_succ, List.getElem?_drop, show n + (i - 1 - n) = i - 1 by omega, ← List.getD_eq_getElem?_getD, j5 c (by omega), (other (i - 1) (by omega) (by omega)).2]
      exact l10 (i - 1) (by omega)
  · obtain ⟨j, j1, j2, _⟩ := insIdx i hi
    exact ⟨j, j1, j2⟩
theorem c_ladd (hL : LuC M u m tgt E A D) (hu : UN M) (hk : isK M kx) (hkx : kd M kx ≠ (3, 30) ∧ kx ≠ u + 2) (had : 0 ≤ ad ∧ ad < 32) (hst : 0 ≤ stt ∧ stt ≤ 3) :
    ∃ M' A' D', f_X15_add (u : Int) (kx : Int) ad stt M = some M' ∧ LuC M' u m tgt (addE tgt E (ky (kC M kx), ad, stt, 0)) A' D' ∧ DW M A D A' D' ∧ (nN M' + 3 * A = nN M + 3 * A' ∧ nU M' + 10 * A = nU M + 10 * A') ∧ ExA (AL u A D) M M' ∧ ∀ k, k ≠ 3 → rI M' u k = rI M u k := by
  have hL0 := hL
  obtain ⟨l1, l2, l3, l4, l5, l6, l7, l8, l9, l10⟩ := hL
  have k15 : (kd M u).1 = 15 := by rw [l1.1]
  have len := l9.1
  unfold f_X15_add
  rw [ck_e k15]
  rcases c_lfind hL0 hk with ⟨i, i1, i2, i3⟩ | ⟨i2, i3⟩
  · rw [i2, Option.bind_some, if_neg (by omega)]
    have hh : hasE E (ky (kC M kx)) = true := hasE_iff.mpr ⟨E.getD i ent0, by rw [gd_get i1]; exact List.getElem_mem i1, i3⟩
    have ea : addE tgt E (ky (kC M kx), ad, stt, 0) = E := by unfold addE; rw [if_pos (by exact hh)]
    exact ⟨M, A, D, rfl, by rw [ea]; exact hL0, DW.refl, ⟨rfl, rfl⟩, ExA.refl, fun _ _ => rfl⟩
  · have ea : addE tgt E (ky (kC M kx), ad, stt, 0) = (insM (dE tgt) (ky (kC M kx), ad, stt, 0) E).take 64 := by
      unfold addE
      rw [if_neg (by show ¬ (hasE E (ky (kC M kx)) = true); rw [i3]; decide)]
    rw [i2, Option.bind_some, if_pos rfl, gfr_e k15, l1.2.1, Option.bind_some, gfi_e k15, l3, Option.bind_some, lar_n l1.2.2.1 (by decide) (by omega) (by decide), Option.bind_some, ea]
    by_cases c : E.length < A
    · rw [(l6 _ c).1, if_neg (by omega)]
      obtain ⟨M', D', e1, e2, e3, e4, e5⟩ := c_ladd37 hL0 c hk hkx i3 had hst
      exact ⟨M', A, D', e1, e2, ⟨Nat.le_refl _, fun i hi => Or.inl (e3 i hi)⟩, ⟨by rw [e4.nN], by rw [e4.nU]⟩, e4.exa, e5⟩
    · have cA : A = E.length := by omega
      rw [l8 _ (by omega) (by omega), if_pos rfl, Option.bind_some, Option.bind_some, nob_e, Option.bind_some]
      obtain ⟨M4, n1, n2, n3, n4, n5⟩ := c_newEn hu
      dsimp only
      have hlt := LuS_lt hu l1
      rw [nn_e, n1, Option.bind_some, ← cA, sar_n (k := 376) (l := 65) (by rw [n5.kd (by omega)]; exact l1.2.2.1) (by decide) (by omega) (by decide) (by rw [n2.1]; rfl), Option.bind_some]
      obtain ⟨L1, X1⟩ := lu_more hL0 hu (by omega) n5 n2
      have hkl := isK_lt hu hk
      have kx1 : kx ≠ u + 1 := fun z => by have := hk.1; rw [z, l1.2.2.1] at this; exact absurd this (by decide)
      have kx2 : kx + 1 ≠ u + 1 := fun z => by have := hk.2.2; rw [z, l1.2.2.1] at this; exact absurd this (by decide)
      have k1 : isK (sR M4 (u + 1) A ((nN M : Nat) : Int)) kx := X1.isK hu kx1 hk
      have kk1 : kC (sR M4 (u + 1) A ((nN M : Nat) : Int)) kx = kC M kx := X1.kC hkl kx2
      obtain ⟨M', D', e1, e2, e3, e4, e5⟩ := c_ladd37 (kx := kx) (ad := ad) (stt := stt) L1 (by omega) k1 ⟨by rw [X1.kd (by omega)]; exact hkx.1, hkx.2⟩ (by rw [kk1]; exact i3) had hst
      rw [kk1] at e2
      have a1 : nN (sR M4 (u + 1) A ((nN M : Nat) : Int)) = nN M + 3 := n3
      have a2 : nU (sR M4 (u + 1) A ((nN M : Nat) : Int)) = nU M + 10 := n4
      have b1 := e4.nN
      have b2 := e4.nU
      refine ⟨M', A + 1, D', e1, e2, ⟨by omega, fun i hi => ?_⟩, ⟨by omega, by omega⟩, ?_, fun k hk => ?_⟩
      · obtain ⟨j, j1, j2⟩ := e3 i hi
        by_cases d : j = A
        · right; rw [j2, d, fup_eq]; exact Nat.le_refl _
        · left; exact ⟨j, by omega, by rw [j2, fup_ne d]⟩
      · refine (X1.mono (fun q hq => Or.inr (Or.inl hq))).trC e4 (fun q hq hB => ?_)
        rcases hB with z | z | ⟨i, i1, i2⟩
        · exact Or.inl z
        · exact Or.inr (Or.inl z)
        · by_cases d : i = A
          · rw [d, fup_eq] at i2; omega
          · rw [fup_ne d] at i2
            exact Or.inr (Or.inr ⟨i, by omega, i2⟩)
      · rw [e5 k hk, X1.rI (by omega) (by omega)]
/-- a lookup begins -/
theorem c_lbegin {sk : Bool} (hL : LuC M u m tgt E A D) (hk : isK M kx) : ∃ M', f_X15_begin (u : Int) (kx : Int) (b2i sk) M = some M' ∧ LuC M' u m (ky (kC M kx)) [] A D ∧ Ex (fun q => q = u ∨ q = u + 3) M M' ∧ rI M' u 4 = 0 ∧ rI M' u 5 = b2i sk := by
  have hL0 := hL
  obtain ⟨l1, l2, l3, l4, l5, l6, l7, l8, l9, l10⟩ := hL
  have k15 : (kd M u).1 = 15 := by rw [l1.1]
  obtain ⟨U1, s1, s2, s3⟩ := e_X3_set l1.2.2.2.2.2.1 hk
  have k15' : (kd U1 u).1 = 15 := by rw [s3.kd]; exact k15
  obtain ⟨N', hN⟩ : ∃ N', N' = sI (sI (sI U1 u 5 (b2i sk)) u 3 0) u 4 0 := ⟨_, rfl⟩
  have ex : Ex (fun q => q = u ∨ q = u + 3) M N' := by
    rw [hN]
    exact (((s3.mono (fun q hq => Or.inr (by have : q = u + 2 + 1 := hq; omega))).trans (Ex.st (A := fun q => q = u ∨ q = u + 3) (Or.inl rfl))).trans (Ex.st (A := fun q => q = u ∨ q = u + 3) (Or.inl rfl))).trans (Ex.st (A := fun q => q = u ∨ q = u + 3) (Or.inl rfl))
  have key : ky (kC N' (u + 2)) = ky (kC M kx) := by
    have : ∀ i, i < 5 → kC N' (u + 2) i = kC M kx i := fun i hi => by
      rw [← s2 i hi, hN]
      show rI (sI (sI (sI U1 u 5 (b2i sk)) u 3 0) u 4 0) (u + 2 + 1) i = rI U1 (u + 2 + 1) i
      rw [rI_ne (by omega), rI_ne (by omega), rI_ne (by omega)]
    unfold ky
    rw [this 0 (by decide), this 1 (by decide), this 2 (by decide), this 3 (by decide), this 4 (by decide)]
  refine ⟨N', ?_, ⟨?_, key, ?_, Nat.zero_le _, l5, fun i hi => ⟨by rw [ex.rR]; exact (l6 i hi).1, ?_⟩, l7, fun i a c => by rw [ex.rR]; exact l8 i a c, ⟨by decide, List.Pairwise.nil, fun x hx => by simp at hx⟩, fun i hi => by simp at hi⟩, ex, ?_, ?_⟩
  · unfold f_X15_begin
    rw [gfr_e k15, l1.2.2.2.1, Option.bind_some, ck_e l1.2.2.2.2.2.1.1, s1, Option.bind_some, pfz_e k15' (b2i_01 sk), Option.bind_some, pfi_e (by rw [kd_sI]; exact k15'), Option.bind_some, pfi_e (by rw [kd_sI, kd_sI]; exact k15'), Option.bind_some, hN]
  · obtain ⟨t1, t2, t3, t4, t5, t6, t7⟩ := l1
    refine ⟨by rw [ex.kd]; exact t1, by rw [ex.rR]; exact t2, by rw [ex.kd]; exact t3, by rw [ex.rR]; exact t4, by rw [ex.kd]; exact t5, t6.ex ex, ?_⟩
    rw [hN, rI_ne (by omega), rI_ne (by omega), rI_ne (by omega), s3.rI (by omega)]; exact t7
  · rw [hN, rI_ne (by omega), rI_eq rfl]; decide
  · have hi' := (l6 i hi).2
    exact ⟨by rw [ex.kd]; exact hi'.1, by rw [ex.rR]; exact hi'.2.1, by rw [ex.kd]; exact hi'.2.2.1, hi'.2.2.2.ex ex⟩
  · rw [hN, rI_eq rfl]; decide
  · rw [hN, rI_ne (by omega), rI_ne (by omega), rI_eq rfl, w32_b2i]
/-- an entry's state and count -/
def stE (key : Ky) (s c : Int) (E : List Ent) : List Ent := E.map (fun x => if eKey x = key then (eKey x, eAdr x, s, c) else x)
theorem stE_set {key : Ky} {s c : Int} {j : Nat} (h : okEs tgt E) (hj : j < E.length) (hk : eKey (E.getD j ent0) = key) : stE key s c E = E.set j (eKey (E.getD j ent0), eAdr (E.getD j ent0), s, c) := by
  unfold stE
  have hn := okEs_nodup h
  refine List.ext_getElem (by simp) (fun i i1 i2 => ?_)
  rw [List.length_map] at i1
  rw [List.getElem_map, List.getElem_set]
  rw [gd_get hj] at hk
  by_cases d : j = i
  · subst d
    rw [if_pos hk, if_pos rfl, gd_get hj]
  · rw [if_neg d, if_neg (fun z => ?_)]
    have hq := List.pairwise_iff_getElem.mp hn
    rcases Nat.lt_or_gt_of_ne d with w | w
    · exact hq j i (by simpa using hj) (by simpa using i1) w (by simp only [List.getElem_map]; rw [hk, z])
    · exact hq i j (by simpa using i1) (by simpa using hj) w (by simp only [List.getElem_map]; rw [hk, z])
theorem okEs_st {key : Ky} {s c : Int} (h : okEs tgt E) (hs : 0 ≤ s ∧ s ≤ 3) (hc : 0 ≤ c ∧ c ≤ 65535) : okEs tgt (stE key s c E) := by
  unfold stE
  refine ⟨by rw [List.length_map]; exact h.1, ?_, fun x hx => ?_⟩
  · unfold SrtM
    rw [List.pairwise_map]
    refine h.2.1.imp (fun {a b} hab => ?_)
    have : ∀ y : Ent, dE tgt (if eKey y = key then (eKey y, eAdr y, s, c) else y) = dE tgt y := fun y => by split <;> rfl
    rw [this, this]; exact hab
  · obtain ⟨y, hy, e⟩ := List.mem_map.mp hx
    have oy := h.2.2 y hy
    rw [← e]
    split
    · exact ⟨oy.1, oy.2.1, hs, hc⟩
    · exact oy
theorem c_lset {j : Nat} {s c : Int} (hL : LuC M u m tgt E A D) (hj : j < E.length) (hs : 0 ≤ s ∧ s ≤ 3) (hc : 0 ≤ c ∧ c ≤ 65535) : LuC (sI (sI M (D j) 2 s) (D j) 3 c) u m tgt (stE (eKey (E.getD j ent0)) s c E) A D := by
  obtain ⟨l1, l2, l3, l4, l5, l6, l7, l8, l9, l10⟩ := hL
  have hen := (l6 j (by omega)).2
  have ex : Ex (fun q => q = D j) M (sI (sI M (D j) 2 s) (D j) 3 c) := Ex.trans (M1 := sI M (D j) 2 s) (Ex.st (A := fun q => q = D j) rfl) (Ex.st (A := fun q => q = D j) rfl)
  have eu : ∀ z, (u ≤ z ∧ z ≤ u + 3) → z ≠ D j := fun z hz q => en_lu hen l1 hz (by omega)
  have len : (stE (eKey (E.getD j ent0)) s c E).length = E.length := by unfold stE; rw [List.length_map]
  refine ⟨⟨l1.1, l1.2.1, l1.2.2.1, l1.2.2.2.1, l1.2.2.2.2.1, l1.2.2.2.2.2.1, by rw [ex.rI (eu u (by omega))]; exact l1.2.2.2.2.2.2⟩, ?_, by rw [ex.rI (eu u (by omega)), len]; exact l3, by rw [len]; exact l4, l5, l6, l7, l8, okEs_st l9 hs hc, fun i hi => ?_⟩
  · have : kC (sI (sI M (D j) 2 s) (D j) 3 c) (u + 2) = kC M (u + 2) := by funext i; exact ex.rI (eu (u + 2 + 1) (by omega)) i
    rw [this]; exact l2
  · rw [len] at hi
    rw [stE_set l9 hj rfl, List.getD_eq_getElem?_getD, List.getElem?_set]
    have hei := (l6 i (by omega)).2
    by_cases d : j = i
    · subst d
      rw [if_pos rfl, if_pos hj]
      have e0 := l10 j hj
      unfold enC
      have k1 : kC (sI (sI M (D j) 2 s) (D j) 3 c) (D j + 1) = kC M (D j + 1) := by funext i; exact ex.rI (by omega) i
      rw [k1, rI_ne (by omega), rI_ne (by omega), rI_ne (by omega), rI_eq rfl, rI_eq rfl, w32_id (by omega) (by omega), w32_id (by omega) (by omega), ← e0]
      rfl
    · rw [if_neg d, ← List.getD_eq_getElem?_getD, ← l10 i hi]
      have st : ∀ z, D i ≤ z → z ≤ D i + 2 → z ≠ D j := fun z z1 z2 q => en_apart hen hei (fun w => d (l7 j i (by omega) (by omega) w.symm)) z1 z2 (by omega)
      unfold enC
      have k1 : kC (sI (sI M (D j) 2 s) (D j) 3 c) (D i + 1) = kC M (D i + 1) := by funext i'; exact ex.rI (st _ (by omega) (by omega)) i'
      rw [k1, ex.rI (st _ (by omega) (by omega)), ex.rI (st _ (by omega) (by omega)), ex.rI (st _ (by omega) (by omega))]
end CLADD
