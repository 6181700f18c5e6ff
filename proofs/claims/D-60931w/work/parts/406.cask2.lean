/-- a request that was sent once -/
def newY (n : Nat) (ad ty ddl : Int) (key : Ky) (bt : List Int) (wk : Option Nat) (pb : Option Int) : Rq := ((n : Int), ad, ty, ddl, 1, key, bt, wk, pb)
section CASK2
variable {S : Nat → Bool} {M M1 : MM} {A : Nat → Prop} {m al N p q r r' x i kx t : Nat} {pa : Nat → Nat} {own : Nat → Ky} {sd ps sn pu rf tl : Nat → Int} {nx lf : Nat → Nat} {Q : Nat → List Rq} {rg : RG} {Bf Bf' : Nat → Nat → Nat} {B : Nat → Nat} {y y' : Rq} {v ad x3 x4 x5 ty : Int} {k j a : Nat} {l bd : List Int} {st : Nat → Int} {tm lo : Int} {fl : List Dg} {fA : Nat} {wk : Option Nat} {pb : Option Int}
theorem c_newRq (hu : UN M) : ∃ M4, f_X24_init ((nN M : Nat) : Int) (nwo M 24 11 36) = some M4 ∧ isRq M4 (nN M) ∧ nN M4 = nN M + 5 ∧ nU M4 = nU M + 479 ∧ ExA (fun _ => False) M M4 := by
  generalize hn : nN M = n
  obtain ⟨M1, hM1⟩ : ∃ M1, M1 = sR (sR (nw (nwo (nwo M 24 11 36) 3 1 34) 64 5) (n + 1) 0 ((n + 2 : Nat) : Int)) n 7 ((n + 1 : Nat) : Int) := ⟨_, rfl⟩
  obtain ⟨M4, hM4⟩ : ∃ M4, M4 = sR (sR (nw (nwo M1 4 2 35) 113 460) (n + 3) 0 ((n + 4 : Nat) : Int)) n 8 ((n + 3 : Nat) : Int) := ⟨_, rfl⟩
  have n1 : nN (nwo M 24 11 36) = n + 1 := by rw [nN_nwo, hn]
  have n2 : nN (nwo (nwo M 24 11 36) 3 1 34) = n + 2 := by rw [nN_nwo, n1]
  have n3 : nN M1 = n + 3 := by rw [hM1, nN_sR, nN_sR, nN_nw, n2]
  have n4 : nN (nwo M1 4 2 35) = n + 4 := by rw [nN_nwo, n3]
  have kd1 : ∀ z, kd M1 z = if z = n + 2 then (64, 5) else if z = n + 1 then (3, 34) else if z = n then (24, 36) else kd M z := fun z => by
    rw [hM1, kd_sR, kd_sR, kd_nw, kd_nwo, kd_nwo, nN_nwo, nN_nwo, hn]
  have kd4 : ∀ z, kd M4 z = if z = n + 4 then (113, 460) else if z = n + 3 then (4, 35) else kd M1 z := fun z => by
    rw [hM4, kd_sR, kd_sR, kd_nw, kd_nwo, n4, n3]
  have rr : ∀ z k, z < n + 3 → ¬ (z = n ∧ k = 8) → rR M4 z k = rR M1 z k := fun z k hz hk => by
    rw [hM4, rR_ne (by omega), rR_ne (by omega), rR_nw, if_neg (by rw [n4]; omega), rR_nwo, if_neg (by rw [n3]; omega)]
  refine ⟨M4, ?_, ⟨by rw [kd4, if_neg (by omega), if_neg (by omega), kd1, if_neg (by omega), if_neg (by omega), if_pos rfl], ?_, by rw [kd4, if_neg (by omega), if_neg (by omega), kd1, if_neg (by omega), if_pos rfl], ⟨by rw [kd4, if_neg (by omega), if_neg (by omega), kd1, if_neg (by omega), if_pos rfl], ?_, by rw [kd4, if_neg (by omega), if_neg (by omega), kd1, if_pos rfl]⟩, ?_, by rw [kd4, if_neg (by omega), if_pos rfl], ⟨by rw [kd4, if_neg (by omega), if_pos rfl], ?_, by rw [kd4, if_pos rfl]⟩⟩, ?_, ?_, ?_⟩
  · unfold f_X24_init f_X3_init f_X4_init
    rw [nn_e, nob_e, Option.bind_some]
    dsimp only
    rw [n1, nn_e, nn_e, nar_e (j := 5) (by decide) (by decide), Option.bind_some]
    dsimp only
    rw [n2, pfr_e (by rw [kd_nw, if_neg (by rw [n2]; omega), kd_nwo, if_pos n1.symm]), Option.bind_some, Option.bind_some, pfr_e (by rw [kd_sR, kd_nw, if_neg (by rw [n2]; omega), kd_nwo, if_neg (by rw [n1]; omega), kd_nwo, if_pos hn.symm]), Option.bind_some, ← hM1, nob_e, Option.bind_some]
    dsimp only
    rw [n3, nn_e, nn_e, nar_e (j := 460) (by decide) (by decide), Option.bind_some]
    dsimp only
    rw [n4, pfr_e (by rw [kd_nw, if_neg (by rw [n4]; omega), kd_nwo, if_pos n3.symm]), Option.bind_some, Option.bind_some, pfr_e (by rw [kd_sR, kd_nw, if_neg (by rw [n4]; omega), kd_nwo, if_neg (by rw [n3]; omega), kd1, if_neg (by omega), if_neg (by omega), if_pos rfl]), Option.bind_some, hM4]
  · rw [rr _ _ (by omega) (by omega), hM1, rR_eq rfl]
  · rw [rr _ _ (by omega) (by omega), hM1, rR_ne (by omega), rR_eq rfl]
  · rw [hM4, rR_eq rfl]
  · rw [hM4, rR_ne (by omega), rR_eq rfl]
  · rw [hM4, nN_sR, nN_sR, nN_nw, n4]
  · rw [hM4, nU_sR, nU_sR, nU_nw, nU_nwo, hM1, nU_sR, nU_sR, nU_nw, nU_nwo, nU_nwo]
  · have b1 : ExA (fun _ => False) M M1 := by
      rw [hM1]
      have b1 : ExA (fun _ => False) M (nw (nwo (nwo M 24 11 36) 3 1 34) 64 5) := (ExA_nwo.trans ExA_nwo).trans ExA_nw
      exact (b1.newR (by omega)).newR (by omega)
    rw [hM4]
    have b2 : ExA (fun _ => False) M (nw (nwo M1 4 2 35) 113 460) := (b1.trans ExA_nwo).trans ExA_nw
    exact (b2.newR (by omega)).newR (by omega)
/-- a slot more for requests -/
theorem rqs_more (hR : RqsC M N pa Bf lf Q rg) (hP : PeC M N pa own sd ps sn pu rf tl nx) (hp : p < N) (hl : (rg p).1 < 40) (h : ExA (fun _ => False) M M1) (hq : isRq M1 (nN M)) : RqsC (sR M1 (pa p + 9) (rg p).1 ((nN M : Nat) : Int)) N pa Bf lf Q (fup rg p ((rg p).1 + 1, fup (rg p).2 (rg p).1 (nN M))) ∧ PeC (sR M1 (pa p + 9) (rg p).1 ((nN M : Nat) : Int)) N pa own sd ps sn pu rf tl nx ∧ ∀ S : Nat → Bool, S 5 = true → FK S M (sR M1 (pa p + 9) (rg p).1 ((nN M : Nat) : Int)) := by
  obtain ⟨hu, hinj, hb, hj⟩ := hR
  obtain ⟨h1, h2, h3, h4, h5, h6, h7, h8, h9⟩ := hb p hp
  have pe := fun q hq => (hP.2.2 q hq).1
  have l9 : ∀ q, q < N → pa q + 9 < nN M := fun q hq => hu.lt (by rw [(hb q hq).2.1]; decide)
  have ex : ExA (fun z => z = pa p + 9) M (sR M1 (pa p + 9) (rg p).1 ((nN M : Nat) : Int)) := (h.mono (fun _ z => z.elim)).oldR rfl
  have ltR : ∀ q i, q < N → i < (rg q).1 → (rg q).2 i + 4 < nN M := fun q i hq hi => isRq_lt hu ((hb q hq).2.2.2.2.2.1 i hi).2
  refine ⟨⟨ex.un hu, hinj, fun q hq' => ?_, fun q q' i j hq1 hq2 hi hj' he => ?_⟩, PeC_exa ex (fun q hq' => ⟨fun z => ?_, fun z => ?_, fun z => ?_⟩) hP, fun S hs => FK_exa ex (fun z _ hz => by have : z = pa p + 9 := hz; rw [this, (Pe_mo (pe p hp)).2.2.2]; exact hs)⟩
  · obtain ⟨g1, g2, g3, g4, g5, g6, g7, g8, g9⟩ := hb q hq'
    have l := l9 q hq'
    have a0 : ¬ (pa q = pa p + 9) := fun z => by rw [z, h2] at g1; exact absurd g1 (by decide)
    have stay : ∀ i, i < (rg q).1 → ∀ z, (rg q).2 i ≤ z → z ≤ (rg q).2 i + 4 → ¬ (z = pa p + 9) := fun i hi z z1 z2 e => rq_pe (g6 i hi).2 (pe p hp) (Or.inr (Or.inr (Or.inr e))) ⟨z1, z2⟩
    by_cases e : q = p
    · subst e
      rw [fup_eq]
      refine ⟨by rw [ex.kd (by omega)]; exact g1, by rw [ex.kd l]; exact g2, by rw [ex.rI (by omega) a0]; exact g3, by dsimp only; omega, by dsimp only; omega, fun i hi => ?_, fun i b1 b2 => ?_, fun i j hi hj' he => ?_, fun i hi => ?_⟩
      · dsimp only at hi ⊢
        by_cases c : i = (rg q).1
        · subst c
          rw [rR_eq rfl, fup_eq]
          refine ⟨rfl, ?_⟩
          obtain ⟨c1, c2, c3, c4, c5, c6, c7⟩ := hq
          have nn : ∀ z, nN M ≤ z → z ≠ pa q + 9 := fun z hz e => by omega
          exact ⟨c1, by rw [rR_ne (fun z => nn _ (by omega) z.1)]; exact c2, c3, ⟨c4.1, by rw [rR_ne (fun z => nn _ (by omega) z.1)]; exact c4.2.1, c4.2.2⟩, by rw [rR_ne (fun z => nn _ (by omega) z.1)]; exact c5, c6, ⟨c7.1, by rw [rR_ne (fun z => nn _ (by omega) z.1)]; exact c7.2.1, c7.2.2⟩⟩
        · rw [rR_ne (fun z => c z.2), fup_ne c, h.rR l (fun z => z)]
          exact ⟨(g6 i (by omega)).1, (g6 i (by omega)).2.exa ex hu (stay i (by omega))⟩
      · dsimp only at b1
        rw [rR_ne (by omega), h.rR l (fun z => z)]
        exact g7 i (by omega) b2
      · dsimp only at hi hj' he
        by_cases c : i = (rg q).1
        · by_cases d : j = (rg q).1
          · omega
          · rw [c, fup_eq, fup_ne d] at he
            have := ltR q j hq' (by omega)
            omega
        · by_cases d : j = (rg q).1
          · rw [d, fup_eq, fup_ne c] at he
            have := ltR q i hq' (by omega)
            omega
          · rw [fup_ne c, fup_ne d] at he
            exact g8 i j (by omega) (by omega) he
      · dsimp only
        rw [fup_ne (by omega)]
        exact (g9 i hi).exa ex hu (stay i (by omega)) (g6 i (by omega)).2
    · rw [fup_ne e]
      have a9 : ¬ (pa q + 9 = pa p + 9) := fun z => e (hinj q p hq' hp (by omega))
      exact ⟨by rw [ex.kd (by omega)]; exact g1, by rw [ex.kd l]; exact g2, by rw [ex.rI (by omega) a0]; exact g3, g4, g5, fun i hi => ⟨by rw [ex.rR l a9]; exact (g6 i hi).1, (g6 i hi).2.exa ex hu (stay i hi)⟩, fun i b1 b2 => by rw [ex.rR l a9]; exact g7 i b1 b2, g8, fun i hi => (g9 i hi).exa ex hu (stay i (by omega)) (g6 i (by omega)).2⟩
  · have val : ∀ q i, q < N → i < (fup rg p ((rg p).1 + 1, fup (rg p).2 (rg p).1 (nN M)) q).1 → ((fup rg p ((rg p).1 + 1, fup (rg p).2 (rg p).1 (nN M)) q).2 i = nN M ∧ q = p) ∨ (i < (rg q).1 ∧ (fup rg p ((rg p).1 + 1, fup (rg p).2 (rg p).1 (nN M)) q).2 i = (rg q).2 i) := fun q i hq hi => by
      by_cases e : q = p
      · subst e
        rw [fup_eq] at hi ⊢
        dsimp only at hi ⊢
        by_cases c : i = (rg q).1
        · left; exact ⟨by rw [c, fup_eq], rfl⟩
        · right; exact ⟨by omega, by rw [fup_ne c]⟩
      · rw [fup_ne e] at hi ⊢
        exact Or.inr ⟨hi, rfl⟩
    rcases val q i hq1 hi with ⟨w1, w2⟩ | ⟨w1, w2⟩ <;> rcases val q' j hq2 hj' with ⟨u1, u2⟩ | ⟨u1, u2⟩
    · omega
    · have := ltR q' j hq2 u1; omega
    · have := ltR q i hq1 w1; omega
    · exact hj q q' i j hq1 hq2 w1 u1 (by rw [← w2, ← u2]; exact he)
  · have z : pa q = pa p + 9 := z
    have g1 := (pe q hq').1
    rw [z, h2] at g1
    exact absurd g1 (by decide)
  · have z : pa q + 1 = pa p + 9 := z
    have g1 := (pe q hq').2.2.2.1
    rw [z, h2] at g1
    exact absurd g1 (by decide)
  · have z : pa q + 2 = pa p + 9 := z
    have g1 := (pe q hq').2.2.2.2.1.2.2
    rw [show pa q + 1 + 1 = pa q + 2 from rfl, z, h2] at g1
    exact absurd g1 (by decide)
theorem wkX_fk {x3 : Int} (h : FK S M M1) (hu : UN M) (hs : S 12 = false) (hw : wkX M N pa lf x3 wk) : wkX M1 N pa lf x3 wk := by
  rcases hw with w | ⟨t, w1, w2, w3, w4, w5⟩
  · exact Or.inl w
  · have hl : wa pa t < nN M := hu.lt (by rw [w3]; decide)
    exact Or.inr ⟨t, w1, w2, by rw [h.kd hl]; exact w3, by rw [h.rI hl (by rw [mo_cl1 w3 (by decide) (by decide)]; exact hs)]; exact w4, w5⟩
/-- set, append -/
theorem set_app {α : Type} {l : List α} {x y : α} : (l ++ [x]).set l.length y = l ++ [y] := by simp
theorem c_askQ (hb : BoC M m al N pa) (hR : RqsC M N pa Bf lf Q rg) (hP : PeC M N pa own sd ps sn pu rf tl nx) (hN : NetRep M st tm lo fl fA) (hst : stOK st) (htm : 0 ≤ tm ∧ tm ≤ 1000000) (hp : p < N) (hk : isK M kx) (hkm : mo M kx ≠ 5 ∧ mo M (kx + 1) ≠ 5) (hx : PkC M 31 (hdB ty 0 (kf (own p)) ++ bd)) (hty : 0 ≤ ty ∧ ty < 256) (had : 0 ≤ ad ∧ ad < 32) (hnx : nx p < 2000000000) (hw : wkX M N pa lf x3 wk) (hpb : pbX (Bf p) x5 pb) (h4 : x4 = if ty = 1 ∨ ty = 3 ∨ ty = 5 then 0 else 1) :
    if (Q p).length = 40 then f_X17_ask ((pa p : Nat) : Int) (kx : Int) ad x3 x4 x5 M = some (0, M)
    else ∃ M' fA' rg', f_X17_ask ((pa p : Nat) : Int) (kx : Int) ad x3 x4 x5 M = some (1, M') ∧ NetRep M' (sndS st tm lo fl (apS N sd p ad) p ad (hdB ty (nx p : Int) (kf (own p)) ++ bd)).1 tm (sndS st tm lo fl (apS N sd p ad) p ad (hdB ty (nx p : Int) (kf (own p)) ++ bd)).2.1 (sndS st tm lo fl (apS N sd p ad) p ad (hdB ty (nx p : Int) (kf (own p)) ++ bd)).2.2 fA' ∧ PeC M' N pa own sd ps sn pu rf (tlU tl (5 * p + 3)) (fup nx p (nx p + 1)) ∧ RqsC M' N pa Bf lf (fup Q p (Q p ++ [newY (nx p) ad ty (tm + st 4) (ky (kC M kx)) (hdB ty (nx p : Int) (kf (own p)) ++ bd) wk pb])) rg' ∧ (nN M' + 3 * fA + 5 * sumN (fun q => (rg q).1) N = nN M + 3 * fA' + 5 * sumN (fun q => (rg' q).1) N ∧ nU M' + 466 * fA + 479 * sumN (fun q => (rg q).1) N = nU M + 466 * fA' + 479 * sumN (fun q => (rg' q).1) N) ∧ ∀ S : Nat → Bool, S 1 = true → S 5 = true → FK S M M' := by
  obtain ⟨pe, p276, _⟩ := hP.2.2 p hp
  obtain ⟨h1, h2, h3, h4', h5, h6, h7, h8, h9⟩ := hR.2.2.1 p hp
  have hu := hP.1
  have r8 := pe.2.2.1.2.2.2.2.2.1
  by_cases c40 : (Q p).length = 40
  · rw [if_pos c40]
    unfold f_X17_ask
    rw [gfi_e h1, h3, Option.bind_some, c40, if_pos (show w32 ((40 : Nat) : Int) = w32 40 from rfl)]
  · rw [if_neg c40]
    -- with a slot
    have fin : ∀ (M0 : MM) (rg0 : RG), BoC M0 m al N pa → RqsC M0 N pa Bf lf Q rg0 → PeC M0 N pa own sd ps sn pu rf tl nx → NetRep M0 st tm lo fl fA → (Q p).length < (rg0 p).1 → isK M0 kx → ky (kC M0 kx) = ky (kC M kx) → PkC M0 31 (hdB ty 0 (kf (own p)) ++ bd) → wkX M0 N pa lf x3 wk → ∃ M' fA', j_X17_ask_39 ((pa p : Nat) : Int) (kx : Int) ad x3 x4 x5 M0 = some (1, M') ∧ NetRep M' (sndS st tm lo fl (apS N sd p ad) p ad (hdB ty (nx p : Int) (kf (own p)) ++ bd)).1 tm (sndS st tm lo fl (apS N sd p ad) p ad (hdB ty (nx p : Int) (kf (own p)) ++ bd)).2.1 (sndS st tm lo fl (apS N sd p ad) p ad (hdB ty (nx p : Int) (kf (own p)) ++ bd)).2.2 fA' ∧ PeC M' N pa own sd ps sn pu rf (tlU tl (5 * p + 3)) (fup nx p (nx p + 1)) ∧ RqsC M' N pa Bf lf (fup Q p (Q p ++ [newY (nx p) ad ty (tm + st 4) (ky (kC M kx)) (hdB ty (nx p : Int) (kf (own p)) ++ bd) wk pb])) rg0 ∧ (nN M' + 3 * fA = nN M0 + 3 * fA' ∧ nU M' + 466 * fA = nU M0 + 466 * fA') ∧ ∀ S : Nat → Bool, S 1 = true → S 5 = true → FK S M0 M' := by
      intro M0 rg0 b0 R0 P0 N0 hl0 k0 kk0 x0 w0
      obtain ⟨U, ddl, e1, e2, e3, e4, e5⟩ := c_ask39 (ad := ad) b0 R0 P0 hp hl0 k0 x0 hty (w32_id (by omega) (by omega)) hnx w0 hpb h4
      have f5 : FK (fun z => decide (z = 5)) M0 U := e5 _ (by decide)
      have bU := BoC_fk f5 P0.1 (by decide) b0
      have NU := NetRep_fk f5 P0.1 (by decide) N0
      have len : (fup Q p (Q p ++ [newQ0 (nx p) ad ty ddl (ky (kC M0 kx)) (hdB ty (nx p : Int) (kf (own p)) ++ bd) wk pb]) p) = Q p ++ [newQ0 (nx p) ad ty ddl (ky (kC M0 kx)) (hdB ty (nx p : Int) (kf (own p)) ++ bd) wk pb] := fup_eq
      have hgy : newQ0 (nx p) ad ty ddl (ky (kC M0 kx)) (hdB ty (nx p : Int) (kf (own p)) ++ bd) wk pb = (fup Q p (Q p ++ [newQ0 (nx p) ad ty ddl (ky (kC M0 kx)) (hdB ty (nx p : Int) (kf (own p)) ++ bd) wk pb]) p).getD (Q p).length q0 := by
        rw [len, getD_snoc (by omega), if_pos rfl]
      obtain ⟨M', fA', g1, g2, g3, g4, g5, g6⟩ := c_sendAgain (i := (Q p).length) (y := newQ0 (nx p) ad ty ddl (ky (kC M0 kx)) (hdB ty (nx p : Int) (kf (own p)) ++ bd) wk pb) bU e3 e2 NU hst htm hp (by rw [len]; simp) hgy had ⟨by show (0 : Int) ≤ 0; omega, by show (0 : Int) ≤ 100; omega⟩
      refine ⟨M', fA', by rw [e1, g1]; rfl, g2, g3, ?_, ⟨by omega, by omega⟩, fun S s1 s5 => (e5 S s5).trans (g6 S s1 s5)⟩
      rw [len, set_app, fup_fup, kk0] at g4
      exact g4
    unfold f_X17_ask
    rw [gfi_e h1, h3, Option.bind_some, w32_nn (by omega), show w32 40 = 40 by decide, if_neg (by omega), gfr_e h1, r8, Option.bind_some, Option.bind_some, lar_n h2 (by decide) (by omega) (by decide), Option.bind_some]
    by_cases c : (Q p).length < (rg p).1
    · rw [(h6 _ c).1, if_neg (by omega)]
      obtain ⟨M', fA', g1, g2, g3, g4, g5, g6⟩ := fin M rg hb hR hP hN c hk rfl hx hw
      exact ⟨M', fA', rg, g1, g2, g3, g4, ⟨by omega, by omega⟩, g6⟩
    · have cl : (Q p).length = (rg p).1 := by omega
      rw [h7 _ (by omega) (by omega), if_pos rfl, Option.bind_some, Option.bind_some, nob_e, Option.bind_some]
      obtain ⟨M4, n1, n2, n3, n4, n5⟩ := c_newRq hu
      dsimp only
      have l9 : pa p + 9 < nN M := hu.lt (by rw [h2]; decide)
      rw [nn_e, n1, Option.bind_some, cl, sar_n (k := 603) (l := 40) (by rw [n5.kd l9]; exact h2) (by decide) (by omega) (by decide) (by rw [n2.1]; rfl), Option.bind_some]
      obtain ⟨R1, P1, F1⟩ := rqs_more hR hP hp (by omega) n5 n2
      have f5 : FK (fun z => decide (z = 5)) M (sR M4 (pa p + 9) (rg p).1 ((nN M : Nat) : Int)) := F1 _ (by decide)
      have s31 := (BdS_mo hb.1).2.2.2.2.1
      obtain ⟨M', fA', g1, g2, g3, g4, g5, g6⟩ := fin _ _ (BoC_fk f5 hu (by decide) hb) R1 P1 (NetRep_fk f5 hu (by decide) hN) (by rw [fup_eq]; dsimp only; omega) (isK_fk f5 hu hk (by simpa using hkm.1)) (by rw [kC_fk f5 hu hk (by simpa using hkm.2)]) (PkC_fk f5 hu hx (by rw [s31.1]; decide) (by rw [s31.2]; decide)) (wkX_fk f5 hu (by decide) hw)
      have es : sumN (fun q => (fup rg p ((rg p).1 + 1, fup (rg p).2 (rg p).1 (nN M)) q).1) N + (rg p).1 = sumN (fun q => (rg q).1) N + ((rg p).1 + 1) := by
        have := sumN_fup (f := fun q => (rg q).1) (p := p) (v := (rg p).1 + 1) N hp
        rw [← this]
        congr 1
        exact sumN_congr N (fun i _ => by unfold fup; split <;> rfl)
      have a1 : nN (sR M4 (pa p + 9) (rg p).1 ((nN M : Nat) : Int)) = nN M + 5 := n3
      have a2 : nU (sR M4 (pa p + 9) (rg p).1 ((nN M : Nat) : Int)) = nU M + 479 := n4
      exact ⟨M', fA', _, g1, g2, g3, g4, ⟨by omega, by omega⟩, fun S s1 s5 => (F1 S s5).trans (g6 S s1 s5)⟩
end CASK2
