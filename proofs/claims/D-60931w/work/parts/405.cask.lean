/-! a request is asked -/
section CASK
variable {S : Nat → Bool} {M M1 : MM} {A : Nat → Prop} {m al N p q r r' x i kx t : Nat} {pa : Nat → Nat} {own : Nat → Ky} {sd ps sn pu rf tl : Nat → Int} {nx lf : Nat → Nat} {Q : Nat → List Rq} {rg : RG} {Bf Bf' : Nat → Nat → Nat} {B : Nat → Nat} {y y' : Rq} {v ad x3 x4 x5 ty : Int} {k j a : Nat} {l bd : List Int} {st : Nat → Int} {tm lo : Int} {fl : List Dg} {fA : Nat} {wk : Option Nat} {pb : Option Int}
/-- one more behind the others -/
theorem rqs_app (hR : RqsC M N pa Bf lf Q rg) (hP : PeC M N pa own sd ps sn pu rf tl nx) (hp : p < N) (hl : (Q p).length < (rg p).1) (hr : r = (rg p).2 (Q p).length) (hx : ExC (fun z => z = pa p ∨ (r ≤ z ∧ z ≤ r + 4)) M M1) (h9 : rI M1 (pa p) 9 = (((Q p).length + 1 : Nat) : Int)) (hq : isRq M1 r) (hy : RqC M1 N pa (Bf p) lf r y') : RqsC M1 N pa Bf lf (fup Q p (Q p ++ [y'])) rg := by
  obtain ⟨hu, hinj, hb, hj⟩ := hR
  obtain ⟨h1, h2, h3, h4, h5, h6, h7, h8, h9'⟩ := hb p hp
  have hrq : isRq M r := by rw [hr]; exact (h6 _ hl).2
  have pe := fun q hq => (hP.2.2 q hq).1
  refine ⟨hx.un hu, hinj, fun q hq' => ?_, hj⟩
  obtain ⟨g1, g2, g3, g4, g5, g6, g7, g8, g9⟩ := hb q hq'
  have a9 : ¬ (pa q + 9 = pa p ∨ (r ≤ pa q + 9 ∧ pa q + 9 ≤ r + 4)) := fun z => by
    rcases z with z | z
    · rw [z] at g2; rw [g2] at h1; exact absurd h1 (by decide)
    · exact rq_pe hrq (pe q hq') (Or.inr (Or.inr (Or.inr rfl))) z
  have same : ∀ j, j < (rg q).1 → ¬ (q = p ∧ j = (Q p).length) → (rg q).2 j ≠ r := fun j hj' hn e => by
    rw [hr] at e
    have e1 := hj q p j _ hq' hp hj' hl e
    subst e1
    exact hn ⟨rfl, h8 j _ hj' hl e⟩
  have stay : ∀ j, j < (rg q).1 → ¬ (q = p ∧ j = (Q p).length) → ∀ z, (rg q).2 j ≤ z → z ≤ (rg q).2 j + 4 → ¬ (z = pa p ∨ (r ≤ z ∧ z ≤ r + 4)) := fun j hj' hn z z1 z2 e => by
    rcases e with e | e
    · exact rq_pe (g6 j hj').2 (pe p hp) (Or.inl e) ⟨z1, z2⟩
    · exact rq_apart hrq (g6 j hj').2 (same j hj' hn) z1 z2 e
  have rw1 : ∀ j, j < (rg q).1 → isRq M1 ((rg q).2 j) := fun j hj' => by
    by_cases c : q = p ∧ j = (Q p).length
    · obtain ⟨c1, c2⟩ := c
      subst c1 c2
      rw [← hr]; exact hq
    · exact (g6 j hj').2.exa hx.exa hu (stay j hj' c)
  by_cases e : q = p
  · subst e
    rw [fup_eq]
    have len : (Q q ++ [y']).length = (Q q).length + 1 := by simp
    refine ⟨by rw [hx.kd]; exact g1, by rw [hx.kd]; exact g2, by rw [len]; exact h9, by omega, g5, fun j hj' => ⟨by rw [hx.rR a9]; exact (g6 j hj').1, rw1 j hj'⟩, fun j b1 b2 => by rw [hx.rR a9]; exact g7 j b1 b2, g8, fun j hj' => ?_⟩
    rw [getD_snoc (by omega)]
    by_cases c : j = (Q q).length
    · rw [if_pos c, c, ← hr]; exact hy
    · rw [if_neg c]
      exact (g9 j (by omega)).exa hx.exa hu (stay j (by omega) (fun z => c z.2)) (g6 j (by omega)).2
  · rw [fup_ne e]
    have a0 : ¬ (pa q = pa p ∨ (r ≤ pa q ∧ pa q ≤ r + 4)) := fun z => by
      rcases z with z | z
      · exact e (hinj q p hq' hp z)
      · exact rq_pe hrq (pe q hq') (Or.inl rfl) z
    exact ⟨by rw [hx.kd]; exact g1, by rw [hx.kd]; exact g2, by rw [hx.rI a0]; exact g3, g4, g5, fun j hj' => ⟨by rw [hx.rR a9]; exact (g6 j hj').1, rw1 j hj'⟩, fun j b1 b2 => by rw [hx.rR a9]; exact g7 j b1 b2, g8, fun j hj' => (g9 j hj').exa hx.exa hu (stay j (by omega) (fun z => e z.1)) (g6 j (by omega)).2⟩
theorem pk_setz {j : Nat} {z : Int} (hp : PkC M x l) (hj : j < l.length) : PkC (sI M (x + 1) j (sx8 z)) x (l.set j (z % 256)) := by
  obtain ⟨a1, a2, a3, a4⟩ := hp
  refine ⟨a1, by rw [rI_ne (by omega), List.length_set]; exact a2, by rw [List.length_set]; exact a3, fun i hi => ?_⟩
  rw [List.length_set] at hi
  rw [rU_sI, List.getD_eq_getElem?_getD, List.getElem?_set]
  by_cases c : i = j
  · rw [if_pos ⟨rfl, c⟩, if_pos c.symm, if_pos (by omega), sx8_emod]
    rfl
  · rw [if_neg (fun z => c z.2), if_neg (Ne.symm c), ← List.getD_eq_getElem?_getD]
    exact a4 i hi
/-- the number is written into the bytes -/
def numS (v : Int) (l : List Int) : Nat → List Int
  | 0 => l
  | j + 1 => (numS v l j).set (1 + j) (bush v (24 - 8 * (j : Int)) % 256)
theorem numS_len (v : Int) (l : List Int) : ∀ j, (numS v l j).length = l.length
  | 0 => rfl
  | j + 1 => by unfold numS; rw [List.length_set, numS_len v l j]
theorem ask_num {n : Int} {own : Ky} : numS n (hdB ty 0 (kf own) ++ bd) 4 = hdB ty n (kf own) ++ bd := by
  unfold hdB
  have e1 : be ty 1 = [bush ty (8 * ((0 : Nat) : Int)) % 256] := rfl
  have e2 : ∀ v, be v 4 = [bush v (8 * ((3 : Nat) : Int)) % 256, bush v (8 * ((2 : Nat) : Int)) % 256, bush v (8 * ((1 : Nat) : Int)) % 256, bush v (8 * ((0 : Nat) : Int)) % 256] := fun v => rfl
  rw [e1, e2 0, e2 n]
  rfl
theorem c_ask112 (hrq : isRq M r) (hx : PkC M (r + 3) (hdB ty 0 (kf (own p)) ++ bd)) (hn : rI M r 0 = v) : ∃ M', l_X17_ask_112 (a : Int) x3 x4 x5 (r : Int) 0 M = j_X17_ask_152 (a : Int) x3 x4 x5 (r : Int) M' ∧ PkC M' (r + 3) (hdB ty v (kf (own p)) ++ bd) ∧ Ex (fun z => z = r + 4) M M' := by
  have hl : 25 ≤ (hdB ty 0 (kf (own p)) ++ bd).length := by rw [List.length_append, hdB_len]; omega
  have k24 : (kd M r).1 = 24 := by rw [hrq.1]
  obtain ⟨l0, hl0⟩ : ∃ l0, l0 = hdB ty 0 (kf (own p)) ++ bd := ⟨_, rfl⟩
  rw [← hl0] at hx hl
  have main : ∀ d j fu (U : MM), d + j = 4 → d < fu → Ex (fun z => z = r + 4) M U → PkC U (r + 3) (numS v l0 j) → ∃ M', lpN (fun s : Int × MM => b_X17_ask_112 (a : Int) x3 x4 x5 (r : Int) s.1 s.2) fu ((j : Int), U) = j_X17_ask_152 (a : Int) x3 x4 x5 (r : Int) M' ∧ PkC M' (r + 3) (numS v l0 4) ∧ Ex (fun z => z = r + 4) M M' := by
    intro d
    induction d with
    | zero =>
      intro j fu U hd hf hU hpk
      have e : j = 4 := by omega
      subst e
      refine ⟨U, ?_, hpk, hU⟩
      refine lpN_end (b := fun s : Int × MM => b_X17_ask_112 (a : Int) x3 x4 x5 (r : Int) s.1 s.2) (by omega) ?_
      dsimp only
      unfold b_X17_ask_112
      rw [if_neg (by decide)]
    | succ d ih =>
      intro j fu U hd hf hU hpk
      obtain ⟨f, rfl⟩ : ∃ f, fu = f + 1 := ⟨fu - 1, by omega⟩
      have step : b_X17_ask_112 (a : Int) x3 x4 x5 (r : Int) (j : Int) U = some (.inl (((j + 1 : Nat) : Int), sI U (r + 3 + 1) (1 + j) (sx8 (bush v (24 - 8 * (j : Int)))))) := by
        unfold b_X17_ask_112
        rw [w32_nn (by omega), show w32 4 = 4 by decide, if_pos (by omega), gfr_e (by rw [hU.kd]; exact k24), hU.rR, hrq.2.2.2.2.1, Option.bind_some, gfr_e hpk.1.1, hpk.1.2.1, Option.bind_some, gfi_e (by rw [hU.kd]; exact k24), hU.rI (by omega), hn, Option.bind_some, sab_e hpk.1.2.2 (by decide) (by decide) (j := 1 + j) (by rw [w32_id (by omega) (by omega)]; omega) (by omega), Option.bind_some]
        rfl
      rw [lpN_cnt (b := fun s : Int × MM => b_X17_ask_112 (a : Int) x3 x4 x5 (r : Int) s.1 s.2) (s := ((j : Int), U)) step]
      exact ih (j + 1) f _ (by omega) (by omega) (hU.trans (Ex.st (A := fun z => z = r + 4) rfl)) (pk_setz hpk (by rw [numS_len]; omega))
  obtain ⟨M', e1, e2, e3⟩ := main 4 0 FU M rfl (by unfold FU; omega) Ex.refl hx
  refine ⟨M', e1, ?_, e3⟩
  rw [← ask_num, ← hl0]
  exact e2
/-- a request with its words, ahead of its being sent -/
def newQ0 (n : Nat) (ad ty ddl : Int) (key : Ky) (bt : List Int) (wk : Option Nat) (pb : Option Int) : Rq := ((n : Int), ad, ty, ddl, 0, key, bt, wk, pb)
def wkX (M : MM) (N : Nat) (pa lf : Nat → Nat) (x3 : Int) (wk : Option Nat) : Prop := (x3 = -1 ∧ wk = none) ∨ ∃ t, t < 12 + N ∧ x3 = ((wa pa t : Nat) : Int) ∧ (kd M (wa pa t)).1 = 11 ∧ rI M (wa pa t) 5 = (lf t : Int) ∧ wk = some t
def pbX (B : Nat → Nat) (x5 : Int) (pb : Option Int) : Prop := (x5 = -1 ∧ pb = none) ∨ ∃ c : Nat, x5 = ((B c : Nat) : Int) ∧ pb = some ((c : Nat) : Int)
theorem c_ask39 (hb : BoC M m al N pa) (hR : RqsC M N pa Bf lf Q rg) (hP : PeC M N pa own sd ps sn pu rf tl nx) (hp : p < N) (hl : (Q p).length < (rg p).1) (hk : isK M kx) (hx : PkC M 31 (hdB ty 0 (kf (own p)) ++ bd)) (hty : 0 ≤ ty ∧ ty < 256) (had : w32 ad = ad) (hnx : nx p < 2000000000) (hw : wkX M N pa lf x3 wk) (hpb : pbX (Bf p) x5 pb) (h4 : x4 = if ty = 1 ∨ ty = 3 ∨ ty = 5 then 0 else 1) :
    ∃ U ddl, j_X17_ask_39 ((pa p : Nat) : Int) (kx : Int) ad x3 x4 x5 M = ((f_X17_sendAgain ((pa p : Nat) : Int) (((rg p).2 (Q p).length : Nat) : Int) U).bind fun M5 => some (1, M5)) ∧ RqsC U N pa Bf lf (fup Q p (Q p ++ [newQ0 (nx p) ad ty ddl (ky (kC M kx)) (hdB ty (nx p : Int) (kf (own p)) ++ bd) wk pb])) rg ∧ PeC U N pa own sd ps sn pu rf tl (fup nx p (nx p + 1)) ∧ (nN U = nN M ∧ nU U = nU M) ∧ ∀ S : Nat → Bool, S 5 = true → FK S M U := by
  obtain ⟨pe, p276, hpw⟩ := hP.2.2 p hp
  obtain ⟨h1, h2, h3, h4', h5, h6, h7, h8, h9⟩ := hR.2.2.1 p hp
  obtain ⟨L, hL⟩ : ∃ L, L = (Q p).length := ⟨_, rfl⟩
  obtain ⟨r, hr⟩ : ∃ r, r = (rg p).2 (Q p).length := ⟨_, rfl⟩
  obtain ⟨a, ha⟩ : ∃ a, a = pa p := ⟨_, rfl⟩
  obtain ⟨n, hn⟩ : ∃ n, n = nx p := ⟨_, rfl⟩
  have hrq : isRq M r := by rw [hr]; exact (h6 _ hl).2
  have rs : rR M (pa p + 9) (Q p).length = (r : Int) := by rw [hr]; exact (h6 _ hl).1
  rw [← hr, ← hn, ← ha]
  rw [← ha] at h1 h2 h3 rs pe hpw p276
  rw [← hL] at h3 rs
  rw [← hn] at hpw hnx
  have r8 := pe.2.2.1.2.2.2.2.2.1
  have n10 := hpw.2.2.2.1
  have ar : ∀ z, (r ≤ z ∧ z ≤ r + 4) → a ≠ z := fun z hz e => rq_pe hrq pe (z := z) (Or.inl e.symm) hz
  have a0 := ar r (by omega); have a1 := ar (r + 1) (by omega); have a2 := ar (r + 2) (by omega); have a3 := ar (r + 3) (by omega); have a4 := ar (r + 4) (by omega)
  have k24 : (kd M r).1 = 24 := by rw [hrq.1]
  have l40 : (rg p).1 ≤ 40 := h5
  have hL40 : L < 40 := by omega
  -- the first words
  obtain ⟨U3, hU3⟩ : ∃ U3, U3 = sI (sI (sI M a 9 ((L : Int) + 1)) r 0 (n : Int)) a 10 ((n : Int) + 1) := ⟨_, rfl⟩
  have kU3 : ∀ z, kd U3 z = kd M z := fun z => by rw [hU3]; rfl
  have rU3 : ∀ z i, rR U3 z i = rR M z i := fun z i => by rw [hU3]; rfl
  have iU3 : ∀ z i, z ≠ a → z ≠ r → rI U3 z i = rI M z i := fun z i z1 z2 => by rw [hU3, rI_ne (by omega), rI_ne (by omega), rI_ne (by omega)]
  have x03 : Ex (fun z => z = a ∨ z = r) M U3 := by
    rw [hU3]
    exact ((Ex.st (A := fun z => z = a ∨ z = r) (Or.inl rfl)).trans (Ex.st (A := fun z => z = a ∨ z = r) (Or.inr rfl))).trans (Ex.st (A := fun z => z = a ∨ z = r) (Or.inl rfl))
  have q3 : isRq U3 r := by
    obtain ⟨g1, g2, g3, g4, g5, g6, g7⟩ := hrq
    exact ⟨by rw [kU3]; exact g1, by rw [rU3]; exact g2, by rw [kU3]; exact g3, ⟨by rw [kU3]; exact g4.1, by rw [rU3]; exact g4.2.1, by rw [kU3]; exact g4.2.2⟩, by rw [rU3]; exact g5, by rw [kU3]; exact g6, ⟨by rw [kU3]; exact g7.1, by rw [rU3]; exact g7.2.1, by rw [kU3]; exact g7.2.2⟩⟩
  have kk3 : isK U3 kx := ⟨by rw [kU3]; exact hk.1, by rw [rU3]; exact hk.2.1, by rw [kU3]; exact hk.2.2⟩
  have kxne : kx + 1 ≠ a ∧ kx + 1 ≠ r := ⟨fun e => by have := hk.2.2; rw [e, pe.1] at this; exact absurd this (by decide), fun e => by have := hk.2.2; rw [e, hrq.1] at this; exact absurd this (by decide)⟩
  obtain ⟨U4, s1, s2, s3⟩ := e_X3_set q3.2.2.2.1 kk3
  have key4 : ky (kC U4 (r + 1)) = ky (kC M kx) := by
    have e : ∀ i, i < 5 → kC U4 (r + 1) i = kC M kx i := fun i hi => by
      rw [s2 i hi]
      exact iU3 (kx + 1) i kxne.1 kxne.2
    unfold ky
    rw [e 0 (by decide), e 1 (by decide), e 2 (by decide), e 3 (by decide), e 4 (by decide)]
  obtain ⟨U5, hU5⟩ : ∃ U5, U5 = sI U4 r 1 ad := ⟨_, rfl⟩
  have x35 : Ex (fun z => z = r ∨ z = r + 2) U3 U5 := by
    rw [hU5]
    exact (s3.mono (fun z hz => Or.inr (by have : z = r + 1 + 1 := hz; omega))).trans (Ex.st (A := fun z => z = r ∨ z = r + 2) (Or.inl rfl))
  have q5 : isRq U5 r := by
    obtain ⟨g1, g2, g3, g4, g5, g6, g7⟩ := q3
    exact ⟨by rw [x35.kd]; exact g1, by rw [x35.rR]; exact g2, by rw [x35.kd]; exact g3, ⟨by rw [x35.kd]; exact g4.1, by rw [x35.rR]; exact g4.2.1, by rw [x35.kd]; exact g4.2.2⟩, by rw [x35.rR]; exact g5, by rw [x35.kd]; exact g6, ⟨by rw [x35.kd]; exact g7.1, by rw [x35.rR]; exact g7.2.1, by rw [x35.kd]; exact g7.2.2⟩⟩
  have k31 := hb.1.2.2.2.2.2.2.2.1.1
  have p31 := hb.1.2.2.2.2.2.2.1.1
  have n31 : ∀ z, (z = 31 ∨ z = 32) → z ≠ a ∧ ¬ (r ≤ z ∧ z ≤ r + 4) := fun z hz => by
    have b4 : (kd M z).1 = 4 ∨ (kd M z).1 = 113 := by
      rcases hz with e | e <;> rw [e]
      · left; rw [k31]
      · right; rw [show (32 : Nat) = 31 + 1 from rfl, p31.2.2]
    refine ⟨fun e => by rw [e, pe.1] at b4; simp at b4, fun e => ?_⟩
    rcases rq_kinds hrq e.1 e.2 with w | w | w | w | w
    · omega
    · rw [w.2] at b4; simp at b4
    · omega
    · rcases hz with f | f
      · rw [f, k31] at w; exact absurd w.2 (by decide)
      · rw [f, show (32 : Nat) = 31 + 1 from rfl, p31.2.2] at w; exact absurd w.2 (by decide)
    · rcases hz with f | f
      · rw [f, k31] at w; exact absurd w.2 (by decide)
      · have e3 : r + 3 = 31 := by omega
        have := hrq.2.2.2.2.2.1
        rw [e3, k31] at this
        exact absurd this (by decide)
  have p5 : PkC U5 31 (hdB ty 0 (kf (own p)) ++ bd) := (hx.ex x03 (by have := n31 31 (Or.inl rfl); omega) (by have := n31 32 (Or.inr rfl); omega)).ex x35 (by have := n31 31 (Or.inl rfl); omega) (by have := n31 32 (Or.inr rfl); omega)
  obtain ⟨U6, t1, t2, t3⟩ := e_X4_copy q5.2.2.2.2.2.2 p5 (by have := n31 31 (Or.inl rfl); omega)
  have q6 : isRq U6 r := by
    obtain ⟨g1, g2, g3, g4, g5, g6, g7⟩ := q5
    exact ⟨by rw [t3.kd]; exact g1, by rw [t3.rR]; exact g2, by rw [t3.kd]; exact g3, ⟨by rw [t3.kd]; exact g4.1, by rw [t3.rR]; exact g4.2.1, by rw [t3.kd]; exact g4.2.2⟩, by rw [t3.rR]; exact g5, by rw [t3.kd]; exact g6, ⟨by rw [t3.kd]; exact g7.1, by rw [t3.rR]; exact g7.2.1, by rw [t3.kd]; exact g7.2.2⟩⟩
  have i5 : ∀ k, rI U5 r k = if k = 1 then ad else if k = 0 then (n : Int) else rI M r k := fun k => by
    rw [hU5, rI_sI]
    by_cases c : k = 1
    · rw [if_pos ⟨rfl, c⟩, if_pos c, had]
    · rw [if_neg (fun z => c z.2), if_neg c, s3.rI (by omega), hU3, rI_ne (by omega), rI_sI]
      by_cases d : k = 0
      · rw [if_pos ⟨rfl, d⟩, if_pos d, w32_nn (by omega)]
      · rw [if_neg (fun z => d z.2), if_neg d, rI_ne (by omega)]
  obtain ⟨U7, v1, v2, v3⟩ := c_ask112 (a := a) (x3 := x3) (x4 := x4) (x5 := x5) (own := own) (p := p) q6 t2 (v := (n : Int)) (by rw [t3.rI (by omega), i5]; rfl)
  have q7 : isRq U7 r := by
    obtain ⟨g1, g2, g3, g4, g5, g6, g7⟩ := q6
    exact ⟨by rw [v3.kd]; exact g1, by rw [v3.rR]; exact g2, by rw [v3.kd]; exact g3, ⟨by rw [v3.kd]; exact g4.1, by rw [v3.rR]; exact g4.2.1, by rw [v3.kd]; exact g4.2.2⟩, by rw [v3.rR]; exact g5, by rw [v3.kd]; exact g6, ⟨by rw [v3.kd]; exact g7.1, by rw [v3.rR]; exact g7.2.1, by rw [v3.kd]; exact g7.2.2⟩⟩
  have x07 : Ex (fun z => z = a ∨ (r ≤ z ∧ z ≤ r + 4)) M U7 := ((x03.mono (fun z hz => by rcases hz with e | e; exact Or.inl e; right; omega)).trans (x35.mono (fun z hz => by right; omega))).trans ((t3.mono (fun z hz => by right; omega)).trans (v3.mono (fun z hz => by right; have : z = r + 4 := hz; omega)))
  have i7 : ∀ k, rI U7 r k = if k = 1 then ad else if k = 0 then (n : Int) else rI M r k := fun k => by rw [v3.rI (by omega), t3.rI (by omega), i5]
  have ia7 : ∀ k, rI U7 a k = rI U3 a k := fun k => by rw [v3.rI (by omega), t3.rI (by omega), x35.rI (by omega)]
  have ia3 : ∀ k, k ≠ 9 → k ≠ 10 → rI U3 a k = rI M a k := fun k k9 k10 => by rw [hU3, rI_ne (by omega), rI_ne (by omega), rI_ne (by omega)]
  have ia9 : rI U3 a 9 = ((L + 1 : Nat) : Int) := by rw [hU3, rI_ne (by omega), rI_ne (by omega), rI_eq rfl, w32_id (by omega) (by omega)]; omega
  have ia10 : rI U3 a 10 = ((n + 1 : Nat) : Int) := by rw [hU3, rI_eq rfl, w32_id (by omega) (by omega)]; omega
  have key7 : ky (kC U7 (r + 1)) = ky (kC M kx) := by
    have : kC U7 (r + 1) = kC U4 (r + 1) := by
      funext i
      show rI U7 (r + 1 + 1) i = rI U4 (r + 1 + 1) i
      rw [v3.rI (by omega), t3.rI (by omega), hU5, rI_ne (by omega)]
    rw [this]; exact key4
  have k24' : (kd U7 r).1 = 24 := by rw [q7.1]
  have hty7 : f_X4_type ((r + 3 : Nat) : Int) U7 = some ty := by
    rw [e_type v2.1, v2.2.2.2 0 (by rw [List.length_append, hdB_len]; omega)]
    congr 1
    unfold hdB
    rw [be1 (by omega)]
    rfl
  -- the rest of the words
  obtain ⟨lv, hlv, hlw⟩ : ∃ lv : Int, (if x3 = -1 then j_X17_ask_185 (a : Int) x4 x5 (r : Int) (r : Int) 0 (sR (sI U7 r 2 ty) r 9 x3) else (gfi 11 5 x3 (sR (sI U7 r 2 ty) r 9 x3)).bind fun v3 => j_X17_ask_185 (a : Int) x4 x5 (r : Int) (r : Int) v3 (sR (sI U7 r 2 ty) r 9 x3)) = j_X17_ask_185 (a : Int) x4 x5 (r : Int) (r : Int) lv (sR (sI U7 r 2 ty) r 9 x3) ∧ ((x3 = -1 ∧ wk = none) ∨ ∃ t, t < 12 + N ∧ x3 = ((wa pa t : Nat) : Int) ∧ w32 lv = (lf t : Int) ∧ wk = some t) := by
    rcases hw with ⟨w1, w2⟩ | ⟨t, w1, w2, w3, w4, w5⟩
    · exact ⟨0, by rw [if_pos w1], Or.inl ⟨w1, w2⟩⟩
    · refine ⟨rI M (wa pa t) 5, ?_, Or.inr ⟨t, w1, w2, by rw [w32_rI]; exact w4, w5⟩⟩
      have na : wa pa t ≠ a := fun e => by rw [e, pe.1] at w3; exact absurd w3 (by decide)
      have nr : ¬ (r ≤ wa pa t ∧ wa pa t ≤ r + 4) := fun e => by
        rcases rq_kinds hrq e.1 e.2 with w | w | w | w | w
        · omega
        · rw [w.2] at w3; exact absurd w3 (by decide)
        · omega
        · rw [w.2] at w3; exact absurd w3 (by decide)
        · omega
      rw [if_neg (by omega), w2, gfi_e (by show (kd U7 (wa pa t)).1 = 11; rw [x07.kd]; exact w3), Option.bind_some]
      congr 1
      rw [rI_sR, rI_ne (by omega), x07.rI (by omega)]
  obtain ⟨U, hU⟩ : ∃ U, U = sI (sR (sI (sI (sR (sI U7 r 2 ty) r 9 x3) r 5 lv) r 6 x4) r 10 x5) r 4 0 := ⟨_, rfl⟩
  have kU : ∀ z, kd U z = kd M z := fun z => by rw [hU]; exact x07.kd z
  have exU : ExC (fun z => z = pa p ∨ (r ≤ z ∧ z ≤ r + 4)) M U := by
    rw [hU, ← ha]
    have A0 : (fun z => z = a ∨ (r ≤ z ∧ z ≤ r + 4)) r := Or.inr (by omega)
    exact (((((((ExC_ex x07).trans (ExC_sI A0)).trans (ExC_sR A0)).trans (ExC_sI A0)).trans (ExC_sI A0)).trans (ExC_sR A0)).trans (ExC_sI A0))
  have iU : ∀ k, rI U r k = if k = 4 then 0 else if k = 6 then x4 else if k = 5 then w32 lv else if k = 2 then ty else if k = 1 then ad else if k = 0 then (n : Int) else rI M r k := fun k => by
    have w4 : w32 x4 = x4 := by rw [h4]; split <;> decide
    have wt : w32 ty = ty := w32_id (by omega) (by omega)
    rw [hU, rI_sI]
    by_cases c4 : k = 4
    · rw [if_pos ⟨rfl, c4⟩, if_pos c4]; decide
    · rw [if_neg (fun z => c4 z.2), if_neg c4, rI_sR, rI_sI]
      by_cases c6 : k = 6
      · rw [if_pos ⟨rfl, c6⟩, if_pos c6, w4]
      · rw [if_neg (fun z => c6 z.2), if_neg c6, rI_sI]
        by_cases c5 : k = 5
        · rw [if_pos ⟨rfl, c5⟩, if_pos c5]
        · rw [if_neg (fun z => c5 z.2), if_neg c5, rI_sR, rI_sI]
          by_cases c2 : k = 2
          · rw [if_pos ⟨rfl, c2⟩, if_pos c2, wt]
          · rw [if_neg (fun z => c2 z.2), if_neg c2, i7]
  have rUr : ∀ k, rR U r k = if k = 10 then x5 else if k = 9 then x3 else rR M r k := fun k => by
    rw [hU, rR_sI, rR_sR]
    by_cases c : k = 10
    · rw [if_pos ⟨rfl, c⟩, if_pos c]
    · rw [if_neg (fun z => c z.2), if_neg c, rR_sI, rR_sI, rR_sR]
      by_cases d : k = 9
      · rw [if_pos ⟨rfl, d⟩, if_pos d]
      · rw [if_neg (fun z => d z.2), if_neg d, rR_sI, x07.rR]
  have rUo : ∀ z k, z ≠ r → rR U z k = rR M z k := fun z k hz => by
    rw [hU, rR_sI, rR_ne (by omega), rR_sI, rR_sI, rR_ne (by omega), rR_sI, x07.rR]
  have iUo : ∀ z k, z ≠ r → rI U z k = rI U7 z k := fun z k hz => by
    rw [hU, rI_ne (by omega), rI_sR, rI_ne (by omega), rI_ne (by omega), rI_sR, rI_ne (by omega)]
  have qU : isRq U r := by
    obtain ⟨g1, g2, g3, g4, g5, g6, g7⟩ := hrq
    exact ⟨by rw [kU]; exact g1, by rw [rUr]; exact g2, by rw [kU]; exact g3, ⟨by rw [kU]; exact g4.1, by rw [rUo _ _ (by omega)]; exact g4.2.1, by rw [kU]; exact g4.2.2⟩, by rw [rUr]; exact g5, by rw [kU]; exact g6, ⟨by rw [kU]; exact g7.1, by rw [rUo _ _ (by omega)]; exact g7.2.1, by rw [kU]; exact g7.2.2⟩⟩
  have yU : RqC U N pa (Bf p) lf r (newQ0 n ad ty (rI M r 3) (ky (kC M kx)) (hdB ty (n : Int) (kf (own p)) ++ bd) wk pb) := by
    refine ⟨by rw [iU]; rfl, by rw [iU]; rfl, by rw [iU]; rfl, by rw [iU]; rfl, by rw [iU]; rfl, by rw [iU]; exact h4, ?_, ?_, ?_, ?_⟩
    · have : kC U (r + 1) = kC U7 (r + 1) := by
        funext i
        exact iUo (r + 1 + 1) i (by omega)
      rw [this]; exact key7
    · obtain ⟨b1, b2, b3, b4⟩ := v2
      refine ⟨qU.2.2.2.2.2.2, by rw [iUo _ _ (by omega)]; exact b2, b3, fun i hi => ?_⟩
      refine Eq.trans ?_ (b4 i hi)
      show rU U (r + 3 + 1) i = rU U7 (r + 3 + 1) i
      unfold rU
      rw [hU]
      show (st2 _ r 4 0 (r + 3 + 1) i) % 256 = _
      have cell : ∀ (X : MM) (k : Nat) (w : Int), (sI X r k w).1 (r + 3 + 1) i = X.1 (r + 3 + 1) i := fun X k w => by
        show st2 X.1 r k w (r + 3 + 1) i = _
        unfold st2
        rw [if_neg (by omega)]
      exact congrArg (· % 256) ((cell _ 4 0).trans ((cell _ 6 x4).trans ((cell _ 5 lv).trans (cell _ 2 ty))))
    · show wkC U N pa lf r wk
      rcases hlw with ⟨w1, w2⟩ | ⟨t, w1, w2, w3, w4⟩
      · rw [w2]
        left
        rw [rUr]
        exact w1
      · rw [w4]
        exact ⟨w1, by rw [rUr]; exact w2, by rw [iU]; exact w3⟩
    · show pbC U (Bf p) r pb
      rcases hpb with ⟨w1, w2⟩ | ⟨c, w1, w2⟩
      · rw [w2]
        show rR U r 10 = -1
        rw [rUr]
        exact w1
      · rw [w2]
        show rR U r 10 = _
        rw [rUr]
        exact w1
  refine ⟨U, rI M r 3, ?_, ?_, ?_, ⟨by rw [exU.nN], by rw [exU.nU]⟩, fun S hs => FK_exc exU (fun z _ hz => ?_)⟩
  · unfold j_X17_ask_39
    rw [gfr_e h1, r8, Option.bind_some, gfi_e h1, h3, Option.bind_some, lar_n h2 (by decide) (by omega) (by decide), rs, Option.bind_some, Option.bind_some, pfi_e h1, Option.bind_some, gfi_e (show (kd (sI M a 9 ((L : Int) + 1)) a).1 = 17 from h1), rI_ne (by omega), n10, Option.bind_some, pfi_e (show (kd (sI M a 9 ((L : Int) + 1)) r).1 = 24 from k24), Option.bind_some, gfi_e (show (kd (sI (sI M a 9 ((L : Int) + 1)) r 0 (n : Int)) a).1 = 17 from h1), rI_ne (by omega), rI_ne (by omega), n10, Option.bind_some, pfi_e (show (kd (sI (sI M a 9 ((L : Int) + 1)) r 0 (n : Int)) a).1 = 17 from h1), Option.bind_some, ← hU3, gfr_e (by rw [kU3]; exact k24), q3.2.1, Option.bind_some, ck_e q3.2.2.2.1.1, s1, Option.bind_some, pfi_e (by rw [s3.kd, kU3]; exact k24), Option.bind_some, ← hU5, gfr_e (by rw [q5.1]), q5.2.2.2.2.1, Option.bind_some, gfr_e (by rw [x35.kd, kU3]; exact h1), x35.rR, rU3, pe.2.2.1.1, Option.bind_some, gfr_e (by rw [x35.kd, kU3, hb.1.1]), x35.rR, rU3, hb.1.2.2.1.2.2.2.2.2.1, Option.bind_some, ck_e q5.2.2.2.2.2.2.1, t1, Option.bind_some, v1]
    unfold j_X17_ask_152
    rw [gfr_e k24', q7.2.2.2.2.1, Option.bind_some, ck_e v2.1.1, hty7, Option.bind_some, pfi_e k24', Option.bind_some, pfr_e (show (kd (sI U7 r 2 ty) r).1 = 24 from k24'), Option.bind_some, hlv]
    unfold j_X17_ask_185
    rw [pfi_e (show (kd (sR (sI U7 r 2 ty) r 9 x3) r).1 = 24 from k24'), Option.bind_some, pfi_e (show (kd (sI (sR (sI U7 r 2 ty) r 9 x3) r 5 lv) r).1 = 24 from k24'), Option.bind_some, pfr_e (show (kd (sI (sI (sR (sI U7 r 2 ty) r 9 x3) r 5 lv) r 6 x4) r).1 = 24 from k24'), Option.bind_some, pfi_e (show (kd (sR (sI (sI (sR (sI U7 r 2 ty) r 9 x3) r 5 lv) r 6 x4) r 10 x5) r).1 = 24 from k24'), Option.bind_some, ← hU, ck_e (by rw [kU]; exact h1)]
  · exact rqs_app hR hP hp hl hr exU (by rw [← ha, iUo _ _ a0, ia7, ia9, hL]) qU yU
  · have ne := fun q (hq : q < N) => (hP.2.2 q hq).1
    refine PeC_a hP hp exU.exa (fun q hq => ⟨fun e z => ?_, fun z => ?_, fun z => ?_⟩) (fun k k9 k10 => ?_) (fun k => ?_) ?_
    · rcases z with z | z
      · exact e (hP.2.1 q p hq hp z)
      · exact rq_pe hrq (ne q hq) (Or.inl rfl) z
    · rcases z with z | z
      · have := (ne q hq).2.2.2.1
        rw [z, ← ha, pe.1] at this
        exact absurd this (by decide)
      · exact rq_pe hrq (ne q hq) (Or.inr (Or.inl rfl)) z
    · rcases z with z | z
      · have := (ne q hq).2.2.2.2.1.2.2
        rw [show pa q + 1 + 1 = pa q + 2 from rfl, z, ← ha, pe.1] at this
        exact absurd this (by decide)
      · exact rq_pe hrq (ne q hq) (Or.inr (Or.inr (Or.inl rfl))) z
    · rw [← ha, iUo _ _ a0, ia7, ia3 k k9 k10]
    · rw [← ha, rUo _ _ a0]
    · rw [← ha, iUo _ _ a0, ia7, ia10]
  · rw [← ha] at hz
    obtain ⟨o1, o2, o3, o4, o5⟩ := Rq_mo hrq
    have e : z = a ∨ z = r ∨ z = r + 1 ∨ z = r + 2 ∨ z = r + 3 ∨ z = r + 4 := by omega
    rcases e with e | e | e | e | e | e <;> rw [e]
    · rw [(Pe_mo pe).1]; exact hs
    · rw [o1]; exact hs
    · rw [o2]; exact hs
    · rw [o3]; exact hs
    · rw [o4]; exact hs
    · rw [o5]; exact hs
end CASK
