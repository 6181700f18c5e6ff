section CREQ2
variable {S : Nat → Bool} {M M1 : MM} {A : Nat → Prop} {m al N p q r r' x i : Nat} {pa : Nat → Nat} {own : Nat → Ky} {sd ps sn pu rf tl : Nat → Int} {nx lf : Nat → Nat} {Q : Nat → List Rq} {rg : RG} {Bf : Nat → Nat → Nat} {B : Nat → Nat} {y y' : Rq} {v ad : Int} {k j a : Nat} {l : List Int} {st : Nat → Int} {tm lo : Int} {fl : List Dg} {fA : Nat}
theorem fk5 {A : Nat → Prop} (h : ExC A M M1) (hA : ∀ z, A z → mo M z = 5) (hs : S 5 = true) : FK S M M1 := FK_exc h (fun z _ hz => by rw [hA z hz]; exact hs)
/-- a request is sent once more -/
theorem c_sendAgain (hb : BoC M m al N pa) (hP : PeC M N pa own sd ps sn pu rf tl nx) (hR : RqsC M N pa Bf lf Q rg) (hN : NetRep M st tm lo fl fA) (hst : stOK st) (htm : 0 ≤ tm ∧ tm ≤ 1000000) (hp : p < N) (hi : i < (Q p).length) (hy : y = (Q p).getD i q0) (ha : 0 ≤ qAdr y ∧ qAdr y < 32) (hsn : 0 ≤ qSnt y ∧ qSnt y ≤ 100) :
    ∃ M' fA', f_X17_sendAgain ((pa p : Nat) : Int) (((rg p).2 i : Nat) : Int) M = some M' ∧ NetRep M' (sndS st tm lo fl (apS N sd p (qAdr y)) p (qAdr y) (qByt y)).1 tm (sndS st tm lo fl (apS N sd p (qAdr y)) p (qAdr y) (qByt y)).2.1 (sndS st tm lo fl (apS N sd p (qAdr y)) p (qAdr y) (qByt y)).2.2 fA' ∧ PeC M' N pa own sd ps sn pu rf (tlU tl (5 * p + 3)) nx ∧ RqsC M' N pa Bf lf (fup Q p ((Q p).set i (goQ y (tm + st 4)))) rg ∧ (nN M' + 3 * fA = nN M + 3 * fA' ∧ nU M' + 466 * fA = nU M + 466 * fA') ∧ ∀ S : Nat → Bool, S 1 = true → S 5 = true → FK S M M' := by
  obtain ⟨r, hr⟩ : ∃ r, r = (rg p).2 i := ⟨_, rfl⟩
  rw [← hr]
  obtain ⟨pe, p276, _⟩ := hP.2.2 p hp
  obtain ⟨h1, h2, h3, h4, h5, h6, h7, h8, h9⟩ := hR.2.2.1 p hp
  have hrq : isRq M r := by rw [hr]; exact (h6 i (by omega)).2
  have hyc := h9 i hi
  rw [← hr, ← hy] at hyc
  obtain ⟨c0, c1, c2, c3, c4, c6, c7, c8, c9, c10⟩ := hyc
  have hs4 := hst.2.2.2.2.1
  let M2 := sI (sI M r 4 (rI M r 4 + 1)) r 3 (tm + st 4)
  have ex : Ex (fun z => z = r) M M2 := Ex.trans (M1 := sI M r 4 (rI M r 4 + 1)) (Ex.st (A := fun z => z = r) rfl) (Ex.st (A := fun z => z = r) rfl)
  have I : ∀ k, k ≠ 3 → k ≠ 4 → rI M2 r k = rI M r k := fun k k3 k4 => by
    show rI (sI (sI M r 4 _) r 3 _) r k = _
    rw [rI_ne (by omega), rI_ne (by omega)]
  have hrq2 : isRq M2 r := hrq
  have hyc2 : RqC M2 N pa (Bf p) lf r (goQ y (tm + st 4)) := by
    refine ⟨by rw [I 0 (by decide) (by decide)]; exact c0, by rw [I 1 (by decide) (by decide)]; exact c1, by rw [I 2 (by decide) (by decide)]; exact c2, ?_, ?_, by rw [I 6 (by decide) (by decide)]; exact c6, ?_, c8.ex ex (by omega) (by omega), wkC.cg (M := M) rfl (I 5 (by decide) (by decide)) c9, pbC.cg (M := M) rfl c10⟩
    · show rI (sI (sI M r 4 _) r 3 _) r 3 = tm + st 4
      rw [rI_eq rfl, w32_id (by omega) (by omega)]
    · show rI (sI (sI M r 4 _) r 3 _) r 4 = qSnt y + 1
      rw [rI_ne (by omega), rI_eq rfl, c4, w32_id (by omega) (by omega)]
    · have : kC M2 (r + 1) = kC M (r + 1) := by
        funext j
        exact ex.rI (by omega) j
      rw [this]; exact c7
  obtain ⟨R2, P2, F2⟩ := rqs_upd hR hP hp hi hr ((ExC_ex ex).mono (fun z hz => by have : z = r := hz; omega)) hrq2 hyc2
  have f5 : FK (fun z => decide (z = 5)) M M2 := F2 _ (by decide)
  have hu := hP.1
  have N2 : NetRep M2 st tm lo fl fA := NetRep_fk f5 hu (by decide) hN
  have b2 : BoC M2 m al N pa := BoC_fk f5 hu (by decide) hb
  obtain ⟨o1, o2, o3, o4, o5⟩ := Rq_mo hrq2
  have hx : PkC M2 (r + 3) (qByt y) := hyc2.2.2.2.2.2.2.2.1
  obtain ⟨M', fA', e1, e2, e3, e4, e5, e6⟩ := c_sendP b2 P2 R2 N2 hst htm hp ha hx ⟨by rw [o4]; decide, by rw [o5]; decide⟩ ⟨fun z => rq_pe hrq pe (z := pa p) (Or.inl rfl) (by omega), fun z => rq_pe hrq pe (z := pa p) (Or.inl rfl) (by omega)⟩
  refine ⟨M', fA', ?_, e2, e3, e4, e5, fun S s1 s5 => (F2 S s5).trans (e6 S s1 s5)⟩
  have k24 : (kd M r).1 = 24 := by rw [hrq.1]
  unfold f_X17_sendAgain
  rw [gfi_e k24, Option.bind_some, pfi_e k24, Option.bind_some]
  have f51 : FK (fun z => decide (z = 5)) M (sI M r 4 (rI M r 4 + 1)) := FK_ex (A := fun z => z = r) (Ex.st rfl) (fun z _ e => by
    have e : z = r := e
    rw [e, (Rq_mo hrq).1]; decide)
  have N1 := NetRep_fk f51 hu (by decide) hN
  have b1 := BoC_fk f51 hu (by decide) hb
  have pe1 : PeS (sI M r 4 (rI M r 4 + 1)) (pa p) p := pe.ex (Z := fun z => z = r) (Ex.st rfl) (fun z => rq_pe hrq pe (z := pa p) (Or.inl rfl) (by have : pa p = r := z; omega))
  have k17 : (kd (sI M r 4 (rI M r 4 + 1)) (pa p)).1 = 17 := by rw [pe1.1]
  rw [gfr_e k17, pe1.2.2.1.1, Option.bind_some, gfr_e (by rw [b1.1.1]), b1.1.2.2.1.1, Option.bind_some, gfi_e (by rw [N1.1.1]), N1.2.2.1, Option.bind_some, Option.bind_some, gfr_e (by rw [b1.1.1]), b1.1.2.2.1.1, Option.bind_some, ck_e (by rw [N1.1.1]), show f_X7_setting ((19 : Nat) : Int) 4 _ = _ from e_setting (k := 4) N1 (by decide), Option.bind_some, pfi_e (show (kd (sI M r 4 (rI M r 4 + 1)) r).1 = 24 from k24), Option.bind_some]
  show ((gfi 24 1 ((r : Nat) : Int) M2).bind _) = _
  rw [gfi_e (show (kd M2 r).1 = 24 from k24), hyc2.2.1, Option.bind_some, gfr_e (show (kd M2 r).1 = 24 from k24), show rR M2 r 8 = ((r + 3 : Nat) : Int) from hrq.2.2.2.2.1, Option.bind_some, ck_e (show (kd M2 (pa p)).1 = 17 from k17)]
  show ((f_X17_send ((pa p : Nat) : Int) (qAdr y) ((r + 3 : Nat) : Int) M2).bind _) = _
  rw [e1, Option.bind_some]
/-- words 9 and 10 of a peer, and its row of requests, change -/
theorem PeC_a {n' : Nat} (hb : PeC M N pa own sd ps sn pu rf tl nx) (hp : p < N) (h : ExA A M M1) (hA : ∀ q, q < N → (q ≠ p → ¬ A (pa q)) ∧ ¬ A (pa q + 1) ∧ ¬ A (pa q + 2)) (hI : ∀ k, k ≠ 9 → k ≠ 10 → rI M1 (pa p) k = rI M (pa p) k) (hRf : ∀ k, rR M1 (pa p) k = rR M (pa p) k) (h10 : rI M1 (pa p) 10 = (n' : Int)) : PeC M1 N pa own sd ps sn pu rf tl (fup nx p n') := by
  obtain ⟨hu, hi, hb⟩ := hb
  refine ⟨h.un hu, hi, fun q hq => ?_⟩
  obtain ⟨h1, h2, h3, h4, h5, h6, ⟨t1, t2, t3, t4, t5⟩, h7, h8⟩ := hb q hq
  obtain ⟨a0, a1, a2⟩ := hA q hq
  have l : pa q + 9 < nN M := hu.lt (by rw [h1.2.2.2.2.2]; decide)
  have I : ∀ k, k ≠ 9 → k ≠ 10 → rI M1 (pa q) k = rI M (pa q) k := fun k k9 k10 => by
    by_cases e : q = p
    · subst e; exact hI k k9 k10
    · exact h.rI (by omega) (a0 e) k
  have R : ∀ k, rR M1 (pa q) k = rR M (pa q) k := fun k => by
    by_cases e : q = p
    · subst e; exact hRf k
    · exact h.rR (by omega) (a0 e) k
  obtain ⟨s1, s2, ⟨r1, r2, r3, r4, r5, r6, r7⟩, s4, s5, s6⟩ := h1
  refine ⟨⟨by rw [h.kd (by omega)]; exact s1, by rw [I 1 (by decide) (by decide)]; exact s2, ⟨by rw [R]; exact r1, by rw [R]; exact r2, by rw [R]; exact r3, by rw [R]; exact r4, by rw [R]; exact r5, by rw [R]; exact r6, by rw [R]; exact r7⟩, by rw [h.kd (by omega)]; exact s4, h.isK hu a1 s5, by rw [h.kd (by omega)]; exact s6⟩, h2, by rw [h.kC (by omega) a2]; exact h3, by rw [I 3 (by decide) (by decide)]; exact h4, by rw [I 4 (by decide) (by decide)]; exact h5, ?_, ⟨by rw [I 11 (by decide) (by decide)]; exact t1, by rw [I 12 (by decide) (by decide)]; exact t2, by rw [I 13 (by decide) (by decide)]; exact t3, by rw [I 14 (by decide) (by decide)]; exact t4, by rw [I 15 (by decide) (by decide)]; exact t5⟩, by rw [I 17 (by decide) (by decide)]; exact h7, by rw [I 18 (by decide) (by decide)]; exact h8⟩
  by_cases e : q = p
  · subst e; rw [fup_eq]; exact h10
  · rw [fup_ne e, h.rI (by omega) (a0 e)]; exact h6
/-- the row of a peer's requests is put in another order -/
theorem rqs_perm (hR : RqsC M N pa Bf lf Q rg) (hP : PeC M N pa own sd ps sn pu rf tl nx) (hp : p < N) {Q' : List Rq} {D' : Nat → Nat} (hx : ExC (fun z => z = pa p ∨ z = pa p + 9) M M1) (hl : rI M1 (pa p) 9 = (Q'.length : Int)) (hl2 : Q'.length ≤ (Q p).length) (hD : ∀ i, i < (rg p).1 → rR M1 (pa p + 9) i = ((D' i : Nat) : Int) ∧ ∃ j, j < (rg p).1 ∧ D' i = (rg p).2 j) (hn : ∀ i, (rg p).1 ≤ i → i < 40 → rR M1 (pa p + 9) i = -1) (hj : ∀ i j, i < (rg p).1 → j < (rg p).1 → D' i = D' j → i = j) (hQ : ∀ i, i < Q'.length → ∃ j, j < (Q p).length ∧ D' i = (rg p).2 j ∧ Q'.getD i q0 = (Q p).getD j q0) : RqsC M1 N pa Bf lf (fup Q p Q') (fup rg p ((rg p).1, D')) := by
  obtain ⟨hu, hinj, hb, hjj⟩ := hR
  have pe := fun q hq => (hP.2.2 q hq).1
  have stay : ∀ q i, q < N → i < (rg q).1 → isRq M ((rg q).2 i) → ∀ z, (rg q).2 i ≤ z → z ≤ (rg q).2 i + 4 → ¬ (z = pa p ∨ z = pa p + 9) := fun q i hq hi hr z z1 z2 e => rq_pe hr (pe p hp) (z := z) (by omega) ⟨z1, z2⟩
  obtain ⟨k1, k2, k3, k4, k5, k6, k7, k8, k9⟩ := hb p hp
  refine ⟨hx.un hu, hinj, fun q hq => ?_, fun q q' i j hq hq' hi hj' he => ?_⟩
  · obtain ⟨g1, g2, g3, g4, g5, g6, g7, g8, g9⟩ := hb q hq
    by_cases e : q = p
    · subst e
      rw [fup_eq, fup_eq]
      refine ⟨by rw [hx.kd]; exact g1, by rw [hx.kd]; exact g2, hl, by dsimp only; omega, g5, fun i hi => ⟨(hD i hi).1, ?_⟩, hn, hj, fun i hi => ?_⟩
      · obtain ⟨j, j1, j2⟩ := (hD i hi).2
        dsimp only
        rw [j2]
        exact (g6 j j1).2.exa hx.exa hu (stay q j hq j1 (g6 j j1).2)
      · obtain ⟨j, j1, j2, j3⟩ := hQ i hi
        dsimp only
        rw [j2, j3]
        exact (g9 j j1).exa hx.exa hu (stay q j hq (by omega) (g6 j (by omega)).2) (g6 j (by omega)).2
    · rw [fup_ne e, fup_ne e]
      have ne : pa q ≠ pa p := fun z => e (hinj q p hq hp z)
      have a0 : ¬ (pa q = pa p ∨ pa q = pa p + 9) := fun z => by
        rcases z with z | z
        · exact ne z
        · rw [z, k2] at g1; exact absurd g1 (by decide)
      have a9 : ¬ (pa q + 9 = pa p ∨ pa q + 9 = pa p + 9) := fun z => by
        rcases z with z | z
        · rw [z] at g2; rw [g2] at k1; exact absurd k1 (by decide)
        · exact ne (by omega)
      exact ⟨by rw [hx.kd]; exact g1, by rw [hx.kd]; exact g2, by rw [hx.rI a0]; exact g3, g4, g5, fun i hi => ⟨by rw [hx.rR a9]; exact (g6 i hi).1, (g6 i hi).2.exa hx.exa hu (stay q i hq hi (g6 i hi).2)⟩, fun i b1 b2 => by rw [hx.rR a9]; exact g7 i b1 b2, g8, fun i hi => (g9 i hi).exa hx.exa hu (stay q i hq (by omega) (g6 i (by omega)).2) (g6 i (by omega)).2⟩
  · by_cases e : q = p
    · by_cases e' : q' = p
      · omega
      · subst e
        rw [fup_eq] at hi
        rw [fup_ne e'] at hj'
        rw [fup_eq, fup_ne e'] at he
        obtain ⟨k, kk1, kk2⟩ := (hD i hi).2
        exact hjj q q' k j hq hq' kk1 hj' (by rw [← kk2]; exact he)
    · by_cases e' : q' = p
      · subst e'
        rw [fup_eq] at hj'
        rw [fup_ne e] at hi
        rw [fup_eq, fup_ne e] at he
        obtain ⟨k, kk1, kk2⟩ := (hD j hj').2
        exact hjj q q' i k hq hq' hi kk1 (by rw [← kk2]; exact he)
      · rw [fup_ne e] at hi
        rw [fup_ne e'] at hj'
        rw [fup_ne e, fup_ne e'] at he
        exact hjj q q' i j hq hq' hi hj' he
end CREQ2
