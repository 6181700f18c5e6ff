/-! a peer counts, sends -/
section CSEND
variable {S : Nat → Bool} {M M1 : MM} {m al N p q r x i : Nat} {pa : Nat → Nat} {own : Nat → Ky} {sd ps sn pu rf tl : Nat → Int} {nx lf : Nat → Nat} {Q : Nat → List Rq} {rg : RG} {Bf : Nat → Nat → Nat} {B : Nat → Nat} {y : Rq} {v ad : Int} {k j : Nat} {l : List Int} {st : Nat → Int} {tm lo : Int} {fl : List Dg} {fA : Nat}
/-- a word of a peer is written: requests stay -/
theorem rqs_word (hb : RqsC M N pa Bf lf Q rg) (hp : p < N) (hk : k ≠ 9) : RqsC (sI M (pa p) k v) N pa Bf lf Q rg := by
  obtain ⟨hu, hi, hb, hj⟩ := hb
  have ex : Ex (fun z => z = pa p) M (sI M (pa p) k v) := Ex.st rfl
  refine ⟨(ExC_ex ex).un hu, hi, fun q hq => ?_, hj⟩
  obtain ⟨h1, h2, h3, h4, h5, h6, h7, h8, h9⟩ := hb q hq
  have k17 := (hb p hp).1
  refine ⟨h1, h2, ?_, h4, h5, h6, h7, h8, fun i hi => (h9 i hi).exa (ExC_ex ex).exa hu (fun z q1 q2 e => ?_) (h6 i (by omega)).2⟩
  · rw [rI_ne (by omega)]; exact h3
  · have e : z = pa p := e
    subst e
    obtain ⟨g1, g2, g3, g4, g5, g6, g7⟩ := (h6 i (by omega)).2
    have e : pa p = (rg q).2 i ∨ pa p = (rg q).2 i + 1 ∨ pa p = (rg q).2 i + 1 + 1 ∨ pa p = (rg q).2 i + 3 ∨ pa p = (rg q).2 i + 3 + 1 := by omega
    rcases e with e | e | e | e | e <;> rw [e] at k17
    · rw [g1] at k17; exact absurd k17 (by decide)
    · rw [g3] at k17; exact absurd k17 (by decide)
    · rw [g4.2.2] at k17; exact absurd k17 (by decide)
    · rw [g6] at k17; exact absurd k17 (by decide)
    · rw [g7.2.2] at k17; exact absurd k17 (by decide)
theorem pe_word (hb : PeC M N pa own sd ps sn pu rf tl nx) (hp : p < N) (hk : k ≠ 1) : ∀ q, q < N → PeS (sI M (pa p) k v) (pa q) q ∧ 276 ≤ pa q ∧ ky (kC (sI M (pa p) k v) (pa q + 1)) = own q ∧ ∀ i, ¬ (q = p ∧ i = k) → rI (sI M (pa p) k v) (pa q) i = rI M (pa q) i := by
  obtain ⟨hu, hi, hb⟩ := hb
  intro q hq
  obtain ⟨h1, h2, h3, _⟩ := hb q hq
  have k17 := (hb p hp).1.1
  have ex : Ex (fun z => z = pa p) M (sI M (pa p) k v) := Ex.st rfl
  refine ⟨⟨h1.1, ?_, h1.2.2⟩, h2, ?_, fun i hi' => rI_ne (fun z => hi' ⟨hi q p hq hp z.1, z.2⟩)⟩
  · rw [rI_ne (by omega)]; exact h1.2.1
  · have : kC (sI M (pa p) k v) (pa q + 1) = kC M (pa q + 1) := by
      funext i
      exact ex.rI (fun z => by
        have e : kd M (pa q + 1 + 1) = (64, 5) := h1.2.2.2.2.1.2.2
        have z : pa q + 1 + 1 = pa p := z
        rw [z, k17] at e
        exact absurd e (by decide)) i
    rw [this]; exact h3
theorem pe_fk (hb : PeC M N pa own sd ps sn pu rf tl nx) (hp : p < N) (hs : S 5 = true) : FK S M (sI M (pa p) k v) := FK_ex (A := fun z => z = pa p) (Ex.st rfl) (fun z _ e => by
  have e : z = pa p := e
  rw [e, (Pe_mo (hb.2.2 p hp).1).1]; exact hs)
/-- one more of a tally -/
theorem pe_tly (hb : PeC M N pa own sd ps sn pu rf tl nx) (hp : p < N) (hj : j < 5) : PeC (sI M (pa p) (11 + j) (rI M (pa p) (11 + j) + 1)) N pa own sd ps sn pu rf (tlU tl (5 * p + j)) nx := by
  have w := pe_word (k := 11 + j) (v := rI M (pa p) (11 + j) + 1) hb hp (by omega)
  obtain ⟨hu, hi, hb⟩ := hb
  refine ⟨fun a ha => hu a ha, hi, fun q hq => ?_⟩
  obtain ⟨h1, h2, h3, h4, h5, h6, ⟨t1, t2, t3, t4, t5⟩, h7, h8⟩ := hb q hq
  obtain ⟨w1, w2, w3, w4⟩ := w q hq
  have T : ∀ i, i < 5 → rI M (pa q) (11 + i) = tl (5 * q + i) → rI (sI M (pa p) (11 + j) (rI M (pa p) (11 + j) + 1)) (pa q) (11 + i) = tlU tl (5 * p + j) (5 * q + i) := by
    intro i hi' e
    by_cases c : q = p ∧ i = j
    · obtain ⟨c1, c2⟩ := c
      subst c1 c2
      rw [rI_eq rfl, e]
      unfold tlU
      rw [fup_eq]
    · rw [w4 _ (fun z => c ⟨z.1, by omega⟩), e]
      unfold tlU
      rw [fup_ne (by omega)]
  exact ⟨w1, w2, w3, by rw [w4 _ (by omega)]; exact h4, by rw [w4 _ (by omega)]; exact h5, by rw [w4 _ (by omega)]; exact h6, ⟨T 0 (by omega) t1, T 1 (by omega) t2, T 2 (by omega) t3, T 3 (by omega) t4, T 4 (by omega) t5⟩, by rw [w4 _ (by omega)]; exact h7, by rw [w4 _ (by omega)]; exact h8⟩
theorem e_sideOf (hb : BoC M m al N pa) (hP : PeC M N pa own sd ps sn pu rf tl nx) (ha : 0 ≤ ad ∧ ad < 32) : f_X6_sideOf ((18 : Nat) : Int) ad M = some (sdO N sd ad) := by
  obtain ⟨a, rfl⟩ : ∃ a : Nat, ad = (a : Int) := ⟨ad.toNat, by omega⟩
  obtain ⟨h1, h2, h3, h4, h5, h6⟩ := hb
  have k18 : (kd M 18).1 = 6 := by rw [h1.1]
  unfold f_X6_sideOf j_X6_sideOf_21 sdO
  rw [gfi_e k18, Option.bind_some, h3, w32_nn (by omega), w32_nn (by omega)]
  by_cases c : a < N
  · have hp := hP.2.2 a c
    rw [if_pos (by omega), if_pos (by omega), gfr_e k18, h1.2.2.1.2.2.2.1, Option.bind_some, lar_n h1.2.2.2.1 (by decide) (by omega) (by decide), h5 a c, Option.bind_some, gfi_e (by rw [hp.1.1]), Option.bind_some, hp.2.2.2.2.1, Int.toNat_natCast]
  · rw [if_neg (by omega), if_neg (by omega)]
theorem e_areApart (hb : BoC M m al N pa) (hP : PeC M N pa own sd ps sn pu rf tl nx) (hp : p < N) (ha : 0 ≤ ad ∧ ad < 32) : f_X6_areApart ((18 : Nat) : Int) (p : Int) ad M = some (b2i (apS N sd p ad)) := by
  have k18 : (kd M 18).1 = 6 := by rw [hb.1.1]
  have hw : ∀ t : Int, 0 ≤ t → t < 32 → w32 (sdO N sd t) = sdO N sd t := fun t t1 t2 => by
    unfold sdO
    split
    · next c => rw [← (hP.2.2 t.toNat (by omega)).2.2.2.2.1, w32_rI]
    · decide
  have := hb.2.2.2.1
  unfold f_X6_areApart j_X6_areApart_18 apS
  rw [ck_e k18, e_sideOf hb hP (by omega), Option.bind_some, ck_e k18, e_sideOf hb hP ha, Option.bind_some, hw _ (by omega) (by omega), hw _ ha.1 ha.2]
  by_cases c : sdO N sd (p : Int) = sdO N sd ad
  · rw [if_pos c, decide_eq_false (by simpa using c)]; rfl
  · rw [if_neg c, decide_eq_true c]; rfl
/-- a datagram is sent -/
theorem c_sendP (hb : BoC M m al N pa) (hP : PeC M N pa own sd ps sn pu rf tl nx) (hR : RqsC M N pa Bf lf Q rg) (hN : NetRep M st tm lo fl fA) (hst : stOK st) (htm : 0 ≤ tm ∧ tm ≤ 1000000) (hp : p < N) (ha : 0 ≤ ad ∧ ad < 32) (hx : PkC M x l) (hx1 : mo M x ≠ 1 ∧ mo M (x + 1) ≠ 1) (hx2 : x ≠ pa p ∧ x + 1 ≠ pa p) :
    ∃ M' fA', f_X17_send ((pa p : Nat) : Int) ad (x : Int) M = some M' ∧ NetRep M' (sndS st tm lo fl (apS N sd p ad) p ad l).1 tm (sndS st tm lo fl (apS N sd p ad) p ad l).2.1 (sndS st tm lo fl (apS N sd p ad) p ad l).2.2 fA' ∧ PeC M' N pa own sd ps sn pu rf (tlU tl (5 * p + 3)) nx ∧ RqsC M' N pa Bf lf Q rg ∧ (nN M' + 3 * fA = nN M + 3 * fA' ∧ nU M' + 466 * fA = nU M + 466 * fA') ∧ ∀ S : Nat → Bool, S 1 = true → S 5 = true → FK S M M' := by
  obtain ⟨pe, p276, _⟩ := hP.2.2 p hp
  let M1 := sI M (pa p) 14 (rI M (pa p) 14 + 1)
  have f5 : FK (fun z => decide (z = 5)) M M1 := pe_fk hP hp (by decide)
  have hu := hP.1
  have hP1 : PeC M1 N pa own sd ps sn pu rf (tlU tl (5 * p + 3)) nx := pe_tly (j := 3) hP hp (by omega)
  have hR1 : RqsC M1 N pa Bf lf Q rg := rqs_word hR hp (by decide)
  have hN1 : NetRep M1 st tm lo fl fA := NetRep_fk f5 hu (by decide) hN
  have hb1 : BoC M1 m al N pa := BoC_fk f5 hu (by decide) hb
  have hx' : PkC M1 x l := hx.ex (A := fun z => z = pa p) (Ex.st rfl) hx2.1 hx2.2
  have hl := isP_lt hu hx.1
  have m1x : m1 (mo M1 x) = false ∧ m1 (mo M1 (x + 1)) = false := by
    rw [exa_mo f5 (by omega), exa_mo f5 hl]
    exact ⟨by unfold m1; simpa using hx1.1, by unfold m1; simpa using hx1.2⟩
  have hfl : fl.length ≤ 400 := by obtain ⟨_, _, _, _, _, D, f1, f2, _⟩ := hN; omega
  have k17 : (kd M (pa p)).1 = 17 := by rw [pe.1]
  have k17' : (kd M1 (pa p)).1 = 17 := k17
  have r0 : rR M1 (pa p) 0 = ((18 : Nat) : Int) := pe.2.2.1.1
  have pn : rI M1 (pa p) 1 = (p : Int) := by show rI (sI M (pa p) 14 _) (pa p) 1 = _; rw [rI_ne (by omega)]; exact pe.2.1
  obtain ⟨M', fA', e1, e2, e3, e4, e5, e6⟩ := e_send (f := (p : Int)) (t := ad) (ap := apS N sd p ad) hP1.1 hN1 hst htm hfl hx' m1x ⟨w32_nn (by have := hb.2.2.2.1; omega), w32_id (by omega) (by omega)⟩
  have g1 : FK m1 M1 M' := FK_fr e3
  refine ⟨M', fA', ?_, e2, PeC_fk g1 ⟨by decide, by decide⟩ hP1, RqsC_fk g1 (by decide) hR1, ⟨e5, e6⟩, fun S s1 s5 => ?_⟩
  · unfold f_X17_send
    rw [gfi_e k17, Option.bind_some, pfi_e k17, Option.bind_some]
    show ((gfr 17 0 ((pa p : Nat) : Int) M1).bind _) = _
    rw [gfr_e k17', r0, Option.bind_some, gfr_e (by rw [hb1.1.1]), hb1.1.2.2.1.1, Option.bind_some, gfi_e k17', pn, Option.bind_some, Option.bind_some, Option.bind_some, ck_e (by rw [hb1.1.1]), e_areApart hb1 hP1 hp ha, Option.bind_some, ck_e (by rw [hN1.1.1]), e1, Option.bind_some]
  · refine FK.trans (f5.mono (fun z hz => ?_)) (g1.mono (fun z hz => ?_))
    · have : z = 5 := by simpa using hz
      rw [this]; exact s5
    · unfold m1 at hz
      have : z = 1 := by simpa using hz
      rw [this]; exact s1
end CSEND
