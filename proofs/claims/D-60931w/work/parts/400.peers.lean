/-! frames by modules of packets, keys, the net, the board -/
section FK2
variable {S : Nat → Bool} {M M1 : MM} {x q m : Nat} {l : List Int} {st : Nat → Int} {tm lo : Int} {fl : List Dg} {fA : Nat}
theorem FK_fr (h : FrM S M M1) : FK S M M1 := ⟨h.1, h.2.1, h.2.2.1, fun a ha hn => h.2.2.2.2 a ha (by
  have hn : ¬ (S (mo M a) = true) := hn
  simpa using hn)⟩
theorem FK.no (hs : S (mo M q) = false) : ¬ (fun q => S (mo M q) = true) q := fun z => by
  have z : S (mo M q) = true := z
  rw [hs] at z
  exact absurd z (by decide)
theorem PkC_fk (h : FK S M M1) (hu : UN M) (hp : PkC M x l) (h1 : S (mo M x) = false) (h2 : S (mo M (x + 1)) = false) : PkC M1 x l := hp.exa h hu (FK.no h1) (FK.no h2)
theorem isK_fk (h : FK S M M1) (hu : UN M) (hk : isK M x) (h1 : S (mo M x) = false) : isK M1 x := h.isK hu (FK.no h1) hk
theorem kC_fk (h : FK S M M1) (hu : UN M) (hk : isK M x) (h1 : S (mo M (x + 1)) = false) : kC M1 x = kC M x := h.kC (isK_lt hu hk) (FK.no h1)
theorem isP_fk (h : FK S M M1) (hu : UN M) (hk : isP M x) (h1 : S (mo M x) = false) : isP M1 x := by
  have hl := isP_lt hu hk
  exact ⟨by rw [h.kd (by omega)]; exact hk.1, by rw [h.rR (by omega) h1]; exact hk.2.1, by rw [h.kd (by omega)]; exact hk.2.2⟩
theorem mo22 (h : NetS M) : mo M 22 = 9 ∧ mo M 23 = 9 := ⟨mo_cl h.2.2.2.2.2.2.1 (by decide) (by decide), mo_kw (q := 22) h.2.2.2.2.2.2.2.2.2 (Or.inr (Or.inl rfl)) h.2.2.2.2.2.2.1 (by decide) (by decide)⟩
theorem isD_mo {d : Nat} (h : isD M d) : mo M d = 1 ∧ mo M (d + 1) = 1 ∧ mo M (d + 2) = 1 := ⟨mo_cl1 (c := 25) (by rw [h.1]) (by decide) (by decide), mo_cl h.2.2.1 (by decide) (by decide), mo_kw (q := d + 1) h.2.2.2.2.2 (Or.inr (Or.inl rfl)) h.2.2.1 (by decide) (by decide)⟩
theorem NetRep_fk (h : FK S M M1) (hu : UN M) (hs9 : S 1 = false ∧ S 9 = false) (hr : NetRep M st tm lo fl fA) : NetRep M1 st tm lo fl fA := by
  obtain ⟨hS, h1, h2, h3, h4, D, f1, f2, f3, f4, f5, f6⟩ := hr
  have hs := hs9.1
  have l19 : 19 < nN M := hu.lt (by rw [hS.1]; decide)
  have l20 : 20 < nN M := hu.lt (by rw [hS.2.2.2.2.1]; decide)
  have l21 : 21 < nN M := hu.lt (by rw [hS.2.2.2.2.2.1]; decide)
  have l22 : 22 < nN M := hu.lt (by rw [hS.2.2.2.2.2.2.1]; decide)
  have s19 : S (mo M 19) = false := by rw [mo19 hS]; exact hs
  have s20 : S (mo M 20) = false := by rw [mo20 hS]; exact hs
  have s21 : S (mo M 21) = false := by rw [mo21 hS]; exact hs
  have s22 : S (mo M 22) = false := by rw [(mo22 hS).1]; exact hs9.2
  have dD : ∀ d, isD M d → isD M1 d := fun d hd => by
    have hl := isP_lt hu hd.2.2.2
    have e := isD_mo hd
    exact ⟨by rw [h.kd (by omega)]; exact hd.1, by rw [h.rR (by omega) (by rw [e.1]; exact hs)]; exact hd.2.1, by rw [h.kd (by omega)]; exact hd.2.2.1, isP_fk h hu hd.2.2.2 (by rw [e.2.1]; exact hs)⟩
  refine ⟨⟨by rw [h.kd l19]; exact hS.1, by rw [h.rR l19 s19]; exact hS.2.1, by rw [h.rR l19 s19]; exact hS.2.2.1, by rw [h.rR l19 s19]; exact hS.2.2.2.1, by rw [h.kd l20]; exact hS.2.2.2.2.1, by rw [h.kd l21]; exact hS.2.2.2.2.2.1, by rw [h.kd l22]; exact hS.2.2.2.2.2.2.1, isP_fk h hu hS.2.2.2.2.2.2.2 s22⟩, fun i hi => by rw [h.rI l20 s20]; exact h1 i hi, by rw [h.rI l19 s19]; exact h2, by rw [h.rI l19 s19]; exact h3, by rw [h.rI l19 s19]; exact h4, D, f1, f2, f3, fun i hi => ⟨by rw [h.rR l21 s21]; exact (f4 i hi).1, dD _ (f4 i hi).2⟩, fun i a b => by rw [h.rR l21 s21]; exact f5 i a b, fun i hi => ?_⟩
  obtain ⟨g1, g2, g3, g4, g5⟩ := f6 i hi
  have e := isD_mo g1
  have hl := isP_lt hu g1.2.2.2
  exact ⟨dD _ g1, by rw [h.rI (by omega) (by rw [e.1]; exact hs)]; exact g2, by rw [h.rI (by omega) (by rw [e.1]; exact hs)]; exact g3, by rw [h.rI (by omega) (by rw [e.1]; exact hs)]; exact g4, PkC_fk h hu g5 (by rw [e.2.1]; exact hs) (by rw [e.2.2]; exact hs)⟩
theorem BdS_mo (h : BdS M m) : mo M 18 = 7 ∧ mo M 30 = 7 ∧ mo M 46 = 15 ∧ mo M 47 = 7 ∧ (mo M 31 = 7 ∧ mo M 32 = 7) ∧ (mo M 33 = 7 ∧ mo M 34 = 7) ∧ (mo M 35 = 7 ∧ mo M 38 = 7) ∧ (mo M 40 = 7 ∧ mo M 41 = 7) ∧ (mo M 42 = 7 ∧ mo M 43 = 7) ∧ (mo M 44 = 7 ∧ mo M 45 = 7) ∧ mo M 24 = 7 := by
  obtain ⟨h1, h2, h3, h4, h5, h6, ⟨p1, p2, p3, p4, p5, p6⟩, ⟨k1, k2, k3, k4, k5, k6, k7⟩, hs, hm⟩ := h
  refine ⟨mo_cl1 (c := 6) (by rw [h1]) (by decide) (by decide), mo_ar h4 (by decide) (by decide), mo_ar h5 (by decide) (by decide), mo_ar h6 (by decide) (by decide), ⟨mo_cl k1 (by decide) (by decide), mo_kw (q := 31) p1.2.2 (Or.inr (Or.inl rfl)) k1 (by decide) (by decide)⟩, ⟨mo_cl k2 (by decide) (by decide), mo_kw (q := 33) p2.2.2 (Or.inr (Or.inl rfl)) k2 (by decide) (by decide)⟩, ⟨mo_cl k3 (by decide) (by decide), ?_⟩, ⟨mo_cl k4 (by decide) (by decide), mo_kw (q := 40) p4.2.2 (Or.inl rfl) k4 (by decide) (by decide)⟩, ⟨mo_cl k5 (by decide) (by decide), mo_kw (q := 42) p5.2.2 (Or.inl rfl) k5 (by decide) (by decide)⟩, ⟨mo_cl k6 (by decide) (by decide), mo_kw (q := 44) p6.2.2 (Or.inl rfl) k6 (by decide) (by decide)⟩, mo_cl1 (c := 8) hs.1 (by decide) (by decide)⟩
  unfold mo moO
  rw [k7]
  simp only
  rw [if_pos (by decide), if_pos ⟨trivial, trivial⟩, show 38 - 3 = 35 from rfl, k3]
  rfl
end FK2
/-! the board with its peers -/
def BoC (M : MM) (m al N : Nat) (pa : Nat → Nat) : Prop := BdS M m ∧ rI M 18 1 = (al : Int) ∧ rI M 18 6 = (N : Int) ∧ N ≤ 32 ∧ (∀ p, p < N → rR M 30 p = ((pa p : Nat) : Int)) ∧ ∀ p, N ≤ p → p < 32 → rR M 30 p = -1
/-- words of the peers: state, side, next number, tallies, times -/
def PeC (M : MM) (N : Nat) (pa : Nat → Nat) (own : Nat → Ky) (sd ps sn pu rf tl : Nat → Int) (nx : Nat → Nat) : Prop :=
  UN M ∧ (∀ p q, p < N → q < N → pa p = pa q → p = q) ∧ ∀ p, p < N → PeS M (pa p) p ∧ 276 ≤ pa p ∧ ky (kC M (pa p + 1)) = own p ∧ rI M (pa p) 3 = ps p ∧ rI M (pa p) 4 = sd p ∧ rI M (pa p) 10 = (nx p : Int) ∧ (rI M (pa p) 11 = tl (5 * p) ∧ rI M (pa p) 12 = tl (5 * p + 1) ∧ rI M (pa p) 13 = tl (5 * p + 2) ∧ rI M (pa p) 14 = tl (5 * p + 3) ∧ rI M (pa p) 15 = tl (5 * p + 4)) ∧ rI M (pa p) 17 = max (pu p) (sn p) ∧ rI M (pa p) 18 = max (rf p) (sn p)
/-- where a work is: twelve places, then the backgrounds of the peers -/
def wa (pa : Nat → Nat) (t : Nat) : Nat := if t < 12 then 48 + 9 * t else pa (t - 12) + 17
def isRq (M : MM) (r : Nat) : Prop := kd M r = (24, 36) ∧ rR M r 7 = ((r + 1 : Nat) : Int) ∧ kd M (r + 1) = (3, 34) ∧ isK M (r + 1) ∧ rR M r 8 = ((r + 3 : Nat) : Int) ∧ kd M (r + 3) = (4, 35) ∧ isP M (r + 3)
def tgQ (y : Rq) : Int := if qTyp y = 1 ∨ qTyp y = 3 ∨ qTyp y = 5 then 0 else 1
def wkC (M : MM) (N : Nat) (pa : Nat → Nat) (lf : Nat → Nat) (r : Nat) : Option Nat → Prop
  | some t => t < 12 + N ∧ rR M r 9 = ((wa pa t : Nat) : Int) ∧ rI M r 5 = (lf t : Int)
  | none => rR M r 9 = -1 ∨ ∃ t, t < 12 + N ∧ rR M r 9 = ((wa pa t : Nat) : Int) ∧ rI M r 5 < (lf t : Int)
def pbC (M : MM) (B : Nat → Nat) (r : Nat) : Option Int → Prop
  | some c => rR M r 10 = ((B c.toNat : Nat) : Int)
  | none => rR M r 10 = -1
def RqC (M : MM) (N : Nat) (pa : Nat → Nat) (B : Nat → Nat) (lf : Nat → Nat) (r : Nat) (y : Rq) : Prop :=
  rI M r 0 = qNum y ∧ rI M r 1 = qAdr y ∧ rI M r 2 = qTyp y ∧ rI M r 3 = qDdl y ∧ rI M r 4 = qSnt y ∧ rI M r 6 = tgQ y ∧ ky (kC M (r + 1)) = qKey y ∧ PkC M (r + 3) (qByt y) ∧ wkC M N pa lf r (qWrk y) ∧ pbC M B r (qPrb y)
abbrev RG : Type := Nat → Nat × (Nat → Nat)
def q0 : Rq := (0, 0, 0, 0, 0, (0, 0, 0, 0, 0), [], none, none)
def RqsC (M : MM) (N : Nat) (pa : Nat → Nat) (Bf : Nat → Nat → Nat) (lf : Nat → Nat) (Q : Nat → List Rq) (rg : RG) : Prop :=
  UN M ∧ (∀ p q, p < N → q < N → pa p = pa q → p = q) ∧ (∀ p, p < N → (kd M (pa p)).1 = 17 ∧ kd M (pa p + 9) = (603, 40) ∧ rI M (pa p) 9 = ((Q p).length : Int) ∧ (Q p).length ≤ (rg p).1 ∧ (rg p).1 ≤ 40 ∧ (∀ i, i < (rg p).1 → rR M (pa p + 9) i = (((rg p).2 i : Nat) : Int) ∧ isRq M ((rg p).2 i)) ∧ (∀ i, (rg p).1 ≤ i → i < 40 → rR M (pa p + 9) i = -1) ∧ (∀ i j, i < (rg p).1 → j < (rg p).1 → (rg p).2 i = (rg p).2 j → i = j) ∧ ∀ i, i < (Q p).length → RqC M N pa (Bf p) lf ((rg p).2 i) ((Q p).getD i q0)) ∧ ∀ p q i j, p < N → q < N → i < (rg p).1 → j < (rg q).1 → (rg p).2 i = (rg q).2 j → p = q
section PEERS
variable {S : Nat → Bool} {M M1 : MM} {A : Nat → Prop} {m al N p q r x : Nat} {pa : Nat → Nat} {own : Nat → Ky} {sd ps sn pu rf tl : Nat → Int} {nx lf : Nat → Nat} {Q : Nat → List Rq} {rg : RG} {Bf : Nat → Nat → Nat} {B : Nat → Nat} {y : Rq} {v : Int} {k : Nat}
theorem BdS_fk (h : FK S M M1) (hu : UN M) (hs : S 7 = false) (hb : BdS M m) : BdS M1 m := by
  obtain ⟨o1, o2, o3, o4, ⟨o5, o6⟩, ⟨o7, o8⟩, ⟨o9, o10⟩, ⟨o11, o12⟩, ⟨o13, o14⟩, ⟨o15, o16⟩, o17⟩ := BdS_mo hb
  obtain ⟨h1, h2, ⟨r1, r2, r3, r4, r5, r6, r7, r8, r9, r10, r11, r12⟩, h4, h5, h6, ⟨p1, p2, p3, p4, p5, p6⟩, ⟨k1, k2, k3, k4, k5, k6, k7⟩, hsh, hm⟩ := hb
  have l47 : 47 < nN M := hu.lt (by rw [h6]; show 230 ≠ 63; decide)
  have s18 : S (mo M 18) = false := by rw [o1]; exact hs
  have R : ∀ i, rR M1 18 i = rR M 18 i := fun i => h.rR (by omega) s18 i
  have K : ∀ {q}, q < 48 → kd M1 q = kd M q := fun hq => h.kd (by omega)
  refine ⟨by rw [K (by decide)]; exact h1, by rw [h.rI (by omega) s18]; exact h2, ⟨by rw [R]; exact r1, by rw [R]; exact r2, by rw [R]; exact r3, by rw [R]; exact r4, by rw [R]; exact r5, by rw [R]; exact r6, by rw [R]; exact r7, by rw [R]; exact r8, by rw [R]; exact r9, by rw [R]; exact r10, by rw [R]; exact r11, by rw [R]; exact r12⟩, by rw [K (by decide)]; exact h4, by rw [K (by decide)]; exact h5, by rw [K (by decide)]; exact h6, ⟨isP_fk h hu p1 (by rw [o5]; exact hs), isP_fk h hu p2 (by rw [o7]; exact hs), ?_, isK_fk h hu p4 (by rw [o11]; exact hs), isK_fk h hu p5 (by rw [o13]; exact hs), isK_fk h hu p6 (by rw [o15]; exact hs)⟩, ⟨by rw [K (by decide)]; exact k1, by rw [K (by decide)]; exact k2, by rw [K (by decide)]; exact k3, by rw [K (by decide)]; exact k4, by rw [K (by decide)]; exact k5, by rw [K (by decide)]; exact k6, by rw [K (by decide)]; exact k7⟩, ?_, hm⟩
  · obtain ⟨f1, f2, f3, f4, f5, f6, f7, f8⟩ := p3
    have R : ∀ i, rR M1 35 i = rR M 35 i := fun i => h.rR (by omega) (by rw [o9]; exact hs) i
    exact ⟨by rw [K (by decide)]; exact f1, by rw [R]; exact f2, by rw [K (by decide)]; exact f3, by rw [R]; exact f4, by rw [R]; exact f5, by rw [K (by decide)]; exact f6, by rw [R]; exact f7, isK_fk h hu f8 (by rw [o10]; exact hs)⟩
  · obtain ⟨f1, f2, f3, f4, f5, f6, f7⟩ := hsh
    have R : ∀ i, rR M1 24 i = rR M 24 i := fun i => h.rR (by omega) (by rw [o17]; exact hs) i
    exact ⟨by rw [K (by decide)]; exact f1, by rw [R]; exact f2, by rw [R]; exact f3, by rw [R]; exact f4, by rw [K (by decide)]; exact f5, by rw [K (by decide)]; exact f6, by rw [K (by decide)]; exact f7⟩
theorem BoC_fk (h : FK S M M1) (hu : UN M) (hs : S 7 = false) (hb : BoC M m al N pa) : BoC M1 m al N pa := by
  obtain ⟨h1, h2, h3, h4, h5, h6⟩ := hb
  obtain ⟨o1, o2, _⟩ := BdS_mo h1
  have l : 30 < nN M := hu.lt (by rw [h1.2.2.2.1]; decide)
  have s18 : S (mo M 18) = false := by rw [o1]; exact hs
  have s30 : S (mo M 30) = false := by rw [o2]; exact hs
  exact ⟨BdS_fk h hu hs h1, by rw [h.rI (by omega) s18]; exact h2, by rw [h.rI (by omega) s18]; exact h3, h4, fun p hp => by rw [h.rR l s30]; exact h5 p hp, fun p a b => by rw [h.rR l s30]; exact h6 p a b⟩
/-- ints of the board's cells but 18 -/
theorem BoC_ex {Z : Nat → Prop} (h : Ex Z M M1) (hz : ¬ Z 18) (hb : BoC M m al N pa) : BoC M1 m al N pa :=
  ⟨hb.1.ex h hz, by rw [h.rI hz]; exact hb.2.1, by rw [h.rI hz]; exact hb.2.2.1, hb.2.2.2.1, fun p hp => by rw [h.rR]; exact hb.2.2.2.2.1 p hp, fun p a b => by rw [h.rR]; exact hb.2.2.2.2.2 p a b⟩
theorem Pe_mo {a : Nat} (h : PeS M a p) : mo M a = 5 ∧ mo M (a + 1) = 10 ∧ mo M (a + 2) = 10 ∧ mo M (a + 9) = 5 := ⟨mo_cl1 (c := 17) (by rw [h.1]) (by decide) (by decide), mo_cl h.2.2.2.1 (by decide) (by decide), mo_kw (q := a + 1) h.2.2.2.2.1.2.2 (Or.inl rfl) h.2.2.2.1 (by decide) (by decide), mo_ar h.2.2.2.2.2 (by decide) (by decide)⟩
theorem PeS_fk {a : Nat} (h : FK S M M1) (hu : UN M) (hs : S 5 = false ∧ S 10 = false) (hb : PeS M a p) : PeS M1 a p := by
  obtain ⟨o1, o2, o3, o4⟩ := Pe_mo hb
  obtain ⟨h1, h2, ⟨r1, r2, r3, r4, r5, r6, r7⟩, h4, h5, h6⟩ := hb
  have l : a + 9 < nN M := hu.lt (by rw [h6]; decide)
  have s : S (mo M a) = false := by rw [o1]; exact hs.1
  have R : ∀ i, rR M1 a i = rR M a i := fun i => h.rR (by omega) s i
  exact ⟨by rw [h.kd (by omega)]; exact h1, by rw [h.rI (by omega) s]; exact h2, ⟨by rw [R]; exact r1, by rw [R]; exact r2, by rw [R]; exact r3, by rw [R]; exact r4, by rw [R]; exact r5, by rw [R]; exact r6, by rw [R]; exact r7⟩, by rw [h.kd (by omega)]; exact h4, isK_fk h hu h5 (by rw [o2]; exact hs.2), by rw [h.kd (by omega)]; exact h6⟩
theorem PeC_fk (h : FK S M M1) (hs : S 5 = false ∧ S 10 = false) (hb : PeC M N pa own sd ps sn pu rf tl nx) : PeC M1 N pa own sd ps sn pu rf tl nx := by
  obtain ⟨hu, hi, hb⟩ := hb
  refine ⟨h.un hu, hi, fun p hp => ?_⟩
  obtain ⟨h1, h2, h3, h4, h5, h6, ⟨t1, t2, t3, t4, t5⟩, h7, h8⟩ := hb p hp
  obtain ⟨o1, o2, o3, o4⟩ := Pe_mo h1
  have l : pa p + 9 < nN M := hu.lt (by rw [h1.2.2.2.2.2]; decide)
  have s : S (mo M (pa p)) = false := by rw [o1]; exact hs.1
  have R : ∀ i, rI M1 (pa p) i = rI M (pa p) i := fun i => h.rI (by omega) s i
  exact ⟨PeS_fk h hu hs h1, h2, by rw [kC_fk h hu h1.2.2.2.2.1 (by rw [o3]; exact hs.2)]; exact h3, by rw [R]; exact h4, by rw [R]; exact h5, by rw [R]; exact h6, ⟨by rw [R]; exact t1, by rw [R]; exact t2, by rw [R]; exact t3, by rw [R]; exact t4, by rw [R]; exact t5⟩, by rw [R]; exact h7, by rw [R]; exact h8⟩
theorem Rq_mo (h : isRq M r) : mo M r = 5 ∧ mo M (r + 1) = 5 ∧ mo M (r + 2) = 5 ∧ mo M (r + 3) = 5 ∧ mo M (r + 4) = 5 := ⟨mo_cl1 (c := 24) (by rw [h.1]) (by decide) (by decide), mo_cl h.2.2.1 (by decide) (by decide), mo_kw (q := r + 1) h.2.2.2.1.2.2 (Or.inl rfl) h.2.2.1 (by decide) (by decide), mo_cl h.2.2.2.2.2.1 (by decide) (by decide), mo_kw (q := r + 3) h.2.2.2.2.2.2.2.2 (Or.inr (Or.inl rfl)) h.2.2.2.2.2.1 (by decide) (by decide)⟩
theorem isRq_lt (hu : UN M) (h : isRq M r) : r + 4 < nN M := by have := isP_lt hu h.2.2.2.2.2.2; omega
theorem isRq.exa (h : ExA A M M1) (hu : UN M) (h0 : ∀ q, r ≤ q → q ≤ r + 4 → ¬ A q) (hb : isRq M r) : isRq M1 r := by
  have hl := isRq_lt hu hb
  obtain ⟨h1, h2, h3, h4, h5, h6, h7⟩ := hb
  have R : ∀ i, rR M1 r i = rR M r i := fun i => h.rR (by omega) (h0 r (by omega) (by omega)) i
  have p := isP_lt hu h7
  exact ⟨by rw [h.kd (by omega)]; exact h1, by rw [R]; exact h2, by rw [h.kd (by omega)]; exact h3, h.isK hu (h0 _ (by omega) (by omega)) h4, by rw [R]; exact h5, by rw [h.kd (by omega)]; exact h6, by rw [h.kd (by omega)]; exact h7.1, by rw [h.rR (by omega) (h0 _ (by omega) (by omega))]; exact h7.2.1, by rw [h.kd (by omega)]; exact h7.2.2⟩
theorem wkC.cg {o : Option Nat} (h9 : rR M1 r 9 = rR M r 9) (h5 : rI M1 r 5 = rI M r 5) (h : wkC M N pa lf r o) : wkC M1 N pa lf r o := by
  cases o with
  | some t => exact ⟨h.1, by rw [h9]; exact h.2.1, by rw [h5]; exact h.2.2⟩
  | none =>
    rcases h with h | ⟨t, h1, h2, h3⟩
    · exact Or.inl (by rw [h9]; exact h)
    · exact Or.inr ⟨t, h1, by rw [h9]; exact h2, by rw [h5]; exact h3⟩
theorem pbC.cg {o : Option Int} (h10 : rR M1 r 10 = rR M r 10) (h : pbC M B r o) : pbC M1 B r o := by
  cases o with
  | some c => show rR M1 r 10 = _; rw [h10]; exact h
  | none => show rR M1 r 10 = _; rw [h10]; exact h
theorem RqC.exa (h : ExA A M M1) (hu : UN M) (h0 : ∀ q, r ≤ q → q ≤ r + 4 → ¬ A q) (hr : isRq M r) (hb : RqC M N pa B lf r y) : RqC M1 N pa B lf r y := by
  have hl := isRq_lt hu hr
  obtain ⟨h1, h2, h3, h4, h5, h6, h7, h8, h9, h10⟩ := hb
  have I : ∀ i, rI M1 r i = rI M r i := fun i => h.rI (by omega) (h0 r (by omega) (by omega)) i
  have R : ∀ i, rR M1 r i = rR M r i := fun i => h.rR (by omega) (h0 r (by omega) (by omega)) i
  exact ⟨by rw [I]; exact h1, by rw [I]; exact h2, by rw [I]; exact h3, by rw [I]; exact h4, by rw [I]; exact h5, by rw [I]; exact h6, by rw [h.kC (by omega) (h0 _ (by omega) (by omega))]; exact h7, h8.exa h hu (h0 _ (by omega) (by omega)) (h0 _ (by omega) (by omega)), h9.cg (R 9) (I 5), h10.cg (R 10)⟩
theorem RqsC_fk (h : FK S M M1) (hs : S 5 = false) (hb : RqsC M N pa Bf lf Q rg) : RqsC M1 N pa Bf lf Q rg := by
  obtain ⟨hu, hi, hb, hj⟩ := hb
  refine ⟨h.un hu, hi, fun p hp => ?_, hj⟩
  obtain ⟨h1, h2, h3, h4, h5, h6, h7, h8, h9⟩ := hb p hp
  have l : pa p + 9 < nN M := hu.lt (by rw [h2]; decide)
  have s : S (mo M (pa p)) = false := by rw [mo_cl1 h1 (by decide) (by decide)]; exact hs
  have s9 : S (mo M (pa p + 9)) = false := by rw [mo_ar h2 (by decide) (by decide)]; exact hs
  have no : ∀ {r}, isRq M r → ∀ q, r ≤ q → q ≤ r + 4 → ¬ (fun q => S (mo M q) = true) q := fun {r} hr q q1 q2 => by
    obtain ⟨m1, m2, m3, m4, m5⟩ := Rq_mo hr
    refine FK.no ?_
    have e : q = r ∨ q = r + 1 ∨ q = r + 2 ∨ q = r + 3 ∨ q = r + 4 := by omega
    rcases e with e | e | e | e | e <;> subst e
    · rw [m1]; exact hs
    · rw [m2]; exact hs
    · rw [m3]; exact hs
    · rw [m4]; exact hs
    · rw [m5]; exact hs
  exact ⟨by rw [h.kd (by omega)]; exact h1, by rw [h.kd (by omega)]; exact h2, by rw [h.rI (by omega) s]; exact h3, h4, h5, fun i hi => ⟨by rw [h.rR l s9]; exact (h6 i hi).1, (h6 i hi).2.exa h hu (no (h6 i hi).2)⟩, fun i a b => by rw [h.rR l s9]; exact h7 i a b, h8, fun i hi => (h9 i hi).exa h hu (no (h6 i (by omega)).2) (h6 i (by omega)).2⟩
end PEERS
