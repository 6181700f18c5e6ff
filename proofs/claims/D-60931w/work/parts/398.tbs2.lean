/-! the tables of all peers, with the pool: what is where (n, buckets made, buckets, pointers, contents, flags) -/
abbrev TGp : Type := Nat × Nat × (Nat → Nat) × (Nat → Bool → List Nat) × (Nat → Bool → List (Ky × Int)) × (Nat → Int)
abbrev TG : Type := (Nat → Nat × Nat) × Nat × Nat × List Nat × (Nat → TGp)
def TTg (M : MM) (ow : Nat → Nat × Nat) (a m : Nat) (own : Ky) (T : List Row) (pf : Nat → Bool) (x : TGp) (ap len : Nat) (sp : List Nat) : Prop := TT M ow (a + 10) (a + 1) m own T pf x.1 x.2.1 x.2.2.1 x.2.2.2.1 x.2.2.2.2.1 x.2.2.2.2.2 ap len sp
def sumN (f : Nat → Nat) : Nat → Nat
  | 0 => 0
  | n + 1 => sumN f n + f n
theorem sumN_fup {f : Nat → Nat} {p v : Nat} : ∀ n, p < n → sumN (fup f p v) n + f p = sumN f n + v
  | 0, h => by omega
  | n + 1, h => by
    by_cases e : p = n
    · subst e
      have : ∀ k, k ≤ p → sumN (fup f p v) k = sumN f k := by
        intro k
        induction k with
        | zero => intro _; rfl
        | succ k ih => intro hk; show sumN (fup f p v) k + fup f p v k = sumN f k + f k; rw [ih (by omega)]; unfold fup; rw [if_neg (by omega)]
      show sumN (fup f p v) p + fup f p v p + f p = sumN f p + f p + v
      rw [this p (by omega)]
      unfold fup
      rw [if_pos rfl]
      omega
    · have ih := sumN_fup (f := f) (p := p) (v := v) n (by omega)
      show sumN (fup f p v) n + fup f p v n + f p = sumN f n + f n + v
      have : fup f p v n = f n := by unfold fup; rw [if_neg (by omega)]
      omega
theorem sumN_congr {f g : Nat → Nat} : ∀ n, (∀ i, i < n → f i = g i) → sumN f n = sumN g n
  | 0, _ => rfl
  | n + 1, h => by show sumN f n + f n = sumN g n + g n; rw [sumN_congr n (fun i hi => h i (by omega)), h n (by omega)]
theorem sumN_le {f : Nat → Nat} {b : Nat} : ∀ n, (∀ i, i < n → f i ≤ b) → sumN f n ≤ n * b
  | 0, _ => Nat.zero_le _
  | n + 1, h => by
    have := sumN_le (f := f) (b := b) n (fun i hi => h i (by omega))
    have h2 := h n (by omega)
    rw [Nat.add_mul]
    show sumN f n + f n ≤ _
    omega
theorem sumN_get {f : Nat → Nat} {p : Nat} : ∀ n, p < n → f p ≤ sumN f n
  | 0, h => by omega
  | n + 1, h => by
    show f p ≤ sumN f n + f n
    by_cases e : p = n
    · subst e; omega
    · have := sumN_get (f := f) (p := p) n (by omega); omega
/-- cells and words of all tables -/
def tbN (N : Nat) (T : Nat → List Row) (g : TG) : Nat := 3 * (g.2.2.2.1.length + sumN (fun p => (T p).length) N) + 5 * sumN (fun p => (g.2.2.2.2 p).2.1) N + g.2.2.1
def tbU (N m : Nat) (T : Nat → List Row) (g : TG) : Nat := 8 * (g.2.2.2.1.length + sumN (fun p => (T p).length) N) + (7 + 2 * m) * sumN (fun p => (g.2.2.2.2 p).2.1) N + 2 * g.2.2.1
def TbsC (M : MM) (m N : Nat) (pa : Nat → Nat) (own : Nat → Ky) (T : Nat → List Row) (pf : Nat → Nat → Bool) (g : TG) : Prop :=
  UN M ∧ PoolC M g.2.1 g.2.2.1 g.2.2.2.1 ∧ g.2.2.2.1.Nodup ∧ (∀ c, c ∈ g.2.2.2.1 → g.1 c = (28, 28)) ∧ (∀ p q, p < N → q < N → pa p = pa q → p = q) ∧ ∀ p, p < N → kd M (pa p + 1) = (3, 41) ∧ TTg M g.1 (pa p) m (own p) (T p) (pf p) (g.2.2.2.2 p) g.2.1 g.2.2.1 g.2.2.2.1
/-- buckets stay where they are -/
def bkMo (M : MM) (N : Nat) (g g' : TG) : Prop := ∀ p, p < N → (g.2.2.2.2 p).2.1 ≤ (g'.2.2.2.2 p).2.1 ∧ (∀ i, i < (g.2.2.2.2 p).2.1 → (g'.2.2.2.2 p).2.2.1 i = (g.2.2.2.2 p).2.2.1 i)
section TBS2
variable {M M1 M2 : MM} {S : Nat → Bool} {m N p kx : Nat} {pa : Nat → Nat} {own : Nat → Ky} {T : Nat → List Row} {pf : Nat → Nat → Bool} {g g' : TG} {ad : Int}
theorem bkMo.refl : bkMo M N g g := fun _ _ => ⟨Nat.le_refl _, fun _ _ => rfl⟩
theorem pool_fk (h : FK S M M1) (hs : S 2 = false) (hu : UN M) {a len : Nat} {sp : List Nat} (hp : PoolC M a len sp) : PoolC M1 a len sp :=
  pool_keep h hu hp (fun q hq z => by
    have z : S (mo M q) = true := z
    have e : mo M q = 2 := by
      rcases hq with e | e | ⟨c, h1, h2, h3⟩
      · subst e; exact (pool_mo hp).1
      · subst e; exact (pool_mo hp).2
      · exact ct_mo (hp.2.2.2.2.2.2.2 c h1) h2 h3
    rw [e, hs] at z
    exact absurd z (by decide))
theorem tbs_fk (h : FK S M M1) (hs : S 2 = false ∧ S 10 = false) (hT : TbsC M m N pa own T pf g) : TbsC M1 m N pa own T pf g := by
  obtain ⟨h1, h2, h3, h4, h5, h6⟩ := hT
  refine ⟨h.un h1, pool_fk h hs.1 h1 h2, h3, h4, h5, fun p hp => ?_⟩
  obtain ⟨a1, a2⟩ := h6 p hp
  have hlt : pa p + 1 < nN M := h1.lt (by rw [a1]; decide)
  exact ⟨by rw [h.kd hlt]; exact a1, tt_fk h hs a2 a1⟩
/-- a step of one table -/
theorem tbs_step (hT : TbsC M m N pa own T pf g) (hp : p < N) {ow' : Nat → Nat × Nat} {a' len' : Nat} {sp' : List Nat} {T' : List Row} {pf' : Nat → Bool} {x : TGp} (h : TTg M1 ow' (pa p) m (own p) T' pf' x a' len' sp') (hst : StF M g.1 (g.2.2.2.2 p).2.2.1 (g.2.2.2.2 p).2.1 (pa p + 10) g.2.1 M1 ow' a') : TbsC M1 m N pa own (fup T p T') (fup pf p pf') (ow', a', len', sp', fup g.2.2.2.2 p x) := by
  obtain ⟨h1, h2, h3, h4, h5, h6⟩ := hT
  obtain ⟨a1, a2⟩ := h6 p hp
  have pool := h.1.2.2.2.2.2.2.2.2
  refine ⟨h.1.1, pool.1, pool.2.1, pool.2.2.1, h5, fun q hq => ?_⟩
  obtain ⟨b1, b2⟩ := h6 q hq
  have hlt : pa q + 1 < nN M := h1.lt (by rw [b1]; decide)
  refine ⟨by rw [hst.1.kd hlt]; exact b1, ?_⟩
  by_cases e : q = p
  · subst e
    show TTg M1 ow' (pa q) m (own q) (fup T q T' q) (fup pf q pf' q) (fup g.2.2.2.2 q x q) a' len' sp'
    rw [fup_eq, fup_eq, fup_eq]
    exact h
  · show TTg M1 ow' (pa q) m (own q) (fup T p T' q) (fup pf p pf' q) (fup g.2.2.2.2 p x q) a' len' sp'
    rw [fup_ne e, fup_ne e, fup_ne e]
    exact tt_other a2 b2 (fun z => e (h5 q p hq hp (by omega))) hst pool.1 pool.2.1 pool.2.2.1
/-- cells taken, of all tables -/
theorem tb_acc (hp : p < N) {ow' : Nat → Nat × Nat} {a' len' : Nat} {sp' : List Nat} {T' : List Row} {x : TGp} (h : Ac M M1 (g.2.2.2.1.length + (T p).length) (sp'.length + T'.length) (g.2.2.2.2 p).2.1 x.2.1 g.2.2.1 len' m) : nN M1 + tbN N T g ≤ nN M + tbN N (fup T p T') (ow', a', len', sp', fup g.2.2.2.2 p x) ∧ nU M1 + tbU N m T g ≤ nU M + tbU N m (fup T p T') (ow', a', len', sp', fup g.2.2.2.2 p x) := by
  have e1 : sumN (fun q => (fup T p T' q).length) N + (T p).length = sumN (fun q => (T q).length) N + T'.length := by
    have := sumN_fup (f := fun q => (T q).length) (p := p) (v := T'.length) N hp
    rw [← this]
    congr 1
    exact sumN_congr N (fun i _ => by unfold fup; split <;> rfl)
  have e2 : sumN (fun q => (fup g.2.2.2.2 p x q).2.1) N + (g.2.2.2.2 p).2.1 = sumN (fun q => (g.2.2.2.2 q).2.1) N + x.2.1 := by
    have := sumN_fup (f := fun q => (g.2.2.2.2 q).2.1) (p := p) (v := x.2.1) N hp
    rw [← this]
    congr 1
    exact sumN_congr N (fun i _ => by unfold fup; split <;> rfl)
  obtain ⟨a1, a2⟩ := h
  refine ⟨?_, ?_⟩
  · unfold tbN
    show nN M1 + _ ≤ nN M + (3 * (sp'.length + sumN (fun q => (fup T p T' q).length) N) + 5 * sumN (fun q => (fup g.2.2.2.2 p x q).2.1) N + len')
    omega
  · unfold tbU
    show nU M1 + _ ≤ nU M + (8 * (sp'.length + sumN (fun q => (fup T p T' q).length) N) + (7 + 2 * m) * sumN (fun q => (fup g.2.2.2.2 p x q).2.1) N + 2 * len')
    have e3 : (7 + 2 * m) * sumN (fun q => (fup g.2.2.2.2 p x q).2.1) N + (7 + 2 * m) * (g.2.2.2.2 p).2.1 = (7 + 2 * m) * sumN (fun q => (g.2.2.2.2 q).2.1) N + (7 + 2 * m) * x.2.1 := by rw [← Nat.mul_add, e2, Nat.mul_add]
    omega
/-- a peer comes to know a key -/
theorem c_seeT (hT : TbsC M m N pa own T pf g) (hp : p < N) (hk : isK M kx) (hkx : (kd M kx).2 ≠ 38) (hown : kyo (own p)) (had : w32 ad = ad) (hl : (T p).length < 1100) (hsp : g.2.2.2.1.length ≤ 40000) :
    ∃ (M' : MM) (g' : TG) (res : Int), f_X20_see ((pa p + 10 : Nat) : Int) (kx : Int) ad M = some (res, M') ∧ TbsC M' m N pa own (fup T p (seeT m (own p) (ky (kC M kx)) ad (T p)).1) pf g' ∧ (if (seeT m (own p) (ky (kC M kx)) ad (T p)).2 = true then (∃ C : Nat, kc (ky (kC M kx)) (own p) = ((C : Nat) : Int) ∧ C < 160 ∧ C < (g'.2.2.2.2 p).1 ∧ (C < (g'.2.2.2.2 p).1 - 1 ∨ (g'.2.2.2.2 p).1 = 160) ∧ res = if pf p C = true then -1 else (((g'.2.2.2.2 p).2.2.1 C : Nat) : Int)) else res = -1) ∧ KL g.2.2.2.1.length g'.2.2.2.1.length (T p).length (seeT m (own p) (ky (kC M kx)) ad (T p)).1.length ∧ (nN M' + tbN N T g ≤ nN M + tbN N (fup T p (seeT m (own p) (ky (kC M kx)) ad (T p)).1) g' ∧ nU M' + tbU N m T g ≤ nU M + tbU N m (fup T p (seeT m (own p) (ky (kC M kx)) ad (T p)).1) g') ∧ (∀ S : Nat → Bool, S 2 = true → FK S M M') ∧ bkMo M N g g' ∧ (∀ q, q < N → (g.2.2.2.2 q).1 ≤ (g'.2.2.2.2 q).1) := by
  obtain ⟨a1, a2⟩ := hT.2.2.2.2.2 p hp
  obtain ⟨M', ow', n', bA', B', P', Cn', fl', a', len', sp', res, e1, e2, e3, e4, e5, e6, e7, e8, e9, hn⟩ := c_see a2 hk hkx hown had hl hsp
  refine ⟨M', (ow', a', len', sp', fup g.2.2.2.2 p (n', bA', B', P', Cn', fl')), res, e1, ?_, ?_, e4, tb_acc hp (x := (n', bA', B', P', Cn', fl')) e5, fun S hS => stf_fk a2 e6 hS, fun q hq => ?_, fun q hq => ?_⟩
  · have := tbs_step hT hp (x := (n', bA', B', P', Cn', fl')) e2 e6
    rw [fup_self] at this
    exact this
  · dsimp only
    rw [fup_eq]
    exact e3
  · dsimp only
    by_cases e : q = p
    · subst e; rw [fup_eq]; exact ⟨e9, e7⟩
    · rw [fup_ne e]; exact ⟨Nat.le_refl _, fun _ _ => rfl⟩
  · dsimp only
    by_cases e : q = p
    · subst e; rw [fup_eq]; exact hn
    · rw [fup_ne e]; exact Nat.le_refl _
/-- one is lost -/
theorem c_loseT (hT : TbsC M m N pa own T pf g) (hp : p < N) (hk : isK M kx) (hown : kyo (own p)) (had : w32 ad = ad) (hsp : g.2.2.2.1.length ≤ 40000) :
    ∃ (M' : MM) (g' : TG), f_X20_lose ((pa p + 10 : Nat) : Int) (kx : Int) ad M = some M' ∧ TbsC M' m N pa own (fup T p (loseT (own p) (ky (kC M kx)) ad (T p))) pf g' ∧ KL g.2.2.2.1.length g'.2.2.2.1.length (T p).length (loseT (own p) (ky (kC M kx)) ad (T p)).length ∧ (nN M' + tbN N T g ≤ nN M + tbN N (fup T p (loseT (own p) (ky (kC M kx)) ad (T p))) g' ∧ nU M' + tbU N m T g ≤ nU M + tbU N m (fup T p (loseT (own p) (ky (kC M kx)) ad (T p))) g') ∧ (∀ S : Nat → Bool, S 2 = true → FK S M M') ∧ bkMo M N g g' ∧ (∀ q, q < N → (g.2.2.2.2 q).1 = (g'.2.2.2.2 q).1) := by
  obtain ⟨a1, a2⟩ := hT.2.2.2.2.2 p hp
  obtain ⟨M', ow', P', Cn', a', len', sp', e1, e2, e4, e5, e6⟩ := c_lose a2 hk hown had hsp
  refine ⟨M', (ow', a', len', sp', fup g.2.2.2.2 p ((g.2.2.2.2 p).1, (g.2.2.2.2 p).2.1, (g.2.2.2.2 p).2.2.1, P', Cn', (g.2.2.2.2 p).2.2.2.2.2)), e1, ?_, e4, tb_acc hp (x := ((g.2.2.2.2 p).1, (g.2.2.2.2 p).2.1, (g.2.2.2.2 p).2.2.1, P', Cn', (g.2.2.2.2 p).2.2.2.2.2)) e5, fun S hS => stf_fk a2 e6 hS, fun q hq => ?_, fun q hq => ?_⟩
  · have := tbs_step hT hp (x := ((g.2.2.2.2 p).1, (g.2.2.2.2 p).2.1, (g.2.2.2.2 p).2.2.1, P', Cn', (g.2.2.2.2 p).2.2.2.2.2)) e2 e6
    rw [fup_self] at this
    exact this
  · dsimp only
    by_cases e : q = p
    · subst e; rw [fup_eq]; exact ⟨Nat.le_refl _, fun _ _ => rfl⟩
    · rw [fup_ne e]; exact ⟨Nat.le_refl _, fun _ _ => rfl⟩
  · dsimp only
    by_cases e : q = p
    · subst e; rw [fup_eq]
    · rw [fup_ne e]
/-- a table is cleared -/
theorem c_clearT (hT : TbsC M m N pa own T pf g) (hp : p < N) (hsp : g.2.2.2.1.length + (T p).length ≤ 40000) :
    ∃ (M' : MM) (g' : TG), f_X20_clear ((pa p + 10 : Nat) : Int) M = some M' ∧ TbsC M' m N pa own (fup T p []) (fup pf p (fun _ => false)) g' ∧ g'.2.2.2.1.length = g.2.2.2.1.length + (T p).length ∧ (nN M' + tbN N T g ≤ nN M + tbN N (fup T p []) g' ∧ nU M' + tbU N m T g ≤ nU M + tbU N m (fup T p []) g') ∧ (∀ S : Nat → Bool, S 2 = true → FK S M M') ∧ bkMo M N g g' ∧ (∀ q, q < N → q ≠ p → (g.2.2.2.2 q).1 = (g'.2.2.2.2 q).1) := by
  obtain ⟨a1, a2⟩ := hT.2.2.2.2.2 p hp
  obtain ⟨M', ow', P', Cn', fl', a', len', sp', e1, e2, e4, e5, e6⟩ := c_clear a2 hsp
  refine ⟨M', (ow', a', len', sp', fup g.2.2.2.2 p (1, (g.2.2.2.2 p).2.1, (g.2.2.2.2 p).2.2.1, P', Cn', fl')), e1, ?_, e4, tb_acc hp (x := (1, (g.2.2.2.2 p).2.1, (g.2.2.2.2 p).2.2.1, P', Cn', fl')) e5, fun S hS => stf_fk a2 e6 hS, fun q hq => ?_, fun q hq e => ?_⟩
  · exact tbs_step hT hp (x := (1, (g.2.2.2.2 p).2.1, (g.2.2.2.2 p).2.2.1, P', Cn', fl')) e2 e6
  · dsimp only
    by_cases e : q = p
    · subst e; rw [fup_eq]; exact ⟨Nat.le_refl _, fun _ _ => rfl⟩
    · rw [fup_ne e]; exact ⟨Nat.le_refl _, fun _ _ => rfl⟩
  · dsimp only
    rw [fup_ne e]
/-- a bucket's flag -/
theorem tt_flag {ow : Nat → Nat × Nat} {t ko n bA a len C : Nat} {own : Ky} {T : List Row} {pf : Nat → Bool} {B : Nat → Nat} {P : Nat → Bool → List Nat} {Cn : Nat → Bool → List (Ky × Int)} {fl : Nat → Int} {sp : List Nat} {v : Bool} (hT : TT M ow t ko m own T pf n bA B P Cn fl a len sp) (hC : C < n) (hv : v = true → C < n - 1 ∨ n = 160) : TT (sI M (B C) 2 (b2i v)) ow t ko m own T (fup pf C v) n bA B P Cn (fup fl C (b2i v)) a len sp ∧ StF M ow B bA t a (sI M (B C) 2 (b2i v)) ow a := by
  obtain ⟨⟨hu, hS, hown, hk38, hB, hP, hCn, hfl, hpool, hnd, hos, ht⟩, hn, h1, h2, h3, h4, h5⟩ := hT
  have hCb : C < bA := by omega
  have hb := (hB.2.1 C hCb).2.1
  have ex : Ex (fun q => q = B C) M (sI M (B C) 2 (b2i v)) := Ex.st rfl
  have k21 : (kd M (B C)).1 = 21 := by rw [hb.1]
  have ne : ∀ {q c}, (kd M q).1 = c → c ≠ 21 → ¬ (q = B C) := fun hq hc z => hc (by rw [← hq, z]; exact k21)
  refine ⟨⟨⟨(ExC_ex ex).un hu, ?_, ?_, hk38, ?_, ?_, ?_, ?_, ?_, hnd, hos, ht⟩, hn, h1, h2, ?_, h4, ?_⟩, (ExC_ex ex).exa.mono (fun q hq => Or.inl (Or.inr (Or.inr ⟨C, hCb, by omega, by omega⟩))), OwG.refl, Or.inl rfl⟩
  · obtain ⟨s1, s2, s3, s4, s5, s6, s7, s8, s9⟩ := hS
    exact ⟨s1, s2, s3, by rw [ex.rI (ne s1 (by decide))]; exact s4, s5, s6, s7, by rw [ex.rI (ne s1 (by decide))]; exact s8, s9⟩
  · have : kC (sI M (B C) 2 (b2i v)) ko = kC M ko := by
      funext i
      exact ex.rI (ne (c := 64) (by rw [hS.2.2.1.2.2]) (by decide)) i
    rw [this]; exact hown
  · exact hB
  · intro i b hi
    obtain ⟨r1, r2, r3⟩ := hP i b hi
    refine ⟨⟨r1.1, ?_, r1.2.2⟩, r2, r3⟩
    rw [ex.rI (ne r1.1.1 (by decide))]
    exact r1.2.1
  · intro i b hi
    rw [← hCn i b hi]
    refine List.map_congr_left (fun c hc => ?_)
    have hct := (hP i b hi).1.2.2.2.2.2 c hc
    exact ctc.ex ex (ne (c := 23) (by rw [hct.1]) (by decide)) (ne (c := 64) (by rw [show c + 2 = c + 1 + 1 from rfl, hct.2.2.2.2.2]) (by decide))
  · intro i hi
    rw [rI_sI]
    by_cases e : i = C
    · subst e
      rw [if_pos ⟨rfl, rfl⟩, fup_eq, w32_b2i]
    · rw [if_neg (fun z => e (hB.2.2.1 i C hi hCb z.1)), fup_ne e]
      exact hfl i hi
  · obtain ⟨p1, p2, p3, p4, p5⟩ := hpool
    exact ⟨p1, p2, p3, by rw [ex.rI (ne p1 (by decide))]; exact p4, p5⟩
  · intro i hi
    by_cases e : i = C
    · subst e; rw [fup_eq, fup_eq]
    · rw [fup_ne e, fup_ne e]; exact h3 i hi
  · intro hn2
    obtain ⟨o1, o2⟩ := h5 hn2
    refine ⟨o1, fun c hc => ?_⟩
    by_cases e : c = C
    · subst e
      rw [fup_eq]
      cases v with
      | false => rfl
      | true => have := hv rfl; omega
    · rw [fup_ne e]; exact o2 c hc
theorem c_flagT {C : Nat} {v : Bool} (hT : TbsC M m N pa own T pf g) (hp : p < N) (hC : C < (g.2.2.2.2 p).1) (hv : v = true → C < (g.2.2.2.2 p).1 - 1 ∨ (g.2.2.2.2 p).1 = 160) :
    ∃ (M' : MM) (g' : TG), pfz 21 2 (((g.2.2.2.2 p).2.2.1 C : Nat) : Int) (b2i v) M = some M' ∧ TbsC M' m N pa own T (fup pf p (fup (pf p) C v)) g' ∧ g'.2.2.2.1 = g.2.2.2.1 ∧ (nN M' = nN M ∧ nU M' = nU M ∧ tbN N T g' = tbN N T g ∧ tbU N m T g' = tbU N m T g) ∧ (∀ S : Nat → Bool, S 2 = true → FK S M M') ∧ bkMo M N g g' ∧ (∀ q, q < N → (g.2.2.2.2 q).1 = (g'.2.2.2.2 q).1) := by
  obtain ⟨a1, a2⟩ := hT.2.2.2.2.2 p hp
  obtain ⟨e2, e6⟩ := tt_flag (v := v) a2 hC hv
  have hb := (a2.1.2.2.2.2.1.2.1 C (by have := a2.2.1; omega)).2.1
  have e1 : pfz 21 2 (((g.2.2.2.2 p).2.2.1 C : Nat) : Int) (b2i v) M = some (sI M ((g.2.2.2.2 p).2.2.1 C) 2 (b2i v)) := pfz_e (by rw [hb.1]) (by cases v <;> simp [b2i])
  have es : ∀ q, (fup g.2.2.2.2 p ((g.2.2.2.2 p).1, (g.2.2.2.2 p).2.1, (g.2.2.2.2 p).2.2.1, (g.2.2.2.2 p).2.2.2.1, (g.2.2.2.2 p).2.2.2.2.1, fup (g.2.2.2.2 p).2.2.2.2.2 C (b2i v)) q).2.1 = (g.2.2.2.2 q).2.1 := by
    intro q
    by_cases e : q = p
    · subst e; rw [fup_eq]
    · rw [fup_ne e]
  refine ⟨_, (g.1, g.2.1, g.2.2.1, g.2.2.2.1, fup g.2.2.2.2 p ((g.2.2.2.2 p).1, (g.2.2.2.2 p).2.1, (g.2.2.2.2 p).2.2.1, (g.2.2.2.2 p).2.2.2.1, (g.2.2.2.2 p).2.2.2.2.1, fup (g.2.2.2.2 p).2.2.2.2.2 C (b2i v))), e1, ?_, rfl, ⟨rfl, rfl, ?_, ?_⟩, fun S hS => stf_fk a2 e6 hS, fun q hq => ?_, fun q hq => ?_⟩
  · have := tbs_step hT hp (x := ((g.2.2.2.2 p).1, (g.2.2.2.2 p).2.1, (g.2.2.2.2 p).2.2.1, (g.2.2.2.2 p).2.2.2.1, (g.2.2.2.2 p).2.2.2.2.1, fup (g.2.2.2.2 p).2.2.2.2.2 C (b2i v))) e2 e6
    rw [fup_self] at this
    exact this
  · unfold tbN
    dsimp only
    rw [sumN_congr N (fun i _ => es i)]
  · unfold tbU
    dsimp only
    rw [sumN_congr N (fun i _ => es i)]
  · dsimp only
    by_cases e : q = p
    · subst e; rw [fup_eq]; exact ⟨Nat.le_refl _, fun _ _ => rfl⟩
    · rw [fup_ne e]; exact ⟨Nat.le_refl _, fun _ _ => rfl⟩
  · dsimp only
    by_cases e : q = p
    · subst e; rw [fup_eq]
    · rw [fup_ne e]
end TBS2
