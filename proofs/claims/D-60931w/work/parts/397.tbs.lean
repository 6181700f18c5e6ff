/-! tables of all peers: what of the memory a table depends on -/
def TQ (t ko bA : Nat) (B : Nat → Nat) (P : Nat → Bool → List Nat) (a : Nat) (sp : List Nat) (q : Nat) : Prop :=
  q = t ∨ q = t + 1 ∨ q = ko ∨ q = ko + 1 ∨ (∃ i, i < bA ∧ B i ≤ q ∧ q ≤ B i + 4) ∨ q = 28 ∨ q = a ∨ ∃ c, (c ∈ sp ∨ ∃ i b, i < bA ∧ c ∈ P i b) ∧ c ≤ q ∧ q ≤ c + 2
section TBS
variable {M M1 M2 : MM} {S : Nat → Bool} {A : Nat → Prop} {ow ow1 ow2 : Nat → Nat × Nat} {t t' ko ko' m n n' bA bA' i j c k kx a a' len len' q : Nat} {own own' : Ky} {T T' : List Row} {pf pf' : Nat → Bool} {B B' : Nat → Nat} {P P' : Nat → Bool → List Nat} {Cn Cn' : Nat → Bool → List (Ky × Int)} {fl fl' : Nat → Int} {sp sp' : List Nat} {b : Bool}
theorem isK.exq (h : ExA A M M1) (hu : UN M) (h0 : ¬ A c) (hk : isK M c) : isK M1 c := h.isK hu h0 hk
theorem isRw.exa (h : ExA A M M1) (hu : UN M) {r : Nat} (h0 : ¬ A r) (hr : isRw M r m) : isRw M1 r m := by
  have hl := isRw_lt hu hr
  exact ⟨by rw [h.kd (by omega)]; exact hr.1, by rw [h.rR (by omega) h0]; exact hr.2.1, by rw [h.kd (by omega)]; exact hr.2.2⟩
theorem isBk_lt (hu : UN M) (h : isBk M c m) : c + 4 < nN M := by have := isRw_lt hu h.2.2.2.2; omega
theorem isBk.exa (h : ExA A M M1) (hu : UN M) (h0 : ∀ q, c ≤ q → q ≤ c + 4 → ¬ A q) (hb : isBk M c m) : isBk M1 c m := by
  have hl := isBk_lt hu hb
  exact ⟨by rw [h.kd (by omega)]; exact hb.1, by rw [h.rR (by omega) (h0 c (by omega) (by omega))]; exact hb.2.1, by rw [h.rR (by omega) (h0 c (by omega) (by omega))]; exact hb.2.2.1, hb.2.2.2.1.exa h hu (h0 _ (by omega) (by omega)), hb.2.2.2.2.exa h hu (h0 _ (by omega) (by omega))⟩
/-- a table and the pool stay where none of their cells changes -/
theorem pool_keep (h : ExA A M M1) (hu : UN M) (hp : PoolC M a len sp) (hA : ∀ q, (q = 28 ∨ q = a ∨ ∃ c, c ∈ sp ∧ c ≤ q ∧ q ≤ c + 2) → ¬ A q) : PoolC M1 a len sp :=
  hp.exa h hu (hA _ (Or.inl rfl)) (hA _ (Or.inr (Or.inl rfl))) (fun c hc => ⟨hA _ (Or.inr (Or.inr ⟨c, hc, by omega, by omega⟩)), hA _ (Or.inr (Or.inr ⟨c, hc, by omega, by omega⟩))⟩)
theorem tabS_lt (hu : UN M) (h : TabS M t ko m n) : t + 1 < nN M ∧ ko + 1 < nN M :=
  ⟨hu.lt (by rw [h.2.2.2.2.2.2.1]; decide), isK_lt hu h.2.2.1⟩
/-- but for the pool -/
theorem tt_keep' (h : ExA A M M1) (hT : TT M ow t ko m own T pf n bA B P Cn fl a len sp) (hA : ∀ q, (q = t ∨ q = t + 1 ∨ q = ko ∨ q = ko + 1 ∨ (∃ i, i < bA ∧ B i ≤ q ∧ q ≤ B i + 4) ∨ ∃ c i b, i < bA ∧ c ∈ P i b ∧ c ≤ q ∧ q ≤ c + 2) → ¬ A q) (hp : PoolC M1 a' len' sp') (hnd : sp'.Nodup) (how : ∀ z, z < nN M → (ow z).1 = t → ow1 z = ow z) (hos : ∀ c, c ∈ sp' → ow1 c = (28, 28)) : TT M1 ow1 t ko m own T pf n bA B P Cn fl a' len' sp' := by
  obtain ⟨⟨hu, hS, hown, hk38, hB, hP, hCn, hfl, hpool, _, _, ht⟩, hn, h1, h2, h3, h4, h5⟩ := hT
  have hSl := tabS_lt hu hS
  have hkd : ∀ {q}, q < nN M → kd M1 q = kd M q := fun hq => h.kd hq
  have hct : ∀ i b c, i < bA → c ∈ P i b → isCt M1 c ∧ ctc M1 c = ctc M c := by
    intro i b c hi hc
    have hct := (hP i b hi).1.2.2.2.2.2 c hc
    have hq : ∀ q, c ≤ q → q ≤ c + 2 → ¬ A q := fun q q1 q2 => hA q (Or.inr (Or.inr (Or.inr (Or.inr (Or.inr ⟨c, i, b, hi, hc, q1, q2⟩)))))
    exact ⟨hct.exa h hu (hq _ (by omega) (by omega)) (hq _ (by omega) (by omega)), ctc.exa h hu hct (hq _ (by omega) (by omega)) (hq _ (by omega) (by omega))⟩
  have hBq : ∀ i q, i < bA → B i ≤ q → q ≤ B i + 4 → ¬ A q := fun i q hi q1 q2 => hA q (Or.inr (Or.inr (Or.inr (Or.inr (Or.inl ⟨i, hi, q1, q2⟩)))))
  have hbl : ∀ i, i < bA → B i + 4 < nN M := fun i hi => isBk_lt hu (hB.2.1 i hi).2.1
  have hrl : ∀ i b, rwA B i b = B i + 3 ∨ rwA B i b = B i + 1 := by intro i b; unfold rwA; split <;> simp
  refine ⟨⟨h.2.1 hu, ?_, ?_, by rw [hkd (by omega)]; exact hk38, ?_, ?_, ?_, ?_, hp, hnd, hos, ht⟩, hn, h1, h2, h3, h4, h5⟩
  · obtain ⟨s1, s2, s3, s4, s5, s6, s7, s8, s9, s10⟩ := hS
    have ht0 : ¬ A t := hA t (Or.inl rfl)
    exact ⟨by rw [hkd (by omega)]; exact s1, by rw [h.rR (by omega) ht0]; exact s2, h.isK hu (hA ko (by simp)) s3, by rw [h.rI (by omega) ht0]; exact s4, by rw [h.rR (by omega) ht0]; exact s5, by rw [h.rR (by omega) ht0]; exact s6, by rw [hkd (by omega)]; exact s7, by rw [h.rI (by omega) ht0]; exact s8, s9, s10⟩
  · rw [h.kC (by omega) (hA _ (by simp))]; exact hown
  · refine ⟨hB.1, fun i hi => ⟨?_, (hB.2.1 i hi).2.1.exa h hu (fun q q1 q2 => hBq i q hi q1 q2), ?_⟩, hB.2.2.1, fun i h1 h2 => ?_⟩
    · rw [h.rR (by omega) (hA (t + 1) (Or.inr (Or.inl rfl)))]; exact (hB.2.1 i hi).1
    · have := (hB.2.1 i hi).2.2
      rw [how (B i) (by have := hbl i hi; omega) (by rw [this])]; exact this
    · rw [h.rR (by omega) (hA (t + 1) (Or.inr (Or.inl rfl)))]; exact hB.2.2.2 i h1 h2
  · intro i b hi
    obtain ⟨r1, r2, r3⟩ := hP i b hi
    have hb := hbl i hi
    have hr := hrl i b
    refine ⟨r1.exa h hu (hBq i _ hi (by omega) (by omega)) (hBq i _ hi (by omega) (by omega)) (fun c hc => ?_), r2, fun c hc => ?_⟩
    · have hq : ∀ q, c ≤ q → q ≤ c + 2 → ¬ A q := fun q q1 q2 => hA q (Or.inr (Or.inr (Or.inr (Or.inr (Or.inr ⟨c, i, b, hi, hc, q1, q2⟩)))))
      exact ⟨hq _ (by omega) (by omega), hq _ (by omega) (by omega)⟩
    · have hc2 := isCt_lt hu (r1.2.2.2.2.2 c hc)
      rw [how c (by omega) (by rw [r3 c hc])]
      exact r3 c hc
  · intro i b hi
    rw [← hCn i b hi]
    exact List.map_congr_left (fun c hc => (hct i b c hi hc).2)
  · intro i hi
    rw [h.rI (by have := hbl i hi; omega) (hBq i _ hi (by omega) (by omega))]
    exact hfl i hi
theorem tt_keep (h : ExA A M M1) (hT : TT M ow t ko m own T pf n bA B P Cn fl a len sp) (hA : ∀ q, TQ t ko bA B P a sp q → ¬ A q) : TT M1 ow t ko m own T pf n bA B P Cn fl a len sp := by
  refine tt_keep' h hT (fun q hq => hA q ?_) (pool_keep h hT.1.1 hT.1.2.2.2.2.2.2.2.2.1 (fun q hq => hA q ?_)) hT.1.2.2.2.2.2.2.2.2.2.1 (fun _ _ _ => rfl) hT.1.2.2.2.2.2.2.2.2.2.2.1
  · rcases hq with h | h | h | h | h | ⟨c, i, b, h1, h2, h3⟩
    · exact Or.inl h
    · exact Or.inr (Or.inl h)
    · exact Or.inr (Or.inr (Or.inl h))
    · exact Or.inr (Or.inr (Or.inr (Or.inl h)))
    · exact Or.inr (Or.inr (Or.inr (Or.inr (Or.inl h))))
    · exact Or.inr (Or.inr (Or.inr (Or.inr (Or.inr (Or.inr (Or.inr ⟨c, Or.inr ⟨i, b, h1, h2⟩, h3⟩))))))
  · rcases hq with h | h | ⟨c, h1, h2⟩
    · exact Or.inr (Or.inr (Or.inr (Or.inr (Or.inr (Or.inl h)))))
    · exact Or.inr (Or.inr (Or.inr (Or.inr (Or.inr (Or.inr (Or.inl h))))))
    · exact Or.inr (Or.inr (Or.inr (Or.inr (Or.inr (Or.inr (Or.inr ⟨c, Or.inl h1, h2⟩))))))
/-- modules of the cells of a table -/
theorem rw_mo {r : Nat} (h : isRw M r m) : mo M r = 2 ∧ mo M (r + 1) = 2 := ⟨mo_cl1 h.1 (by decide) (by decide), mo_ar h.2.2 (by decide) (by decide)⟩
theorem bk_mo (h : isBk M c m) (h1 : c ≤ q) (h2 : q ≤ c + 4) : mo M q = 2 := by
  have e : q = c ∨ q = c + 1 ∨ q = c + 1 + 1 ∨ q = c + 3 ∨ q = c + 3 + 1 := by omega
  rcases e with e | e | e | e | e <;> subst e
  · exact mo_cl1 (c := 21) (by rw [h.1]) (by decide) (by decide)
  · exact (rw_mo h.2.2.2.1).1
  · exact (rw_mo h.2.2.2.1).2
  · exact (rw_mo h.2.2.2.2).1
  · exact (rw_mo h.2.2.2.2).2
theorem ct_mo (h : isCt M c) (h1 : c ≤ q) (h2 : q ≤ c + 2) : mo M q = 2 := by
  have e : q = c ∨ q = c + 1 ∨ q = c + 1 + 1 := by omega
  rcases e with e | e | e <;> subst e
  · exact mo_cl1 (c := 23) (by rw [h.1]) (by decide) (by decide)
  · exact mo_cl h.2.2.1 (by decide) (by decide)
  · exact mo_kw h.2.2.2.2.2 (Or.inl rfl) h.2.2.1 (by decide) (by decide)
theorem pool_mo (h : PoolC M a len sp) : mo M 28 = 2 ∧ mo M a = 2 := by
  refine ⟨mo_cl1 h.1 (by decide) (by decide), ?_⟩
  rcases h.2.2.1 with e | e
  · exact mo_ar e (by decide) (by decide)
  · exact mo_ar e (by decide) (by decide)
theorem tt_mo (hT : TT M ow t ko m own T pf n bA B P Cn fl a len sp) (hko : kd M ko = (3, 41)) (hq : TQ t ko bA B P a sp q) : mo M q = 2 ∨ mo M q = 10 := by
  obtain ⟨⟨hu, hS, hown, hk38, hB, hP, hCn, hfl, hpool, _, _, ht⟩, _⟩ := hT
  rcases hq with h | h | h | h | ⟨i, h1, h2, h3⟩ | h | h | ⟨c, h1, h2, h3⟩
  · subst h; exact Or.inl (mo_cl1 hS.1 (by decide) (by decide))
  · subst h; exact Or.inl (mo_ar hS.2.2.2.2.2.2.1 (by decide) (by decide))
  · subst h; exact Or.inr (mo_cl hko (by decide) (by decide))
  · subst h; exact Or.inr (mo_kw hS.2.2.1.2.2 (Or.inl rfl) hko (by decide) (by decide))
  · exact Or.inl (bk_mo (hB.2.1 i h1).2.1 h2 h3)
  · subst h; exact Or.inl (pool_mo hpool).1
  · subst h; exact Or.inl (pool_mo hpool).2
  · rcases h1 with h1 | ⟨i, b, h4, h5⟩
    · exact Or.inl (ct_mo (hpool.2.2.2.2.2.2.2 c h1) h2 h3)
    · exact Or.inl (ct_mo ((hP i b h4).1.2.2.2.2.2 c h5) h2 h3)
theorem tt_fk (h : FK S M M1) (hs : S 2 = false ∧ S 10 = false) (hT : TT M ow t ko m own T pf n bA B P Cn fl a len sp) (hko : kd M ko = (3, 41)) : TT M1 ow t ko m own T pf n bA B P Cn fl a len sp := by
  refine tt_keep h hT (fun q hq z => ?_)
  have z : S (mo M q) = true := z
  rcases tt_mo hT hko hq with e | e
  · rw [e, hs.1] at z; exact absurd z (by decide)
  · rw [e, hs.2] at z; exact absurd z (by decide)
/-- what steps of a table write is of the module of tables -/
theorem a5_mo (hT : TT M ow t ko m own T pf n bA B P Cn fl a len sp) (hq : A5 M ow B bA t a q) : mo M q = 2 := by
  obtain ⟨⟨hu, hS, hown, hk38, hB, hP, hCn, hfl, hpool, _, _, ht⟩, _⟩ := hT
  rcases hq with h | h | h | h | ⟨c, e, h1, h2, h3, _⟩
  · rcases h with h | h | ⟨i, h1, h2, h3⟩
    · subst h; exact mo_cl1 hS.1 (by decide) (by decide)
    · subst h; exact mo_ar hS.2.2.2.2.2.2.1 (by decide) (by decide)
    · exact bk_mo (hB.2.1 i h1).2.1 h2 h3
  · subst h; exact (pool_mo hpool).1
  · subst h; exact (pool_mo hpool).2
  · exact mo_cl1 (c := 23) (by rw [h.1]) (by decide) (by decide)
  · subst e
    exact mo_kw (q := c + 1) h3 (Or.inl rfl) h2 (by decide) (by decide)
theorem stf_fk (hT : TT M ow t ko m own T pf n bA B P Cn fl a len sp) (h : StF M ow B bA t a M1 ow1 a') (hs : S 2 = true) : FK S M M1 := FK_exa h.1 (fun q _ hq => by rw [a5_mo hT hq]; exact hs)
/-- kinds of a bucket's cells -/
theorem bk_kinds (h : isBk M c m) (h1 : c ≤ q) (h2 : q ≤ c + 4) : (q = c ∧ (kd M q).1 = 21) ∨ ((q = c + 1 ∨ q = c + 3) ∧ (kd M q).1 = 22) ∨ ((q = c + 2 ∨ q = c + 4) ∧ (kd M q).1 = 486) := by
  have e : q = c ∨ q = c + 1 ∨ q = c + 1 + 1 ∨ q = c + 3 ∨ q = c + 3 + 1 := by omega
  rcases e with e | e | e | e | e <;> subst e
  · exact Or.inl ⟨rfl, by rw [h.1]⟩
  · exact Or.inr (Or.inl ⟨Or.inl rfl, h.2.2.2.1.1⟩)
  · exact Or.inr (Or.inr ⟨Or.inl rfl, by rw [h.2.2.2.1.2.2]⟩)
  · exact Or.inr (Or.inl ⟨Or.inr rfl, h.2.2.2.2.1⟩)
  · exact Or.inr (Or.inr ⟨Or.inr rfl, by rw [h.2.2.2.2.2.2]⟩)
/-- a bucket's cells have their own bucket alone -/
theorem bk_same {c' : Nat} (h : isBk M c m) (h' : isBk M c' m) (h1 : c ≤ q) (h2 : q ≤ c + 4) (h3 : c' ≤ q) (h4 : q ≤ c' + 4) : c = c' := by
  have k1 : ∀ z, c ≤ z → z ≤ c + 4 → _ := fun z => bk_kinds h (q := z)
  have k2 : ∀ z, c' ≤ z → z ≤ c' + 4 → _ := fun z => bk_kinds h' (q := z)
  rcases Nat.lt_trichotomy c c' with hl | hl | hl
  · have a1 := k1 c' (by omega) (by omega)
    have a2 := k2 c' (by omega) (by omega)
    omega
  · exact hl
  · have a1 := k1 c (by omega) (by omega)
    have a2 := k2 c (by omega) (by omega)
    omega
/-- a step of one table is nothing to another -/
theorem tt_other (hT : TT M ow t ko m own T pf n bA B P Cn fl a len sp) (hT' : TT M ow t' ko' m own' T' pf' n' bA' B' P' Cn' fl' a len sp) (hne : t' ≠ t) (h : StF M ow B bA t a M1 ow1 a') (hp : PoolC M1 a' len' sp') (hnd : sp'.Nodup) (hos : ∀ c, c ∈ sp' → ow1 c = (28, 28)) : TT M1 ow1 t' ko' m own' T' pf' n' bA' B' P' Cn' fl' a' len' sp' := by
  obtain ⟨⟨hu, hS, hown, hk38, hB, hP, hCn, hfl, hpool, _, _, ht⟩, _⟩ := hT
  refine tt_keep' h.1 hT' (fun q hq hA => ?_) hp hnd (fun z hz hz2 => (h.2.1 z hz).1 (by rw [hz2]; exact hne) (by rw [hz2]; exact hT'.1.2.2.2.2.2.2.2.2.2.2.2)) hos
  obtain ⟨⟨_, hS', hown', hk38', hB', hP', hCn', hfl', _, _, _, ht'⟩, _⟩ := hT'
  have e9 : (kd M 28).1 = 9 := hpool.1
  have ea : (kd M a).1 = 166 ∨ (kd M a).1 = 470 := by rcases hpool.2.2.1 with e | e <;> rw [e] <;> simp
  have et : (kd M t).1 = 20 := hS.1
  have et1 : (kd M (t + 1)).1 = 588 := by rw [hS.2.2.2.2.2.2.1]
  have es : (kd M t').1 = 20 := hS'.1
  have es1 : (kd M (t' + 1)).1 = 588 := by rw [hS'.2.2.2.2.2.2.1]
  have ek : (kd M ko').1 = 3 := hS'.2.2.1.1
  have ek1 : (kd M (ko' + 1)).1 = 64 := by rw [hS'.2.2.1.2.2]
  -- kinds of what is written
  have hA' : (q = t ∨ q = t + 1 ∨ q = 28 ∨ q = a) ∨ (∃ i, i < bA ∧ B i ≤ q ∧ q ≤ B i + 4) ∨ ((kd M q).1 = 23 ∧ ((ow q).1 = t ∨ (ow q).1 = 28)) ∨ ∃ c, q = c + 2 ∧ (kd M c).1 = 23 ∧ (kd M (c + 1)) = (3, 38) ∧ (kd M (c + 2)).1 = 64 ∧ ((ow c).1 = t ∨ (ow c).1 = 28) := by
    rcases hA with (h | h | h) | h | h | ⟨h1, h2⟩ | ⟨c, h1, h2, h3, h4, h5⟩
    · exact Or.inl (Or.inl h)
    · exact Or.inl (Or.inr (Or.inl h))
    · exact Or.inr (Or.inl h)
    · exact Or.inl (Or.inr (Or.inr (Or.inl h)))
    · exact Or.inl (Or.inr (Or.inr (Or.inr h)))
    · exact Or.inr (Or.inr (Or.inl ⟨by rw [h1], h2⟩))
    · exact Or.inr (Or.inr (Or.inr ⟨c, h1, by rw [h2], h3, by rw [h4], h5⟩))
  have hw : (kd M q).1 = 20 ∨ (kd M q).1 = 588 ∨ (kd M q).1 = 9 ∨ (kd M q).1 = 166 ∨ (kd M q).1 = 470 ∨ (kd M q).1 = 21 ∨ (kd M q).1 = 22 ∨ (kd M q).1 = 486 ∨ (kd M q).1 = 23 ∨ (kd M q).1 = 64 := by
    rcases hA' with (h | h | h | h) | ⟨i, h1, h2, h3⟩ | h | ⟨c, h1, _, _, h4, _⟩
    · subst h; omega
    · subst h; omega
    · subst h; omega
    · subst h; omega
    · have := bk_kinds (hB.2.1 i h1).2.1 h2 h3; omega
    · omega
    · subst h1; omega
  rcases hq with h | h | h | h | ⟨i, h1, h2, h3⟩ | ⟨c, i, b, h1, h2, h3, h4⟩
  · subst h
    rcases hA' with (h | h | h | h) | ⟨i, h1, h2, h3⟩ | h | ⟨c, h1, _, _, h4, _⟩
    · exact hne h
    · subst h; omega
    · subst h; omega
    · subst h; omega
    · have := bk_kinds (hB.2.1 i h1).2.1 h2 h3; omega
    · omega
    · subst h1; omega
  · subst h
    rcases hA' with (h | h | h | h) | ⟨i, h1, h2, h3⟩ | h | ⟨c, h1, _, _, h4, _⟩
    · subst h; omega
    · omega
    · rw [h] at es1; omega
    · rw [h] at es1; omega
    · have := bk_kinds (hB.2.1 i h1).2.1 h2 h3; omega
    · omega
    · rw [h1] at es1; omega
  · subst h; omega
  · subst h
    rcases hA' with (h | h | h | h) | ⟨i, h1, h2, h3⟩ | h | ⟨c, h1, _, h5, h4, _⟩
    · subst h; omega
    · rw [h] at ek1; omega
    · rw [h] at ek1; omega
    · rw [h] at ek1; omega
    · have := bk_kinds (hB.2.1 i h1).2.1 h2 h3; omega
    · omega
    · have : ko' = c + 1 := by omega
      rw [this, h5] at hk38'
      exact hk38' rfl
  · have hb' := (hB'.2.1 i h1).2
    have hk := bk_kinds hb'.1 h2 h3
    rcases hA' with (h | h | h | h) | ⟨i', g1, g2, g3⟩ | h | ⟨c, g1, _, _, g4, _⟩
    · subst h; omega
    · subst h; omega
    · subst h; omega
    · subst h; omega
    · have hb := (hB.2.1 i' g1).2
      have e := bk_same hb.1 hb'.1 g2 g3 h2 h3
      have : (t, 0) = (t', 0) := by rw [← hb.2, ← hb'.2, e]
      exact hne (Prod.mk.inj this).1.symm
    · omega
    · subst g1; omega
  · have hc := (hP' i b h1).1.2.2.2.2.2 c h2
    have ho := (hP' i b h1).2.2 c h2
    have o1 : (ow c).1 = t' := by rw [ho]
    have e : q = c ∨ q = c + 1 ∨ q = c + 2 := by omega
    have c0 : (kd M c).1 = 23 := by rw [hc.1]
    have c1 : (kd M (c + 1)).1 = 3 := by rw [hc.2.2.1]
    have c2 : (kd M (c + 2)).1 = 64 := by rw [show c + 2 = c + 1 + 1 from rfl, hc.2.2.2.2.2]
    rcases e with e | e | e
    · subst e
      rcases hA' with (h | h | h | h) | ⟨i', g1, g2, g3⟩ | h | ⟨c, g1, _, _, g4, _⟩
      · subst h; omega
      · subst h; omega
      · subst h; omega
      · subst h; omega
      · have := bk_kinds (hB.2.1 i' g1).2.1 g2 g3; omega
      · rcases h.2 with h | h <;> rw [o1] at h
        · exact hne h
        · exact ht' h
      · rw [g1] at c0; omega
    · subst e; omega
    · subst e
      rcases hA' with (h | h | h | h) | ⟨i', g1, g2, g3⟩ | h | ⟨c', g1, _, _, g4, g5⟩
      · rw [h] at c2; omega
      · rw [h] at c2; omega
      · rw [h] at c2; omega
      · rw [h] at c2; omega
      · have := bk_kinds (hB.2.1 i' g1).2.1 g2 g3; omega
      · omega
      · have : c' = c := by omega
        subst this
        rw [o1] at g5
        rcases g5 with g5 | g5
        · exact hne g5
        · exact ht' g5
end TBS
