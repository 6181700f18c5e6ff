/-! works of the class: all that comes of an answer -/
def F11 : Nat → Bool := fun z => z == 1 || z == 3 || z == 5 || z == 6 || z == 7 || z == 11 || z == 12 || z == 13 || z == 14
def CW (M : MM) (m al N : Nat) (pa : Nat → Nat) (own : Nat → Ky) (sd ps sn pu rf : Nat → Int) (tm : Int) (lf : Nat → Nat) (b0 : Nat × Nat) (eg : EG) (tk : Nat → Nat) (pb as : Nat → Option Nat) (nb : Nat) (mn : Nat → Int) (fa : Nat → Nat) (Lb : Nat → List Trm) (LA : Nat → List Nat) (dn sto : Nat → Int) (Y : Ys) (h : Gh) : Prop :=
  CQ M m al N pa own sd ps sn pu rf tm lf b0 eg tk pb as nb mn fa Lb LA dn sto Y h ∧ AsksC M (12 + N) as (ys Y) (yq Y)
/-- what a run of a work leaves -/
def RW (r : Option MM) (M : MM) (m al N : Nat) (pa : Nat → Nat) (own : Nat → Ky) (sd ps sn pu rf : Nat → Int) (tm : Int) (lf : Nat → Nat) (b0 : Nat × Nat) (tk : Nat → Nat) (pb as : Nat → Option Nat) (nb : Nat) (Lb : Nat → List Trm) (LA : Nat → List Nat) (dn : Nat → Int) (t F : Nat) (Y' : Ys) : Prop :=
  ∃ M' h' lf' eg' mn' sto' fa' b0', r = some M' ∧ CW M' m al N pa own sd ps sn pu rf tm lf' b0' eg' tk pb as nb mn' fa' Lb LA dn sto' Y' h' ∧ FK F11 M M' ∧ ((∀ z, z ≠ t → lf' z = lf z) ∧ lf t ≤ lf' t ∧ lf' t + 2 * mu own Y' t ≤ F) ∧ BS b0 b0' Y' t
section CANSW
variable {S : Nat → Bool} {M M1 M2 : MM} {m al N p t nb n Q pk k kx oth F : Nat} {pa tk : Nat → Nat} {own : Nat → Ky} {sd ps sn pu rf : Nat → Int} {tm how : Int} {lf : Nat → Nat} {b0 : Nat × Nat} {h : Gh} {eg : EG} {pb as : Nat → Option Nat} {mn sto : Nat → Int} {fa : Nat → Nat} {Y Y1 Yx Yf : Ys} {l l' : List Int} {Lb : Nat → List Trm} {LA : Nat → List Nat} {dn : Nat → Int} {ev : Nat → Nat} {r : Option MM} {key : Ky}
theorem F8_11 : ∀ z, F8 z = true → F11 z = true := fun z hz => by
  unfold F8 at hz
  simp only [Bool.or_eq_true, beq_iff_eq] at hz
  rcases hz with ((((((e | e) | e) | e) | e) | e) | e) | e <;> rw [e] <;> rfl
theorem F10_11 : ∀ z, F10 z = true → F11 z = true := fun z hz => by
  unfold F10 at hz
  simp only [Bool.or_eq_true, beq_iff_eq] at hz
  rcases hz with ((((((e | e) | e) | e) | e) | e) | e) | e <;> rw [e] <;> rfl
/-- queries all: one has run -/
theorem Asks_xr {T : Nat} (hu : UN M) (ht : t < T) (hQ : as t = some Q) (h : AsksC M T as (ys Y) (yq Y)) (hx : XR Q M M1) (f : FT t Y Y1) (h3 : ∀ t, t < T → yv Y 226 t ≠ 0 → yv Y 227 t = 3 → yv Y 247 t ≤ 3) (hF : yv Y1 226 t ≠ 0 → AsF M1 Q (ys Y1) (yq Y1) t) : AsksC M1 T as (ys Y1) (yq Y1) := ⟨fun t' ht' Q' hQ' => by
  obtain ⟨a1, a2⟩ := h.1 t' ht' Q' hQ'
  have S1 : AsS M1 Q' := AsS_xr hu a1 hx
  refine ⟨S1, fun z1 z2 => ?_⟩
  by_cases c : t' = t
  · rw [c] at hQ' z1 ⊢
    rw [hQ] at hQ'
    rw [← Option.some.inj hQ']
    exact hF z1
  · obtain ⟨b1, _⟩ := h.1 t ht Q hQ
    have nQ : Q' ≠ Q := fun e => c (h.2 t' t ht' ht (by rw [hQ']; simp) (by rw [hQ', hQ, e]))
    have hl := AsS_lt hu a1
    have g : ∀ a, (226 ≤ a ∧ a ≤ 264 ∧ a ≠ 250 ∧ a ≠ 252) → vI (ys Y1) a t' = vI (ys Y) a t' := fun a y => f.2.2.1 a t' (by unfold wrT; omega)
    rw [g 226 (by omega)] at z1
    rw [g 227 (by omega)] at z2
    exact AsF_ag (a2 z1 z2) S1 (fun z i hz => (hx.2 z (by unfold AQs at hz; omega) (AQ_mo a1 hz)).2 (AQ_ap b1 a1 nQ hz) i) (fun a y => g a (by omega)) (fun i hi => ⟨f.2.2.1 250 _ (by unfold wrT; omega), f.2.2.1 252 _ (by unfold wrT; omega)⟩) (h3 t' ht' z1 z2) (f.2.2.2.2.1 t' c) (fun i hi => ⟨by rw [f.2.2.2.2.2.1], f.2.2.2.2.2.2.1 _ (by omega)⟩), h.2⟩
/-- a query has run -/
theorem QR_RW (hW : CW M m al N pa own sd ps sn pu rf tm lf b0 eg tk pb as nb mn fa Lb LA dn sto Y h) (h3 : ∀ t, t < 12 + N → yv Y 226 t ≠ 0 → yv Y 227 t = 3 → yv Y 247 t ≤ 3) (ht : t < 12) (hQ : as t = some Q) (hgo : yv Y 226 t ≠ 0) (hk3 : yv Y 227 t = 3) (f : FT t Y Y1) (hg : QR r M m al N pa own sd ps sn pu rf tm lf b0 tk pb as nb Q t Yx Y1) (hF : lf t + 2 * mu own Yx t + 1 ≤ F) : RW r M m al N pa own sd ps sn pu rf tm lf b0 tk pb as nb Lb LA dn t F Y1 := by
  obtain ⟨⟨hC, hPub, hLb, hrec, hmn, hst⟩, hA⟩ := hW
  obtain ⟨M', h', lf', eg', mn', fa', b0', a1, a2, a3, a4, a5, a6, a7⟩ := hg
  have hu := hC.2.1.1
  have nk : yv Y 227 t ≠ 2 := by rw [hk3]; decide
  refine ⟨M', h', lf', eg', mn', sto, fa', b0', a1, ⟨⟨a2, Pubs_ft (Pubs_fk a3.1 hu rfl hPub) nk f, Libs_fk a3.1 hu rfl hLb, rec_ft hrec f (fun _ => hgo), a6, fun t' h12 z1 z2 => ?_⟩, Asks_xr hu (by omega) hQ hA a3 f h3 a4⟩, a3.1.mono F10_11, ⟨a5.1, a5.2.1, by omega⟩, a7⟩
  by_cases e : t' = t
  · rw [e, f.2.2.2.1.1, hk3] at z2; exact absurd z2 (by decide)
  · exact sto_ft hst hrec hgo f (Or.inl ht) t' e h12 z1 z2
/-- a work other than a query has run -/
theorem CQ_RW {M' : MM} {h' : Gh} {lf' : Nat → Nat} {eg' : EG} {mn' sto' : Nat → Int} {fa' : Nat → Nat} {b0' : Nat × Nat} (hW : CW M m al N pa own sd ps sn pu rf tm lf b0 eg tk pb as nb mn fa Lb LA dn sto Y h) (h3 : ∀ t, t < 12 + N → yv Y 226 t ≠ 0 → yv Y 227 t = 3 → yv Y 247 t ≤ 3) (hk : yv Y 227 t ≠ 3) (f : FT t Y Y1) (e : r = some M') (hC : CQ M' m al N pa own sd ps sn pu rf tm lf' b0' eg' tk pb as nb mn' fa' Lb LA dn sto' Y1 h') (fk : FK F8 M M') (hl : (∀ z, z ≠ t → lf' z = lf z) ∧ lf t ≤ lf' t ∧ lf' t + 2 * mu own Y1 t ≤ F) (hb : BS b0 b0' Y1 t) : RW r M m al N pa own sd ps sn pu rf tm lf b0 tk pb as nb Lb LA dn t F Y1 :=
  ⟨M', h', lf', eg', mn', sto', fa', b0', e, ⟨hC, Asks_ft (Asks_fk fk hW.1.1.2.1.1 rfl h3 hW.2) f (fun _ => hk) h3⟩, fk.mono F8_11, hl, hb⟩
/-- a lookup of a work goes on -/
theorem c_goW (hB : bdg N ev oth) (hal : al ≤ 8) (ht : t < 12 + N) (hN : 12 + N ≤ 44) (hW : CW M m al N pa own sd ps sn pu rf tm lf b0 eg tk pb as nb mn fa Lb LA dn sto Y h) (h3 : ∀ t, t < 12 + N → yv Y 226 t ≠ 0 → yv Y 227 t = 3 → yv Y 247 t ≤ 3) (hgo : yv Y 226 t ≠ 0) (h1 : yv Y 230 t = 1) (hR : RunP (fun Y => LI N own Lb Y t ∧ sdY m N own tm Lb ev Y) m al N own sd tm Lb t n Y) (hmu : mu own Y t < n) (hmu2 : mu own Y t ≤ 1410) (hlf : lf t + 2 * mu own Y t + 4 < 2147483648) : RW (f_X11_goOn ((wa pa t : Nat) : Int) M) M m al N pa own sd ps sn pu rf tm lf b0 tk pb as nb Lb LA dn t (lf t + 2 * mu own Y t + 1) (prY m al N own sd tm Lb t n Y) := by
  have t44 : t < 44 := by omega
  obtain ⟨f, _, _⟩ := run_ft t44 n Y hR
  by_cases k3 : yv Y 227 t = 3
  · obtain ⟨hLI, hsd⟩ : LI N own Lb Y t ∧ sdY m N own tm Lb ev Y := by
      cases n with
      | zero => exact hR.elim
      | succ n => exact hR.1
    have ht12 : t < 12 := by
      have := (wOK_hd hLI.1 hgo).2
      rcases this with z | z | z | z
      · omega
      · exact z.2.2
      · omega
      · exact z.2.1
    obtain ⟨⟨hC, hPub, hLb, hrec, hmn, hst⟩, hA⟩ := id hW
    obtain ⟨Q, hQ⟩ : ∃ Q, as t = some Q := by
      have := (((hC.2.2.1 t ht).2.2.2 hgo).2.2.2.2.2 k3).2
      cases h : as t with
      | none => exact absurd h this
      | some Q => exact ⟨Q, rfl⟩
    obtain ⟨hS, hF⟩ := hA.1 t ht Q hQ
    exact QR_RW hW h3 ht12 hQ hgo k3 f (c_goOn3 hB hal ht12 hN hQ n M Y h lf eg FU hC hS (hF hgo k3) hmn hrec hgo h1 k3 hR hmu (by unfold FU; omega) hlf) (Nat.le_refl _)
  · obtain ⟨M', h', lf', eg', mn', sto', fa', b0', a1, a2, a3, a4, a5, a6, a7⟩ := c_goOn hB hal ht hN n M Y h lf eg mn sto fa FU hW.1 hgo h1 k3 hR hmu (by unfold FU; omega) hlf
    exact CQ_RW hW h3 k3 f a1 a2 a3 ⟨a4, a5, by omega⟩ a7
end CANSW
