/-! a work starts with a lookup: the class -/
section CSTL
variable {S : Nat → Bool} {M M5 : MM} {V W sc : VV} {m al N p t t' nb oth Z L k K kx n P lim r : Nat} {pa tk : Nat → Nat} {own : Nat → Ky} {sd ps sn pu rf : Nat → Int} {tm kind : Int} {lf : Nat → Nat} {b b0 B : Nat × Nat} {h h' : Gh} {eg : EG} {pb as : Nat → Option Nat} {mn sto : Nat → Int} {fa : Nat → Nat} {Y Yo Y1 : Ys} {Lb : Nat → List Trm} {LA : Nat → List Nat} {dn : Nat → Int} {sk : Bool}
theorem c_startL (hW : CW M m al N pa own sd ps sn pu rf tm lf b0 eg tk pb as nb mn fa Lb LA dn sto Y h) (h3 : ∀ t, t < 12 + N → yv Y 226 t ≠ 0 → yv Y 227 t = 3 → yv Y 247 t ≤ 3) (ho : okW N own tm (yw Y)) (ht : t < 12 + N)
    (hx : ExA (A12 (wa pa t)) M M5) (hnn : nN M5 = nN M ∧ nU M5 = nU M) (hr : ∀ i, i = 0 ∨ i = 1 ∨ i = 7 ∨ i = 8 ∨ i = 9 → rR M5 (wa pa t) i = rR M (wa pa t) i) (hl : rI M5 (wa pa t) 5 = ((lf t + 1 : Nat) : Int)) (hn : Wk12 M5 pa tk pb as (ys Yo) t)
    (eYo : Yo = (dtW t (yw Y), yl Y, ys Yo, yq Y)) (yne : ∀ a i, ¬ ((226 ≤ a ∧ a ≤ 248) ∧ i = t) → yv Yo a i = yv Y a i) (hk2 : yv Yo 227 t ≠ 2 ∧ yv Yo 227 t ≠ 3) (hrec : recY nb Yo) (hh : hdW N Yo t) (hk : isK M5 kx) (hkx : kd M5 kx ≠ (3, 30) ∧ kd M5 kx ≠ (3, 12)) :
    ∃ M' eg', f_X11_look ((wa pa t : Nat) : Int) (kx : Int) (b2i sk) M5 = some (1, M') ∧ CW M' m al N pa own sd ps sn pu rf tm (fup lf t (lf t + 1)) b0 eg' tk pb as nb mn fa Lb LA dn sto (lkY m own t (ky (kC M5 kx)) sk Yo) h ∧ FK F11 M M' := by
  obtain ⟨⟨hC, hPub, hLb, hrc0, hmn, hst⟩, hA⟩ := hW
  have hu := hC.2.1.1
  obtain ⟨C5, g5⟩ := CB_op (sc := ys Yo) hC ht hx hnn hr hl (fun t' hne a ha => yne a t' (by omega)) (fun r _ a ha => yne a r (by omega)) hn
  rw [← eYo] at C5
  have hu5 := g5.un hu
  have ewo : yw Yo = dtW t (yw Y) := by rw [eYo]
  have eqo : yq Yo = yq Y := by rw [eYo]
  have hgo : yv Yo 226 t ≠ 0 := by rw [hh.1]; decide
  obtain ⟨M', eg', a1, a2, a3⟩ := c_lookW (sk := sk) C5 (by rw [ewo]; exact ok_dt ho) ht hgo (yp_lt hh) hk hkx (by rw [ewo]; exact dtW_dtW)
  have fall : FT t Yo (lkY m own t (ky (kC M5 kx)) sk Yo) := FT_lk
  have h3o : ∀ t', t' < 12 + N → yv Yo 226 t' ≠ 0 → yv Yo 227 t' = 3 → yv Yo 247 t' ≤ 3 := fun t' ht' z1 z2 => by
    by_cases c : t' = t
    · rw [c] at z2; exact absurd z2 hk2.2
    · rw [yne _ _ (by omega)] at z1 z2 ⊢
      exact h3 t' ht' z1 z2
  have fM : FK F11 M M' := (g5.mono (fun z hz => by rw [beq_iff_eq.mp hz]; rfl)).trans (a3.mono (fun z hz => by unfold F11; simp only [Bool.or_eq_true, beq_iff_eq] at hz ⊢; omega))
  refine ⟨M', eg', a1, ⟨⟨a2, ?_, Libs_fk a3 hu5 (by decide) (Libs_fk g5 hu (by decide) hLb), rec_ft hrec fall (fun _ => hgo), fun z hz => by rw [lk_v (by decide), yne _ _ (by omega)]; exact hmn z hz, fun t' h' z1 z2 => ?_⟩, ?_⟩, fM⟩
  · refine Pubs_ft (Y := Yo) ?_ hk2.1 fall
    exact Pubs_o (t := t) (Pubs_fk a3 hu5 (by decide) (Pubs_fk g5 hu (by decide) hPub)) (fun t' hne a ha => yne a t' (by omega)) (fun _ => hk2.1)
  · rw [lk_v (by decide)] at z1 z2
    rw [lk_v (by decide), lk_v (by decide)]
    by_cases c : t' = t
    · rw [c] at z2; exact absurd z2 hk2.1
    · rw [yne _ _ (by omega)] at z1 z2
      rw [yne 229 t' (by omega), yne 269 _ (by omega)]
      exact hst t' h' z1 z2
  · refine Asks_ft (Y := Yo) ?_ fall (fun _ => hk2.2) h3o
    rw [eqo]
    exact Asks_o (t := t) (Asks_fk a3 hu5 (by decide) h3 (Asks_fk g5 hu (by decide) h3 hA)) (fun t' hne a ha => yne a t' (by omega)) (fun a i ha => yne a i (by omega)) (fun _ => hk2.2) h3
end CSTL
