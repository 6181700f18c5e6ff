/-! all that comes behind a lookup of a query -/
section CLOOKB
variable {S : Nat → Bool} {M M1 M2 : MM} {m al N p t nb n Q pk k : Nat} {pa tk : Nat → Nat} {own : Nat → Ky} {sd ps sn pu rf : Nat → Int} {tm how : Int} {lf : Nat → Nat} {b0 : Nat × Nat} {h : Gh} {eg : EG} {pb as : Nat → Option Nat} {mn : Nat → Int} {fa : Nat → Nat} {Y Y1 Yf : Ys} {l l' : List Int} {Lb : Nat → List Trm} {ev : Nat → Nat}
/-- all holders are known -/
def arY (t : Nat) (Y : Ys) : Ys := (dtW t (yw Y), yl Y, st2 (st2 (ys Y) 254 t 0) 230 t (if yv Y 247 t = 1 then 4 else 3), arQ t (arrO (fun k => yv Y 252 (3 * t + k)) (yv Y 247 t).toNat) (yq Y))
theorem ar_v {a i : Nat} (ha : a ≠ 254 ∧ a ≠ 230) : yv (arY t Y) a i = yv Y a i := by
  show vI (st2 (st2 (ys Y) 254 t 0) 230 t _) a i = _
  rw [vI_ne (by omega), vI_ne (by omega)]
theorem ar_0 : yv (arY t Y) 230 t = if yv Y 247 t = 1 then 4 else 3 := by
  show vI (st2 (st2 (ys Y) 254 t 0) 230 t _) 230 t = _
  rw [vI_eq rfl]; split <;> rfl
theorem AsF_ar {U : MM} (hF : AsF M Q (ys Y) (yq Y) t) (h1 : yv Y 230 t = 1) (hn : 1 ≤ yv Y 247 t ∧ yv Y 247 t ≤ 3) (h8 : yv Y 248 t = yv Y 247 t) (hx : Ex (fun z => z = Q + 5) M U) (ho : ∀ x : Nat, (x : Int) < yv Y 247 t → rI U (Q + 5) x = (((arrO (fun k => yv Y 252 (3 * t + k)) (yv Y 247 t).toNat).getD x 0 : Nat) : Int)) : AsF (sI U Q 7 (yv (arY t Y) 230 t - 3)) Q (ys (arY t Y)) (yq (arY t Y)) t := by
  obtain ⟨a1, a2, a3, a4, a5⟩ := hF
  obtain ⟨b1, b2, b3, b4⟩ := a4 h1
  obtain ⟨s, hs⟩ : ∃ s : Int, s = if yv Y 247 t = 1 then 4 else 3 := ⟨_, rfl⟩
  have s34 : s = 4 ∨ s = 3 := by rw [hs]; split; exact Or.inl rfl; exact Or.inr rfl
  have v0 : yv (arY t Y) 230 t = s := by rw [hs]; exact ar_0
  have J : ∀ z i, ¬ (z = Q ∧ i = 7) → z ≠ Q + 5 → rI (sI U Q 7 (s - 3)) z i = rI M z i := fun z i c c2 => by rw [rI_ne c]; exact hx.rI c2 i
  have C : ∀ j, 5 ≤ j → kC (sI U Q 7 (s - 3)) (Q + j) = kC M (Q + j) := fun j hj => by funext i; exact J _ _ (by omega) (by omega)
  have v : ∀ a i, a ≠ 254 → a ≠ 230 → vI (ys (arY t Y)) a i = vI (ys Y) a i := fun a i z1 z2 => ar_v ⟨z1, z2⟩
  have v4 : vI (ys (arY t Y)) 254 t = 0 := by
    show vI (st2 (st2 (ys Y) 254 t 0) 230 t _) 254 t = _
    rw [vI_ne (by omega), vI_eq rfl]; rfl
  have sn : vI (ys (arY t Y)) 230 t ≠ 1 := by rw [show vI (ys (arY t Y)) 230 t = s from v0]; omega
  rw [v0]
  refine ⟨by rw [J _ _ (by omega) (by omega), v _ _ (by decide) (by decide)]; exact a1, fun i hi => ?_, fun i hi3 hi => ?_, fun z => absurd z sn, fun _ => ⟨fun j hj => ?_, ?_, ?_, ?_, ?_, ?_, ?_, ?_⟩⟩
  · rw [v _ _ (by decide) (by decide)] at hi
    rw [show Q + 19 + 4 * i = Q + (19 + 4 * i) from by omega, C _ (by omega), show Q + (19 + 4 * i) = Q + 19 + 4 * i from by omega]
    exact a2 i hi
  · rw [if_neg sn, v _ _ (by decide) (by decide)] at hi
    rw [J _ _ (by omega) (by omega), J _ _ (by omega) (by omega), show Q + 21 + 4 * i = Q + (21 + 4 * i) from by omega, C _ (by omega), show Q + (21 + 4 * i) = Q + 21 + 4 * i from by omega, v _ _ (by decide) (by decide), v _ _ (by decide) (by decide)]
    exact a3 i hi3 (by rw [if_pos h1, show vI (ys Y) 248 t = vI (ys Y) 247 t from h8]; exact hi)
  · rw [v _ _ (by decide) (by decide)] at hj
    rw [rI_ne (by omega), ho j hj, show qO (yq (arY t Y)) t = arrO (fun k => yv Y 252 (3 * t + k)) (yv Y 247 t).toNat from fup_eq]
  · rw [rI_eq rfl, show vI (ys (arY t Y)) 230 t = s from v0]; rcases s34 with e | e <;> rw [e] <;> rfl
  · rw [J _ _ (by omega) (by omega), v4]; exact b3
  · rw [show qL (yq (arY t Y)) t = [] from fup_eq]
    exact ⟨by rw [J _ _ (by omega) (by omega)]; exact b2, Nat.zero_le _, fun i hi => absurd hi (by simp)⟩
  · rw [J _ _ (by omega) (by omega), if_neg (by rw [show vI (ys (arY t Y)) 230 t = s from v0]; omega)]; exact b4
  · intro z; rw [show vI (ys (arY t Y)) 230 t = s from v0] at z; omega
  · intro z1 z2
    rw [show vI (ys (arY t Y)) 230 t = s from v0] at z1
    rw [v _ _ (by decide) (by decide)] at z2
    have : s = 3 := by rw [hs, if_neg (by show ¬ vI (ys Y) 247 t = 1; omega)]
    exact absurd this z1
  · intro _; exact fup_eq
/-- what comes behind a lookup of a query -/
theorem c_looked31 (hS0 : QSn m al N pa own sd ps sn pu rf tm lf b0 eg tk pb as nb mn fa Lb ev Q t n) (hC : CB M m al N pa own sd ps sn pu rf tm lf b0 eg tk pb as nb mn fa Y h) (hS : AsS M Q) (hF : AsF M Q (ys Y) (yq Y) t) (hmn : ∀ r, r < nb → mn r = yv Y 269 r) (hrec : recY nb Y) (hh : hdW N Y t) (ht : t < 12) (hlf : lf t + 1 < 2147483648) (hk3 : yv Y 227 t = 3) (h1 : yv Y 230 t = 1) (hn : 1 ≤ yv Y 247 t ∧ yv Y 247 t ≤ 3) (h48 : 0 ≤ yv Y 248 t ∧ yv Y 248 t < yv Y 247 t) (hm : 1 ≤ m ∧ m ≤ 20) (hok : okW N own tm (yw Y)) (hE : okEs (yl Y t).1 (yl Y t).2.2.1) (hd : dtW t (yw Y) = yw Y) (hR : yv (hldY m own t Y) 226 t ≠ 0 → RunP (fun Y => LI N own Lb Y t ∧ sdY m N own tm Lb ev Y) m al N own sd tm Lb t n (hldY m own t Y)) :
    (∃ M', f_X31_looked (Q : Int) ((wa pa t : Nat) : Int) M = some (0, M') ∧ QE (some M') M m al N pa own sd ps sn pu rf tm lf b0 eg tk pb as nb Q t (prY m al N own sd tm Lb t n (hldY m own t Y))) ∨
    (∃ M' eg', f_X31_looked (Q : Int) ((wa pa t : Nat) : Int) M = some (1, M') ∧ CB M' m al N pa own sd ps sn pu rf tm lf b0 eg' tk pb as nb mn fa (hldY m own t Y) h ∧ AsS M' Q ∧ AsF M' Q (ys (hldY m own t Y)) (yq (hldY m own t Y)) t ∧ XR Q M M' ∧ yv (hldY m own t Y) 230 t = 1 ∧ ∀ a i, a ≠ 250 → a ≠ 252 → a ≠ 248 → a ≠ 230 → yv (hldY m own t Y) a i = yv Y a i) := by
  have hgo : yv Y 226 t ≠ 0 := by rw [hh.1]; decide
  obtain ⟨i0, hi0⟩ : ∃ i0, i0 = (yv Y 248 t).toNat := ⟨_, rfl⟩
  have hi : yv Y 248 t = (i0 : Int) := by omega
  have hi3 : i0 < 3 := by omega
  have k31 : (kd M Q).1 = 31 := by rw [hS.1]
  obtain ⟨a1, a2, a3, a4, a5⟩ := id hF
  obtain ⟨b1, b2, b3, b4⟩ := a4 h1
  have ky0 : ky (kC M (Q + 19 + 4 * i0)) = qK (yq Y) (3 * t + i0) := a2 i0 (by show (i0 : Int) < yv Y 247 t; omega)
  have held := c_isHeld (key := qK (yq Y) (3 * t + i0)) hC hS hm hok hE hh (show t < 12 + N by omega) (by rw [b1]; exact hi) hi3 ky0
  have eH : hldY m own t Y = match hldE (own (yp Y t)) (qK (yq Y) (3 * t + i0)) (wS (yw Y) (yp Y t)) (frontE m (yl Y t).2.2.1) with | none => tlY t 0 [] Y | some x => hldZ m own t i0 (heY own t x Y) := by
    unfold hldY heY
    rw [hi0]; rfl
  cases hx : hldE (own (yp Y t)) (qK (yq Y) (3 * t + i0)) (wS (yw Y) (yp Y t)) (frontE m (yl Y t).2.2.1) with
  | none =>
    rw [hx] at held eH
    dsimp only at held eH
    left
    obtain ⟨M', h', lf', mn', fa', b0', r1, r2⟩ := c_none31 hC hS b2 hmn hrec hh ht hlf hk3
    refine ⟨M', ?_, ?_⟩
    · unfold f_X31_looked
      rw [ck_e k31, held, Option.bind_some]
      dsimp only
      rw [if_pos (show w32 0 = 0 from rfl), ck_e k31, r1, Option.bind_some]
    · rw [eH, prY_0 (show yv (tlY t 0 [] Y) 226 t = 0 from clS_0)]
      exact ⟨M', h', lf', mn', fa', b0', rfl, r2⟩
  | some x =>
    rw [hx] at held eH
    dsimp only at held eH
    obtain ⟨M1, c1, c2, c3, c4, c5, c6⟩ := held
    have F2 := c_held31 (own := own) hS hF h1 hi hi3 hn.2 c2 c3 c4 c5 c6
    obtain ⟨M2, hM2⟩ : ∃ M2, M2 = sI M1 Q 6 ((i0 : Int) + 1) := ⟨_, rfl⟩
    obtain ⟨Y2, hY2⟩ : ∃ Y2, Y2 = heY own t x Y := ⟨_, rfl⟩
    rw [← hM2, ← hY2] at F2
    rw [← hY2] at eH
    have S1 : AsS M1 Q := hS.ex c2
    have k311 : (kd M1 Q).1 = 31 := by rw [S1.1]
    have x2 : Ex (AQs Q) M M2 := by
      rw [hM2]
      exact (c2.mono (fun z hz => by unfold AQs; omega)).trans (Ex.st (A := AQs Q) (by unfold AQs; omega))
    have S2 : AsS M2 Q := hS.ex x2
    have k312 : (kd M2 Q).1 = 31 := by rw [S2.1]
    obtain ⟨C2', _⟩ := CB_14 hC hS x2 (fun z hz => hz)
    have v2 : ∀ a i, a ≠ 250 → a ≠ 252 → a ≠ 248 → yv Y2 a i = yv Y a i := fun a i z1 z2 z3 => by rw [hY2]; exact he_v ⟨z1, z2, z3⟩
    have C2 : CB M2 m al N pa own sd ps sn pu rf tm lf b0 eg tk pb as nb mn fa Y2 h := by
      rw [hY2]; exact CB_sc C2' (fun a i z => he_v (by omega)) rfl
    have X2 : XQ Q M M2 := XQ_ex hS x2 (fun z hz => hz)
    have n2 : yv Y2 247 t = yv Y 247 t := v2 _ _ (by decide) (by decide) (by decide)
    have s2 : yv Y2 230 t = 1 := by rw [v2 _ _ (by decide) (by decide) (by decide)]; exact h1
    have w2 : yw Y2 = yw Y := by rw [hY2]; rfl
    have p2 : yp Y2 t = yp Y t := by unfold yp; rw [show vI (ys Y2) 228 t = vI (ys Y) 228 t from v2 _ _ (by decide) (by decide) (by decide)]
    have hh2 : hdW N Y2 t := hdW_ag hh (fun a z => v2 _ _ (by omega) (by omega) (by omega))
    have rec2 : recY nb Y2 := recY_ag hrec (fun a i z => v2 _ _ (by omega) (by omega) (by omega))
    have hd2 : dtW t (yw Y2) = yw Y2 := by rw [w2]; exact hd
    have go2 : yv Y2 226 t ≠ 0 := by rw [hh2.1]; decide
    have i6 : rI M2 Q 6 = ((i0 + 1 : Nat) : Int) := by rw [hM2, rI_eq rfl, w32s (by omega)]; rfl
    have i5 : rI M2 Q 5 = yv Y 247 t := by rw [F2.1]; exact n2
    have v8 : yv Y2 248 t = ((i0 + 1 : Nat) : Int) := by rw [← i6]; exact (F2.2.2.2.1 s2).1.symm
    have zz : hldZ m own t i0 Y2 = if ((i0 + 1 : Nat) : Int) < yv Y 247 t then lkY m own t (qK (yq Y2) (3 * t + i0 + 1)) true Y2 else arY t Y2 := by
      unfold hldZ arY
      rw [n2]
    rw [zz] at eH
    have head : f_X31_looked (Q : Int) ((wa pa t : Nat) : Int) M = if ((i0 + 1 : Nat) : Int) < yv Y 247 t then (lar 13 ((Q + 1 : Nat) : Int) ((i0 + 1 : Nat) : Int) M2).bind fun v14 => ck 11 ((wa pa t : Nat) : Int) M2 <| (f_X11_look ((wa pa t : Nat) : Int) v14 1 M2).bind fun r3 => bz r3.1 (some (r3.1, r3.2)) else (f_X31_arrange (Q : Int) M2).bind fun M3 => (gfi 31 5 (Q : Int) M3).bind fun v4 => if w32 v4 = w32 1 then ck 31 (Q : Int) M3 <| (fREC 200 4 (Q : Int) ((wa pa t : Nat) : Int) 0 M3).bind fun M6 => j_X31_looked_112 M6 else (pfi 31 7 (Q : Int) 0 M3).bind fun M3 => (gfr 11 2 ((wa pa t : Nat) : Int) M3).bind fun v5 => ck 17 v5 M3 <| (f_X17_begin v5 9 M3).bind fun r2 => (gfr 31 0 (Q : Int) r2.2).bind fun v6 => (gfr 31 4 (Q : Int) r2.2).bind fun v7 => (lai v7 0 r2.2).bind fun v8 => (lar 13 v6 v8 r2.2).bind fun v9 => ck 4 r2.1 r2.2 <| (f_X4_putKey r2.1 v9 r2.2).bind fun M4 => (gfr 31 4 (Q : Int) M4).bind fun v10 => (lai v10 0 M4).bind fun v11 => ck 31 (Q : Int) M4 <| (fREC 200 3 (Q : Int) ((wa pa t : Nat) : Int) v11 M4).bind fun M5 => j_X31_looked_112 M5 := by
      unfold f_X31_looked
      rw [ck_e k31, c1, Option.bind_some]
      dsimp only
      rw [if_neg (show ¬ w32 1 = 0 from by decide), gfi_e k311, c2.rI (by omega), b1, show vI (ys Y) 248 t = (i0 : Int) from hi, Option.bind_some, pfi_e k311, Option.bind_some, ← hM2, gfi_e k312, i6, Option.bind_some, gfi_e k312, i5, Option.bind_some, w32_nn (by omega), w32s (v := yv Y 247 t) (by omega)]
      by_cases c : ((i0 + 1 : Nat) : Int) < yv Y 247 t
      · rw [if_pos c, if_pos c, gfr_e k312, S2.2.1.1, Option.bind_some, Option.bind_some]
      · rw [if_neg c, if_neg c, ck_e k312]
    by_cases c : ((i0 + 1 : Nat) : Int) < yv Y 247 t
    · rw [if_pos c] at eH head
      right
      obtain ⟨e0, e1, e2, _⟩ := S2.2.2.2.2.2 (i0 + 1) (by omega)
      have kk : ky (kC M2 (Q + 19 + 4 * (i0 + 1))) = qK (yq Y2) (3 * t + i0 + 1) := F2.2.1 (i0 + 1) (by rw [show vI (ys Y2) 247 t = yv Y 247 t from n2]; exact c)
      obtain ⟨M3, eg', d1, d2, d3⟩ := c_lookW (sk := true) (kx := Q + 19 + 4 * (i0 + 1)) C2 (by rw [w2]; exact hok) (show t < 12 + N by omega) go2 (yp_lt hh2) e2 ⟨by rw [e1]; decide, by rw [e1]; decide⟩ hd2
      rw [kk] at d2
      have d1 : f_X11_look ((wa pa t : Nat) : Int) ((Q + 19 + 4 * (i0 + 1) : Nat) : Int) 1 M2 = some (1, M3) := d1
      have w1 := (C2.2.1.2.2.1 t (by omega)).1
      have hu2 := C2.2.1.1
      have S3 : AsS M3 Q := S2.exa d3 hu2 (fun z hz y => by
        have y : (fun z => z == 6 || z == 7) (mo M2 z) = true := y
        rw [AQ_mo S2 hz] at y; exact absurd y (by decide))
      have hlt := AsS_lt hu2 S2
      obtain ⟨Y3, hY3⟩ : ∃ Y3, Y3 = lkY m own t (qK (yq Y2) (3 * t + i0 + 1)) true Y2 := ⟨_, rfl⟩
      rw [← hY3] at d2 eH
      have v3 : ∀ a i, a ≠ 230 → yv Y3 a i = yv Y2 a i := fun a i z => by rw [hY3]; exact vI_ne (by omega)
      have s3 : yv Y3 230 t = 1 := by rw [hY3]; exact vI_eq rfl
      have q3 : yq Y3 = yq Y2 := by rw [hY3]; rfl
      have F3 : AsF M3 Q (ys Y3) (yq Y3) t := AsF_ag F2 S3 (fun z i hz => (d3.cell (by unfold AQs at hz; omega) (by rw [AQ_mo S2 hz]; rfl)).1 i) (fun a z => by
        by_cases e : a = 230
        · rw [e]; exact s3.trans s2.symm
        · exact v3 a t e) (fun i _ => ⟨v3 _ _ (by decide), v3 _ _ (by decide)⟩) (by rw [show vI (ys Y2) 247 t = yv Y 247 t from n2]; exact hn.2) (by rw [q3]; exact ⟨rfl, rfl, rfl, rfl⟩) (fun i _ => by rw [q3]; exact ⟨rfl, rfl⟩)
      rw [eH]
      refine ⟨M3, eg', ?_, d2, S3, F3, X2.xr.trans (XR_fk d3 (mo2 ⟨rfl, rfl⟩) rfl), s3, fun a i z1 z2 z3 z4 => by rw [v3 _ _ z4, v2 _ _ z1 z2 z3]⟩
      rw [head, lar_n S2.2.2.1.1 (by decide) (by omega) (by decide), e0, Option.bind_some, ck_e w1.1, d1, Option.bind_some]
      dsimp only
      rw [bz_e (Or.inr rfl)]
    · rw [if_neg c] at eH head
      left
      have h8 : yv Y2 248 t = yv Y2 247 t := by rw [v8, n2]; omega
      obtain ⟨U, u1, u2, u3⟩ := c_arrange (n := (yv Y 247 t).toNat) (c := fun k => yv Y2 252 (3 * t + k)) S2 (by omega) (by rw [i5]; omega) (fun x hx => (F2.2.2.1 x (by omega) (by rw [if_pos s2, show vI (ys Y2) 248 t = yv Y2 247 t from h8, n2]; omega)).2.2)
      obtain ⟨Y3, hY3⟩ : ∃ Y3, Y3 = arY t Y2 := ⟨_, rfl⟩
      rw [← hY3] at eH
      have v3 : ∀ a i, a ≠ 254 → a ≠ 230 → yv Y3 a i = yv Y2 a i := fun a i z1 z2 => by rw [hY3]; exact ar_v ⟨z1, z2⟩
      have s3 : yv Y3 230 t = if yv Y 247 t = 1 then 4 else 3 := by rw [hY3, ar_0, n2]
      have FA : AsF (sI U Q 7 (yv Y3 230 t - 3)) Q (ys Y3) (yq Y3) t := by
        rw [hY3]
        exact AsF_ar F2 s2 (by rw [n2]; exact hn) h8 u3 (fun x hx => by rw [n2] at hx ⊢; exact u2 x (by omega))
      have SU : AsS U Q := S2.ex u3
      have kU : (kd U Q).1 = 31 := by rw [SU.1]
      obtain ⟨CU', _⟩ := CB_14 C2 S2 u3 (fun z hz => by unfold AQs; omega)
      have toY3 : ∀ {W : MM}, CB W m al N pa own sd ps sn pu rf tm lf b0 eg tk pb as nb mn fa Y2 h → CB W m al N pa own sd ps sn pu rf tm lf b0 eg tk pb as nb mn fa Y3 h := fun {W} z => by
        have := CB_sc (sc := ys Y3) (q := yq Y3) z (fun a i y => v3 a i (by omega) (by omega)) (by rw [hY3]; rfl)
        have e : (yw Y2, yl Y2, ys Y3, yq Y3) = Y3 := by rw [hY3]; unfold arY; rw [hd2]
        rw [e] at this
        exact this
      have XU : XQ Q M U := X2.trans (XQ_ex S2 u3 (fun z hz => by unfold AQs; omega))
      have mn3 : ∀ r, r < nb → mn r = yv Y3 269 r := fun r hr => by rw [v3 _ _ (by decide) (by decide), v2 _ _ (by decide) (by decide) (by decide)]; exact hmn r hr
      have rec3 : recY nb Y3 := recY_ag rec2 (fun a i z => v3 _ _ (by omega) (by omega))
      have hh3 : hdW N Y3 t := hdW_ag hh2 (fun a z => v3 _ _ (by omega) (by omega))
      have go3 : yv Y3 226 t ≠ 0 := by rw [hh3.1]; decide
      have i5U : rI U Q 5 = yv Y 247 t := by rw [u3.rI (by omega)]; exact i5
      rw [eH] at hR ⊢
      have hR := hR go3
      obtain ⟨hLI, hsd⟩ : LI N own Lb Y3 t ∧ sdY m N own tm Lb ev Y3 := by
        cases n with
        | zero => exact hR.elim
        | succ n => exact hR.1
      by_cases d : yv Y 247 t = 1
      · rw [if_pos d] at s3
        have hq := (wOK_q hLI.1 go3 (by rw [s3]; decide) (by rw [s3]; decide)).2.2.2.2.1
        have := dq_le hq
        have g := q_go hS0 ⟨toY3 CU', SU, FA, mn3⟩ rec3 go3 hR (Or.inl ⟨s3, rfl⟩) (k := 200) (by omega)
        obtain ⟨M', h', lf', mn', fa', b0', r1, r2⟩ := QE_pre XU g
        refine ⟨M', ?_, M', h', lf', mn', fa', b0', rfl, r2⟩
        rw [head, u1, Option.bind_some, gfi_e kU, i5U, Option.bind_some, d, if_pos rfl, ck_e kU, r1, Option.bind_some]
        rfl
      · rw [if_neg d] at s3
        have hq := (wOK_q hLI.1 go3 (by rw [s3]; decide) (by rw [s3]; decide)).2.2.2.2.1
        have dle := dq_le hq
        rw [s3] at FA
        obtain ⟨W, hW⟩ : ∃ W, W = sI U Q 7 0 := ⟨_, rfl⟩
        have FA : AsF W Q (ys Y3) (yq Y3) t := by rw [hW]; exact FA
        have xW : Ex (fun z => z = Q) U W := by rw [hW]; exact Ex.st (A := fun z => z = Q) rfl
        have SW : AsS W Q := SU.ex xW
        have kW : (kd W Q).1 = 31 := by rw [SW.1]
        obtain ⟨CW', _⟩ := CB_14 CU' SU xW (fun z hz => by unfold AQs; omega)
        have CW := toY3 CW'
        obtain ⟨y3, y1, i3, x5, x4, xh, xk⟩ := q_idx hq FA
        have qi : qI Y3 t = 0 := by unfold qI; rw [if_pos s3]
        rw [qi] at x5
        obtain ⟨y, hy⟩ : ∃ y, y = (qO (yq Y3) t).getD (qI Y3 t) 0 := ⟨_, rfl⟩
        have hy0 : y = (qO (yq Y3) t).getD 0 0 := by rw [hy, qi]
        rw [← hy] at y3 y1 x4 xh xk
        rw [← hy0] at x5
        obtain ⟨e0, e1, e2, _⟩ := SW.2.2.2.2.2 y y3
        have w1 := (CW.2.1.2.2.1 t (by omega)).1
        obtain ⟨g1, _⟩ := (CW.2.2.1 t (by omega)).2.2.2 go3
        have g1 : rR W (wa pa t) 2 = ((pa (yp Y3 t) : Nat) : Int) := g1
        have pN := yp_lt hh3
        have pe := CW.1.2.2.2.2.1.2.2 (yp Y3 t) pN
        have k17 : (kd W (pa (yp Y3 t))).1 = 17 := by rw [pe.1.1]
        obtain ⟨⟨q1, q2⟩, _⟩ := AQ_31 CW.1.1.1 SW
        have ne : ∀ z, AQs Q z → ¬ (z = 31 ∨ z = 32) := fun z hz y => by rcases y with e | e; exact q1 (e ▸ hz); exact q2 (e ▸ hz)
        obtain ⟨W1, p1, p2, p3, p4⟩ := cp_begin (ty := 9) CW.1 pN
        obtain ⟨W2, o1, o2, o3⟩ := e_X4_putKey p3 (e2.ex p4) (by rw [hdB_len]; omega)
        have kcw : kC W1 (Q + 19 + 4 * y) = kC W (Q + 19 + 4 * y) := by funext i; exact p4.rI (ne _ (by unfold AQs; omega)) i
        rw [kcw, kby_ky, xk] at o2
        have xW2 : Ex (fun z => z = 31 ∨ z = 32) W W2 := p4.trans o3
        obtain ⟨C4, S4, F4, X4⟩ := PQ_31 CW SW FA hq.1.2 xW2
        have pk : PkC W2 31 (hdB (tyQ Y3 t) 0 (kf (own (yp Y3 t))) ++ bdQ Y3 t) := by
          unfold tyQ bdQ
          rw [if_pos s3, if_pos s3]; exact o2
        have g := hS0 W2 Y3 h 200 C4 S4 F4 mn3 rec3 go3 (by rw [s3]; decide) (by rw [s3]; decide) hR pk (by omega)
        rw [← hy] at g
        have XW : XQ Q M W := XU.trans (XQ_ex SU xW (fun z hz => by unfold AQs; omega))
        obtain ⟨M', h', lf', mn', fa', b0', r1, r2⟩ := QE_pre (XW.trans X4) g
        refine ⟨M', ?_, M', h', lf', mn', fa', b0', rfl, r2⟩
        have k1 : (kd W1 Q).1 = 31 := by rw [p4.kd]; exact kW
        have k2 : (kd W2 Q).1 = 31 := by rw [xW2.kd]; exact kW
        rw [head, u1, Option.bind_some, gfi_e kU, i5U, Option.bind_some, if_neg (show ¬ w32 (yv Y 247 t) = w32 1 from by rw [w32s (v := yv Y 247 t) (by omega)]; exact d), pfi_e kU, Option.bind_some, ← hW, gfr_e w1.1, g1, Option.bind_some, ck_e k17, p1, Option.bind_some]
        dsimp only
        rw [gfr_e k1, p4.rR, SW.2.1.1, Option.bind_some, gfr_e k1, p4.rR, SW.2.1.2.2.2.2.1, Option.bind_some, lai_e (k := 688) (l := 3) (j := 0) (show kd W1 (Q + 5) = (688, 3) from by rw [p4.kd]; exact SW.2.2.1.2.2.2.2.1) (by decide) (by decide) rfl (by decide), p4.rI (ne _ (by unfold AQs; omega)), x5, Option.bind_some, lar_n (show kd W1 (Q + 1) = (637, 3) from by rw [p4.kd]; exact SW.2.2.1.1) (by decide) y3 (by decide), p4.rR, e0, Option.bind_some, ck_e p3.1.1, o1, Option.bind_some, gfr_e k2, xW2.rR, SW.2.1.2.2.2.2.1, Option.bind_some, lai_e (k := 688) (l := 3) (j := 0) (show kd W2 (Q + 5) = (688, 3) from by rw [xW2.kd]; exact SW.2.2.1.2.2.2.2.1) (by decide) (by decide) rfl (by decide), xW2.rI (ne _ (by unfold AQs; omega)), x5, Option.bind_some, ck_e k2, r1, Option.bind_some]
        rfl
end CLOOKB
