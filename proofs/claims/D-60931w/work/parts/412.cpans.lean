/-! requests are answered -/
def wdL (l : List Int) : Int := wd4 (fun j => l.getD (1 + j) 0)
/-- the answer's bytes -/
def ansB (m h9 : Nat) (own : Ky) (wo : Option Ky) (T : List Row) (S : List Post) (l : List Int) : List Int :=
  hdB (l.getD 0 0 + 1) (wdL l) (kf own) ++
  if l.getD 0 0 = 3 then nodesB ((nearT m (kyP l 25) wo T).map kad)
  else if l.getD 0 0 = 5 then be (((choS (kyP l 25) S).length : Nat) : Int) 2 ++ nodesB ((nearT m (kyP l 25) wo T).map kad)
  else if l.getD 0 0 = 9 then be (((choS (kyP l 25) S).length : Nat) : Int) 2 ++ ((h9 : Int) :: be (((mkF h9 (choS (kyP l 25) S)).length : Nat) : Int) 2) ++ mkF h9 (choS (kyP l 25) S)
  else if l.getD 0 0 = 11 then b2i (moreS (l.getD 45 0 * 256 + l.getD 46 0).toNat (mtcS (l.getD 47 0).toNat (rdF l 47) (choS (kyP l 25) S))) :: (((pageS (l.getD 45 0 * 256 + l.getD 46 0).toNat (mtcS (l.getD 47 0).toNat (rdF l 47) (choS (kyP l 25) S))).length : Nat) : Int) :: (pageS (l.getD 45 0 * 256 + l.getD 46 0).toNat (mtcS (l.getD 47 0).toNat (rdF l 47) (choS (kyP l 25) S))).flatMap be3
  else if l.getD 0 0 = 13 then (((chkS (kyP l 25) (rdC l 46 (l.getD 45 0).toNat) S).length : Nat) : Int) :: (chkS (kyP l 25) (rdC l 46 (l.getD 45 0).toNat) S).flatMap be3
  else []
/-- what a request does to the one that answers it; whether there is an answer -/
def ansW (tm : Int) (w : Wd) (p : Nat) (l : List Int) : Wd × Bool :=
  if l.getD 0 0 = 7 then
    match keepS (kyP l 25) (rdI l 46 (l.getD 45 0).toNat) (tm + wst w 7) (wS w p) with
    | some S' => (setS w (fup (wS w) p S'), true)
    | none => (setL w (tlU (wtl w) (5 * p + 2)), false)
  else (w, true)
def AQ (q : Nat) : Prop := BA q ∨ q = 45 ∨ q = 47
section CPANS
variable {M M1 : MM} {m al N p kx x i : Nat} {pa : Nat → Nat} {own : Nat → Ky} {sd ps sn pu rf : Nat → Int} {tm ad ty x2 : Int} {lf : Nat → Nat} {b : Nat × Nat} {w : Wd} {h : Gh} {l bd : List Int} {wo : Option Ky}
theorem swt_k {α : Type} {v lo : Int} {L : List (Option α)} {D : Option α} {k : Nat} (hv : v = lo + (k : Int)) (hk : k < L.length) : swt v lo L D = L.getD k none := by
  unfold swt
  rw [if_pos (by omega), show (v - lo).toNat = k by omega, List.getD_eq_getElem?_getD, List.getD_eq_getElem?_getD, List.getElem?_eq_getElem hk]
  rfl
theorem aq_mo (hb : BdS M m) {q : Nat} (h : AQ q) : mo M q = 7 := by
  obtain ⟨o1, o2, o3, o4, ⟨o5, o6⟩, ⟨o7, o8⟩, ⟨o9, o10⟩, ⟨o11, o12⟩, ⟨o13, o14⟩, ⟨o15, o16⟩, o17⟩ := BdS_mo hb
  obtain ⟨h1, h2, h3, h4, h5, h6, ⟨p1, p2, p3, p4, p5, p6⟩, ⟨k1, k2, k3, k4, k5, k6, k7⟩, hs, hm⟩ := hb
  have e : q = 25 ∨ q = 26 ∨ q = 27 ∨ q = 33 ∨ q = 34 ∨ q = 35 ∨ q = 36 ∨ q = 37 ∨ q = 38 ∨ q = 39 ∨ q = 45 ∨ q = 47 := by unfold AQ BA at h; omega
  rcases e with e | e | e | e | e | e | e | e | e | e | e | e <;> subst e
  · exact mo_ar hs.2.2.2.2.1 (by decide) (by decide)
  · exact mo_ar hs.2.2.2.2.2.1 (by decide) (by decide)
  · exact mo_ar hs.2.2.2.2.2.2 (by decide) (by decide)
  · exact o7
  · exact o8
  · exact o9
  · exact mo_kw (q := 35) p3.2.2.1 (Or.inr (Or.inr (Or.inl rfl))) k3 (by decide) (by decide)
  · have e : kd M 37 = (97, 2) := p3.2.2.2.2.2.1
    unfold mo moO
    rw [e, show 37 - 2 = 35 from rfl, k3]
    rfl
  · exact o10
  · have e : kd M 39 = (64, 5) := p3.2.2.2.2.2.2.2.2.2
    unfold mo moO
    rw [e, show 39 - 1 = 38 from rfl, k7, show 38 - 3 = 35 from rfl, k3]
    rfl
  · exact o16
  · exact o4
theorem pk_num (h : PkC M x l) (hl : 5 ≤ l.length) : f_X4_number (x : Int) M = some (wdL l) := by
  rw [e_number h.1]
  unfold wdL wd4 bC
  rw [h.2.2.2 (1 + 0) (by omega), h.2.2.2 (1 + 1) (by omega), h.2.2.2 (1 + 2) (by omega), h.2.2.2 (1 + 3) (by omega)]
theorem pk_type (h : PkC M x l) (hl : 1 ≤ l.length) : f_X4_type (x : Int) M = some (l.getD 0 0) := by
  rw [e_type h.1, h.2.2.2 0 (by omega)]
/-- the board's cells change -/
theorem cp_b7 (hc : CPs M m al N pa own sd ps sn pu rf tm lf b w h) (f : FK (fun z => z == 7) M M1) (hb : BoC M1 m al N pa) (hn : nN M1 = nN M ∧ nU M1 = nU M) : CPs M1 m al N pa own sd ps sn pu rf tm lf b w h := by
  obtain ⟨c1, c2, c3, c4, c5, c6, c7, c8, c9⟩ := hc
  have hu := c5.1
  exact ⟨hb, NetRep_fk f hu (by decide) c2, tbs_fk f ⟨by decide, by decide⟩ c3, sts_fk f (by decide) c4, PeC_fk f ⟨by decide, by decide⟩ c5, RqsC_fk f (by decide) c6, c7, ⟨by rw [hn.1]; exact c8.1, by rw [hn.2]; exact c8.2⟩, c9⟩
theorem BoC_near (hx : ExC (fun q => q = 47 ∨ q = 33 ∨ q = 34) M M1) (hp : isP M1 33) (hb : BoC M m al N pa) : BoC M1 m al N pa := by
  obtain ⟨⟨h1, h2, ⟨r1, r2, r3, r4, r5, r6, r7, r8, r9, r10, r11, r12⟩, h4, h5, h6, ⟨p1, p2, p3, p4, p5, p6⟩, hk, hsh, hm⟩, a2, a3, a4, a5, a6⟩ := hb
  have R : ∀ {z} i, z ≠ 47 → z ≠ 33 → z ≠ 34 → rR M1 z i = rR M z i := fun i z1 z2 z3 => hx.rR (by omega) i
  have K : ∀ z, kd M1 z = kd M z := fun z => hx.kd z
  have isk : ∀ z, isK M z → z ≠ 47 → z ≠ 33 → z ≠ 34 → isK M1 z := fun z hz z1 z2 z3 => ⟨by rw [K]; exact hz.1, by rw [R _ z1 z2 z3]; exact hz.2.1, by rw [K]; exact hz.2.2⟩
  obtain ⟨k1, k2, k3, k4, k5, k6, k7⟩ := hk
  refine ⟨⟨by rw [K]; exact h1, by rw [hx.rI (by omega)]; exact h2, ⟨by rw [R _ (by decide) (by decide) (by decide)]; exact r1, by rw [R _ (by decide) (by decide) (by decide)]; exact r2, by rw [R _ (by decide) (by decide) (by decide)]; exact r3, by rw [R _ (by decide) (by decide) (by decide)]; exact r4, by rw [R _ (by decide) (by decide) (by decide)]; exact r5, by rw [R _ (by decide) (by decide) (by decide)]; exact r6, by rw [R _ (by decide) (by decide) (by decide)]; exact r7, by rw [R _ (by decide) (by decide) (by decide)]; exact r8, by rw [R _ (by decide) (by decide) (by decide)]; exact r9, by rw [R _ (by decide) (by decide) (by decide)]; exact r10, by rw [R _ (by decide) (by decide) (by decide)]; exact r11, by rw [R _ (by decide) (by decide) (by decide)]; exact r12⟩, by rw [K]; exact h4, by rw [K]; exact h5, by rw [K]; exact h6, ⟨⟨by rw [K]; exact p1.1, by rw [R _ (by decide) (by decide) (by decide)]; exact p1.2.1, by rw [K]; exact p1.2.2⟩, hp, ?_, isk 40 p4 (by decide) (by decide) (by decide), isk 42 p5 (by decide) (by decide) (by decide), isk 44 p6 (by decide) (by decide) (by decide)⟩, ⟨by rw [K]; exact k1, by rw [K]; exact k2, by rw [K]; exact k3, by rw [K]; exact k4, by rw [K]; exact k5, by rw [K]; exact k6, by rw [K]; exact k7⟩, ?_, hm⟩, by rw [hx.rI (by omega)]; exact a2, by rw [hx.rI (by omega)]; exact a3, a4, fun p hp => by rw [R _ (by decide) (by decide) (by decide)]; exact a5 p hp, fun p q1 q2 => by rw [R _ (by decide) (by decide) (by decide)]; exact a6 p q1 q2⟩
  · obtain ⟨f1, f2, f3, f4, f5, f6, f7, f8⟩ := p3
    exact ⟨by rw [K]; exact f1, by rw [R _ (by decide) (by decide) (by decide)]; exact f2, by rw [K]; exact f3, by rw [R _ (by decide) (by decide) (by decide)]; exact f4, by rw [R _ (by decide) (by decide) (by decide)]; exact f5, by rw [K]; exact f6, by rw [R _ (by decide) (by decide) (by decide)]; exact f7, isk 38 f8 (by decide) (by decide) (by decide)⟩
  · obtain ⟨f1, f2, f3, f4, f5, f6, f7⟩ := hsh
    exact ⟨by rw [K]; exact f1, by rw [R _ (by decide) (by decide) (by decide)]; exact f2, by rw [R _ (by decide) (by decide) (by decide)]; exact f3, by rw [R _ (by decide) (by decide) (by decide)]; exact f4, by rw [K]; exact f5, by rw [K]; exact f6, by rw [K]; exact f7⟩
/-- what stays: all but stores, peers' words, some cells of the board -/
def A35 (M : MM) (q : Nat) : Prop := mo M q = 3 ∨ mo M q = 5 ∨ AQ q
theorem cp_answers (hc : CPs M m al N pa own sd ps sn pu rf tm lf b w h) (ho : okW N own tm w) (hp : p < N) (hx : x = 22 ∨ x = 31) (hq : PkC M x l) (hb : isBL l) (hwl : wellL l = true) (hty : l.getD 0 0 % 2 = 1 ∧ l.getD 0 0 ≠ 15) (hw : (x2 = -1 ∧ wo = none) ∨ (x2 = ((42 : Nat) : Int) ∧ wo = some (ky (kC M 42)))) :
    ∃ M' h', f_X17_answers ((pa p : Nat) : Int) (x : Int) x2 M = some (b2i (ansW tm w p l).2, M') ∧ CPs M' m al N pa own sd ps sn pu rf tm lf b (ansW tm w p l).1 h' ∧ ((ansW tm w p l).2 = true → PkC M' 33 (ansB m (wst w 9).toNat (own p) wo (wT w p) (wS w p) l)) ∧ ExA (A35 M) M M' := by
  have hc0 := hc
  obtain ⟨c1, c2, c3, c4, c5, c6, c7, c8, c9⟩ := hc
  have hu := c5.1
  obtain ⟨pe, p276, hown, _⟩ := c5.2.2 p hp
  obtain ⟨kyo1, _⟩ := ho.2.2.2 p hp
  have bd := c1.1
  obtain ⟨b1, b2, ⟨r1, r2, r3, r4, r5, r6, r7, r8, r9, r10, r11, r12⟩, b4, b5, b6, ⟨p1, p2, p3, p4, p5, p6⟩, bk, bsh, bm⟩ := id bd
  have len25 := wl_len hwl
  have ty15 := wl_ty hwl
  have k17 : (kd M (pa p)).1 = 17 := by rw [pe.1]
  have k6 : (kd M 18).1 = 6 := by rw [b1]
  -- the head, and what is asked for
  obtain ⟨M1, e1, e2, e3⟩ := e_X4_begin (ty := l.getD 0 0 + 1) (num := wdL l) p2 pe.2.2.2.2.1
  have hhd : hdB (l.getD 0 0 + 1) (wdL l) (kC M (pa p + 1)) = hdB (l.getD 0 0 + 1) (wdL l) (kf (own p)) := by
    unfold hdB
    rw [kby_ky (kC M (pa p + 1)), hown]
    rfl
  rw [hhd] at e2
  have q1 : PkC M1 x l := hq.ex e3 (by omega) (by omega)
  have k44 : isK M1 44 := p6.ex e3
  obtain ⟨M2, g1, g2, g3⟩ := e_X4_getKey (p := 25) q1.1 k44 (by decide)
  have x12 : Ex (fun q => q = 33 ∨ q = 34 ∨ q = 45) M M2 := (e3.mono (fun q hq => by omega)).trans (g3.mono (fun q hq => by have : q = 44 + 1 := hq; omega))
  have q2 : PkC M2 x l := q1.ex g3 (by show ¬ (x = 44 + 1); omega) (by show ¬ (x + 1 = 44 + 1); omega)
  have o2 : PkC M2 33 (hdB (l.getD 0 0 + 1) (wdL l) (kf (own p))) := e2.ex g3 (by decide) (by decide)
  obtain ⟨ol, hol⟩ : ∃ ol, ol = hdB (l.getD 0 0 + 1) (wdL l) (kf (own p)) := ⟨_, rfl⟩
  have oll : ol.length = 25 := by rw [hol, hdB_len]
  rw [← hol] at o2
  have k44' : isK M2 44 := k44.ex g3
  have mo7 : ∀ q, (q = 33 ∨ q = 34 ∨ q = 45) → mo M q = 7 := fun q hq => aq_mo bd (by unfold AQ BA; omega)
  obtain ⟨C2, F2⟩ := cp_board hc0 x12 (by omega) (fun z _ hz => mo7 z hz)
  obtain ⟨d1, d2, d3, d4, d5, d6, d7, d8, d9⟩ := id C2
  obtain ⟨pe2, _, _⟩ := d5.2.2 p hp
  have bd2 := d1.1
  have k17' : (kd M2 (pa p)).1 = 17 := by rw [pe2.1]
  have k6' : (kd M2 18).1 = 6 := by rw [bd2.1]
  obtain ⟨s1, s2, ⟨u1, u2, u3, u4, u5, u6, u7, u8, u9, u10, u11, u12⟩, s4⟩ := id bd2
  have a35 : ExA (A35 M) M M2 := (ExC_ex x12).exa.mono (fun q hq => Or.inr (Or.inr (by unfold AQ BA; omega)))
  -- the start of the code
  have start : ∃ Lst, f_X17_answers ((pa p : Nat) : Int) (x : Int) x2 M = swt (w32 (l.getD 0 0)) 3 Lst (some (1, M2)) ∧ Lst.length = 11 ∧
    Lst.getD 0 none = ((gfr 17 0 ((pa p : Nat) : Int) M2).bind fun v9 => (gfr 6 13 v9 M2).bind fun v10 => ck 17 ((pa p : Nat) : Int) M2 <| (f_X17_putNodes ((pa p : Nat) : Int) ((33 : Nat) : Int) v10 x2 M2).bind fun M3 => some (1, M3)) ∧
    Lst.getD 2 none = ((gfr 17 6 ((pa p : Nat) : Int) M2).bind fun v11 => (gfr 17 0 ((pa p : Nat) : Int) M2).bind fun v12 => (gfr 6 13 v12 M2).bind fun v13 => ck 18 v11 M2 <| (f_X18_count v11 v13 M2).bind fun v14 => ck 4 ((33 : Nat) : Int) M2 <| (f_X4_put ((33 : Nat) : Int) v14 2 M2).bind fun M4 => (gfr 17 0 ((pa p : Nat) : Int) M4).bind fun v15 => (gfr 6 13 v15 M4).bind fun v16 => ck 17 ((pa p : Nat) : Int) M4 <| (f_X17_putNodes ((pa p : Nat) : Int) ((33 : Nat) : Int) v16 x2 M4).bind fun M5 => some (1, M5)) ∧
    Lst.getD 4 none = ((gfr 17 6 ((pa p : Nat) : Int) M2).bind fun v17 => (gfr 17 0 ((pa p : Nat) : Int) M2).bind fun v18 => (gfr 6 2 v18 M2).bind fun v19 => (gfi 7 3 v19 M2).bind fun v20 => (gfr 17 0 ((pa p : Nat) : Int) M2).bind fun v21 => (gfr 6 2 v21 M2).bind fun v22 => ck 7 v22 M2 <| (f_X7_setting v22 7 M2).bind fun v23 => ck 18 v17 M2 <| (f_X18_keep v17 (x : Int) (v20 + v23) M2).bind fun r1 => if w32 r1.1 = 0 then (gfi 17 13 ((pa p : Nat) : Int) r1.2).bind fun v24 => (pfi 17 13 ((pa p : Nat) : Int) (v24 + 1) r1.2).bind fun M6 => some (0, M6) else j_X17_answers_183 r1.2) ∧
    Lst.getD 6 none = ((gfr 17 0 ((pa p : Nat) : Int) M2).bind fun v25 => (gfr 6 13 v25 M2).bind fun v26 => ck 17 ((pa p : Nat) : Int) M2 <| (f_X17_putBits ((pa p : Nat) : Int) ((33 : Nat) : Int) v26 M2).bind fun M7 => some (1, M7)) ∧
    Lst.getD 8 none = ((gfr 17 0 ((pa p : Nat) : Int) M2).bind fun v27 => (gfr 6 13 v27 M2).bind fun v28 => ck 17 ((pa p : Nat) : Int) M2 <| (f_X17_putMatches ((pa p : Nat) : Int) ((33 : Nat) : Int) v28 (x : Int) M2).bind fun M8 => some (1, M8)) ∧
    Lst.getD 10 none = ((gfr 17 0 ((pa p : Nat) : Int) M2).bind fun v29 => (gfr 6 13 v29 M2).bind fun v30 => ck 17 ((pa p : Nat) : Int) M2 <| (f_X17_putChecked ((pa p : Nat) : Int) ((33 : Nat) : Int) v30 (x : Int) M2).bind fun M9 => some (1, M9)) := by
    have kx : (kd M1 (pa p)).1 = 17 := by rw [e3.kd]; exact k17
    refine ⟨?L, ?e, ?_, ?_, ?_, ?_, ?_, ?_, ?_⟩
    case e =>
      unfold f_X17_answers
      rw [gfr_e k17, pe.2.2.1.1, Option.bind_some, gfr_e k6, r7, Option.bind_some, ck_e hq.1.1, pk_type hq (by omega), Option.bind_some, ck_e hq.1.1, pk_num hq (by omega), Option.bind_some, gfr_e k17, pe.2.2.1.2.1, Option.bind_some, ck_e p2.1, e1, Option.bind_some, gfr_e kx, e3.rR, pe.2.2.1.1, Option.bind_some, gfr_e (by rw [e3.kd]; exact k6), e3.rR, r11, Option.bind_some, ck_e q1.1.1, show f_X4_getKey (x : Int) 25 ((44 : Nat) : Int) M1 = some M2 from g1, Option.bind_some, ck_e q2.1.1, pk_type q2 (by omega), Option.bind_some]
    all_goals rfl
  obtain ⟨Lst, hs, hlen, L0, L2, L4, L6, L8, L10⟩ := start
  rw [hs]
  have mo2 : ∀ q, q < nN M → mo M2 q = mo M q := fun q hq => exa_mo a35 hq
  have wst9 := ho.1.2.2.2.2.2.2.2.2.2.1
  have wst7 := ho.1.2.2.2.2.2.2.2.1
  have hkey : 45 ≤ l.length → ky (kC M2 44) = kyP l 25 := fun h45 => by
    rw [← pk_key q1 (q := 25) (by omega)]
    unfold ky
    rw [g2 0 (by decide), g2 1 (by decide), g2 2 (by decide), g2 3 (by decide), g2 4 (by decide)]
  have hw2 : l.getD 0 0 ≠ 7 → (x2 = -1 ∧ wo = none) ∨ ∃ w' : Nat, x2 = (w' : Int) ∧ isK M2 w' ∧ wo = some (ky (kC M2 w')) := fun h7 => by
    rcases hw with ⟨h1, h2⟩ | ⟨h1, h2⟩
    · exact Or.inl ⟨h1, h2⟩
    · refine Or.inr ⟨42, h1, p5.ex x12, ?_⟩
      have : kC M2 42 = kC M 42 := by funext i; exact x12.rI (by omega) i
      rw [this]; exact h2
  have ttp := (d3.2.2.2.2.2 p hp).2
  have stp := d4.2.2.2.1 p hp
  have hDp : ∀ i, i < h.2.2.1 p → 276 ≤ h.2.2.2.1 p i := fun i hi => d4.2.2.2.2.2 p i hp hi
  have g44 : ((gfr 17 0 ((pa p : Nat) : Int) M2).bind fun v9 => gfr 6 13 v9 M2) = some ((44 : Nat) : Int) := by rw [gfr_e k17', pe2.2.2.1.1, Option.bind_some, gfr_e k6', u11]
  have set9 : f_X7_setting ((19 : Nat) : Int) 9 M2 = some (((wst w 9).toNat : Nat) : Int) := by
    rw [show f_X7_setting ((19 : Nat) : Int) 9 M2 = some (wst w 9) from e_setting (k := 9) d2 (by decide)]
    congr 1; omega
  -- answers that write the board's cells alone
  have fin : ∀ (M3 : MM), ExC AQ M2 M3 → BoC M3 m al N pa → CPs M3 m al N pa own sd ps sn pu rf tm lf b w h ∧ ExA (A35 M) M M3 := fun M3 hx3 hb3 => by
    refine ⟨cp_b7 C2 (FK_exc hx3 (fun q _ hq => by rw [aq_mo bd2 hq]; decide)) hb3 ⟨hx3.nN, hx3.nU⟩, a35.trC hx3 (fun q _ hq => Or.inr (Or.inr hq))⟩
  have aw : l.getD 0 0 ≠ 7 → ansW tm w p l = (w, true) := fun h7 => by unfold ansW; rw [if_neg h7]
  have t7 : l.getD 0 0 = 1 ∨ l.getD 0 0 = 3 ∨ l.getD 0 0 = 5 ∨ l.getD 0 0 = 7 ∨ l.getD 0 0 = 9 ∨ l.getD 0 0 = 11 ∨ l.getD 0 0 = 13 := by omega
  rcases t7 with ht | ht | ht | ht | ht | ht | ht
  · -- PING
    rw [aw (by omega), ht]
    refine ⟨M2, h, ?_, C2, fun _ => ?_, a35⟩
    · unfold swt
      rw [if_neg (by intro z; exact absurd z.1 (by decide))]
      rfl
    · unfold ansB
      rw [if_neg (by omega), if_neg (by omega), if_neg (by omega), if_neg (by omega), if_neg (by omega), List.append_nil, ← hol]
      exact o2
  · -- FIND
    have hk := hkey (by have := wl_45 hwl (Or.inl ht); omega)
    obtain ⟨M3, n1, n2, n3⟩ := c_putNodes bd2 pe2 p276 ttp kyo1 k44' (hw2 (by omega)) o2 (by have := bm.2; omega)
    obtain ⟨f1, f2⟩ := fin M3 (n3.mono (fun q hq => by unfold AQ BA; omega)) (BoC_near n3 n2.1 d1)
    rw [aw (by omega), ht, swt_k (k := 0) (by decide) (by omega), L0]
    refine ⟨M3, h, ?_, f1, fun _ => ?_, f2⟩
    · rw [gfr_e k17', pe2.2.2.1.1, Option.bind_some, gfr_e k6', u11, Option.bind_some, ck_e k17', n1, Option.bind_some]
      rfl
    · unfold ansB
      rw [if_pos ht, ← hol, ← hk]
      exact n2
  · -- SEEK
    have hk := hkey (by have := wl_45 hwl (Or.inr (Or.inl ht)); omega)
    obtain ⟨n0, y1, y2, y3, y4⟩ := c_count stp k44'
    have lS : (choS (ky (kC M2 44)) (wS w p)).length ≤ 200 := by have := stp.2.2.2.2.2.2.2.1.1; omega
    obtain ⟨M4, z1, z2, z3⟩ := e_X4_put (v := (((choS (ky (kC M2 44)) (wS w p)).length : Nat) : Int)) (n := 2) o2 (by decide) (by omega)
    have z3' : Ex (fun q => q = 33 ∨ q = 34) M2 M4 := z3
    have bd4 := bd2.ex z3' (by omega)
    have pe4 := pe2.ex z3' (by omega)
    have bo4 := BoC_ex z3' (by omega) d1
    have f4 : FK (fun z => z == 7) M2 M4 := FK_ex z3' (fun q _ hq => by rw [aq_mo bd2 (by unfold AQ BA; omega)]; decide)
    have tt4 := (tbs_fk f4 ⟨by decide, by decide⟩ d3).2.2.2.2.2 p hp
    have hw4 : (x2 = -1 ∧ wo = none) ∨ ∃ w' : Nat, x2 = (w' : Int) ∧ isK M4 w' ∧ wo = some (ky (kC M4 w')) := by
      rcases hw with ⟨h1, h2⟩ | ⟨h1, h2⟩
      · exact Or.inl ⟨h1, h2⟩
      · refine Or.inr ⟨42, h1, (p5.ex x12).ex z3', ?_⟩
        have : kC M4 42 = kC M 42 := by funext i; exact (z3'.rI (by omega) i).trans (x12.rI (by omega) i)
        rw [this]; exact h2
    have k4 : kC M4 44 = kC M2 44 := by funext i; exact z3'.rI (by omega) i
    obtain ⟨M5, n1, n2, n3⟩ := c_putNodes bd4 pe4 p276 tt4.2 kyo1 (k44'.ex z3') hw4 z2 (by rw [List.length_append, be_len]; have := bm.2; omega)
    obtain ⟨f1, f2⟩ := fin M5 (ExC.trans (M1 := M4) ((ExC_ex z3').mono (fun q hq => by unfold AQ BA; omega)) (n3.mono (fun q hq => by unfold AQ BA; omega))) (BoC_near n3 n2.1 bo4)
    rw [aw (by omega), ht, swt_k (k := 2) (by decide) (by omega), L2]
    refine ⟨M5, h, ?_, f1, fun _ => ?_, f2⟩
    · rw [gfr_e k17', pe2.2.2.1.2.2.2.1, Option.bind_some, gfr_e k17', pe2.2.2.1.1, Option.bind_some, gfr_e k6', u11, Option.bind_some, ck_e stp.1.1, y2, Option.bind_some, ck_e o2.1.1, show f_X4_put ((33 : Nat) : Int) _ 2 M2 = some M4 from z1, Option.bind_some, gfr_e (by rw [pe4.1]), pe4.2.2.1.1, Option.bind_some, gfr_e (by rw [bd4.1]), bd4.2.2.1.2.2.2.2.2.2.2.2.2.2.1, Option.bind_some, ck_e (by rw [pe4.1]), n1, Option.bind_some]
      rfl
    · unfold ansB
      rw [if_neg (by omega), if_pos ht, ← hol, ← hk, ← List.append_assoc, ← k4]
      rw [k4] at n2 ⊢
      exact n2
  · -- STORE
    obtain ⟨n, w1, w2, w3, w4⟩ := wl_7 hb hwl ht
    have en : (l.getD 45 0).toNat = n := by omega
    have htm := ho.2.1
    obtain ⟨M3, A', D', v1, v2, v3, v4⟩ := c_keepT (en := tm + wst w 7) d4 hp q2 w1 w2.2 (by omega) w4 (w32_id (by omega) (by omega))
    have f3 : FK (fun z => z == 3) M2 M3 := v4 _ (by decide)
    have hu2 := d5.1
    have C3 : CPs M3 m al N pa own sd ps sn pu rf tm lf b (setS w (fup (wS w) p ((keepS (kyP l 25) (rdI l 46 n) (tm + wst w 7) (wS w p)).getD (wS w p)))) (h.1, h.2.1, A', D', h.2.2.2.2) := by
      refine ⟨BoC_fk f3 hu2 (by decide) d1, NetRep_fk f3 hu2 (by decide) d2, tbs_fk f3 ⟨by decide, by decide⟩ d3, v2, PeC_fk f3 ⟨by decide, by decide⟩ d5, RqsC_fk f3 (by decide) d6, d7, ?_, d9⟩
      obtain ⟨t1, t2⟩ := d8
      unfold cpCl at t1
      unfold cpWd at t2
      refine ⟨?_, ?_⟩
      · show nN M3 ≤ b.1 + (3 * h.1 + tbN N (wT w) h.2.1 + 3 * sumN A' N + 5 * sumN (fun q => (h.2.2.2.2 q).1) N)
        omega
      · show nU M3 ≤ b.2 + (466 * h.1 + tbU N m (wT w) h.2.1 + 11 * sumN A' N + 479 * sumN (fun q => (h.2.2.2.2 q).1) N)
        omega
    have a3 : ExA (A35 M) M M3 := a35.trA f3 (fun q hq hB => by
      have hB : (mo M2 q == 3) = true := hB
      rw [mo2 q hq] at hB
      exact Or.inl (by simpa using hB))
    have pe3 := (C3.2.2.2.2.1.2.2 p hp).1
    have k17'' : (kd M3 (pa p)).1 = 17 := by rw [pe3.1]
    have o3 : PkC M3 33 ol := PkC_fk f3 hu2 o2 (by rw [aq_mo bd2 (by unfold AQ BA; omega)]; decide) (by rw [aq_mo bd2 (q := 34) (by unfold AQ BA; omega)]; decide)
    rw [ht, swt_k (k := 4) (by decide) (by omega), L4, gfr_e k17', pe2.2.2.1.2.2.2.1, Option.bind_some, gfr_e k17', pe2.2.2.1.1, Option.bind_some, gfr_e k6', u1, Option.bind_some, gfi_e (by rw [d2.1.1]), d2.2.2.1, Option.bind_some, Option.bind_some, gfr_e k6', u1, Option.bind_some, ck_e (by rw [d2.1.1]), show f_X7_setting ((19 : Nat) : Int) 7 M2 = some (wst w 7) from e_setting (k := 7) d2 (by decide), Option.bind_some, ck_e stp.1.1, v1, Option.bind_some]
    unfold ansW
    rw [if_pos ht, en]
    cases hks : keepS (kyP l 25) (rdI l 46 n) (tm + wst w 7) (wS w p) with
    | some S' =>
      rw [hks] at C3
      dsimp only
      refine ⟨M3, _, ?_, C3, fun _ => ?_, a3⟩
      · rw [if_neg (by show ¬ (w32 1 = 0); decide)]; rfl
      · unfold ansB
        rw [if_neg (by omega), if_neg (by omega), if_neg (by omega), if_neg (by omega), if_neg (by omega), List.append_nil, ← hol]
        exact o3
    | none =>
      rw [hks] at C3
      dsimp only
      have eS : setS w (fup (wS w) p ((none : Option (List Post)).getD (wS w p))) = w := by
        show setS w (fup (wS w) p (wS w p)) = w
        rw [fup_self]; rfl
      rw [eS] at C3
      obtain ⟨C4, F4⟩ := cp_tally (j := 2) C3 hp (by decide)
      refine ⟨_, _, ?_, C4, fun z => absurd z (by decide), ?_⟩
      · rw [if_pos (by show w32 0 = 0; decide), gfi_e k17'', Option.bind_some, pfi_e k17'', Option.bind_some]
        rfl
      · refine a3.trA (F4 (fun z => z == 5) (by decide)) (fun q hq hB => ?_)
        have hB : (mo M3 q == 5) = true := hB
        rw [exa_mo a3 hq] at hB
        exact Or.inr (Or.inl (by simpa using hB))
  · -- FILTER
    have hk := hkey (by have := wl_45 hwl (Or.inr (Or.inr ht)); omega)
    obtain ⟨M3, n1, n2, n3⟩ := c_putBits bd2 pe2 p276 stp hDp k44' set9 (by rw [d2.1.1]) (by omega) o2 oll
    obtain ⟨f1, f2⟩ := fin M3 ((ExC_ex n3).mono (fun q hq => Or.inl hq)) (BoC_ex n3 (by unfold BA; omega) d1)
    rw [aw (by omega), ht, swt_k (k := 6) (by decide) (by omega), L6]
    refine ⟨M3, h, ?_, f1, fun _ => ?_, f2⟩
    · rw [gfr_e k17', pe2.2.2.1.1, Option.bind_some, gfr_e k6', u11, Option.bind_some, ck_e k17', n1, Option.bind_some]
      rfl
    · unfold ansB
      rw [if_neg (by omega), if_neg (by omega), if_pos ht, ← hol, ← hk]
      rw [List.append_assoc, List.append_assoc] at n2
      rw [List.append_assoc]
      exact n2
  · -- MATCH
    obtain ⟨n, w1, w2, w3, w4, w5⟩ := wl_11 hb hwl ht
    have hk := hkey (by omega)
    obtain ⟨M3, n1, n2, n3⟩ := c_putMatches bd2 pe2 p276 stp hDp k44' (by omega) hx q2 w3 w1 w2 ⟨w4, w5⟩ o2 oll
    obtain ⟨f1, f2⟩ := fin M3 ((ExC_ex n3).mono (fun q hq => Or.inl hq)) (BoC_ex n3 (by unfold BA; omega) d1)
    rw [aw (by omega), ht, swt_k (k := 8) (by decide) (by omega), L8]
    refine ⟨M3, h, ?_, f1, fun _ => ?_, f2⟩
    · rw [gfr_e k17', pe2.2.2.1.1, Option.bind_some, gfr_e k6', u11, Option.bind_some, ck_e k17', n1, Option.bind_some]
      rfl
    · unfold ansB
      rw [if_neg (by omega), if_neg (by omega), if_neg (by omega), if_pos ht, ← hol, ← hk]
      exact n2
  · -- CHECK
    obtain ⟨n, w1, w2, w3, w4⟩ := wl_13 hb hwl ht
    have en : (l.getD 45 0).toNat = n := by omega
    have hk := hkey (by omega)
    obtain ⟨M3, n1, n2, n3⟩ := c_putChecked bd2 pe2 p276 stp hDp k44' (by omega) hx q2 w1 w2.2 (by omega) w4 o2 oll
    obtain ⟨f1, f2⟩ := fin M3 ((ExC_ex n3).mono (fun q hq => by unfold AQ BA; omega)) (BoC_ex n3 (by omega) d1)
    rw [aw (by omega), ht, swt_k (k := 10) (by decide) (by omega), L10]
    refine ⟨M3, h, ?_, f1, fun _ => ?_, f2⟩
    · rw [gfr_e k17', pe2.2.2.1.1, Option.bind_some, gfr_e k6', u11, Option.bind_some, ck_e k17', n1, Option.bind_some]
      rfl
    · unfold ansB
      rw [if_neg (by omega), if_neg (by omega), if_neg (by omega), if_neg (by omega), if_pos ht, ← hol, ← hk, en]
      exact n2
end CPANS
