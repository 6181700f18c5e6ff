/-! works of the class: an answer, a failure -/
section CANSW2
variable {S : Nat → Bool} {M M1 M2 : MM} {m al N p t nb n Q pk k kx oth F : Nat} {pa tk : Nat → Nat} {own : Nat → Ky} {sd ps sn pu rf : Nat → Int} {tm how x1 : Int} {lf : Nat → Nat} {b0 : Nat × Nat} {h : Gh} {eg : EG} {pb as : Nat → Option Nat} {mn sto : Nat → Int} {fa : Nat → Nat} {Y Y0 Y1 Yx Yf : Ys} {l l' : List Int} {Lb : Nat → List Trm} {LA : Nat → List Nat} {dn : Nat → Int} {ev : Nat → Nat} {r : Option MM} {key : Ky}
theorem RW_pre (hx : FK F11 M M1) (hg : RW r M1 m al N pa own sd ps sn pu rf tm lf b0 tk pb as nb Lb LA dn t F Y1) : RW (r.bind fun M => some M) M m al N pa own sd ps sn pu rf tm lf b0 tk pb as nb Lb LA dn t F Y1 := by
  obtain ⟨M', h', lf', eg', mn', sto', fa', b0', a1, a2, a3, a4⟩ := hg
  exact ⟨M', h', lf', eg', mn', sto', fa', b0', by rw [a1]; rfl, a2, FK.trans hx a3, a4⟩
/-- lookups alone change -/
theorem CW_lk {lk : Nat → LkA} {eg' : EG} {h' : Gh} (hW : CW M m al N pa own sd ps sn pu rf tm lf b0 eg tk pb as nb mn fa Lb LA dn sto Y h) (h3 : ∀ t, t < 12 + N → yv Y 226 t ≠ 0 → yv Y 227 t = 3 → yv Y 247 t ≤ 3) (hC : CB M1 m al N pa own sd ps sn pu rf tm lf b0 eg' tk pb as nb mn fa (yw Y, lk, ys Y, yq Y) h') (f : FK (fun z => z == 6 || z == 7) M M1) : CW M1 m al N pa own sd ps sn pu rf tm lf b0 eg' tk pb as nb mn fa Lb LA dn sto (yw Y, lk, ys Y, yq Y) h' := by
  obtain ⟨⟨hC0, hPub, hLb, hrec, hmn, hst⟩, hA⟩ := hW
  have hu := hC0.2.1.1
  exact ⟨⟨hC, Pubs_fk f hu rfl hPub, Libs_fk f hu rfl hLb, hrec, hmn, hst⟩, Asks_fk f hu rfl h3 hA⟩
theorem anS_st (hg : yv (anS t l Y) 226 t ≠ 0) (hq : yv Y 230 t = 3 ∨ yv Y 230 t = 4 ∨ yv Y 230 t = 5) : yv (anS t l Y) 230 t ≠ 1 ∧ yv (anS t l Y) 230 t ≠ 2 := by
  revert hg
  unfold anS
  by_cases c3 : yv Y 230 t = 3
  · rw [if_pos c3]
    intro _
    have : yv (tbY t (l.getD 27 0) (rdF l 27) Y) 230 t = 4 := by
      show vI (st2 (st2 (ys Y) 256 t _) 230 t 4) 230 t = _
      rw [vI_eq rfl]; rfl
    rw [this]; exact ⟨by decide, by decide⟩
  · rw [if_neg c3]
    by_cases c4 : yv Y 230 t = 4
    · rw [if_pos c4]
      unfold tmY
      by_cases d1 : decide (l.getD 25 0 = 1) = true ∧ ((rdI l 27 (l.getD 26 0).toNat).foldl addL (qL (yq Y) t)).length < 200
      · rw [if_pos d1]
        intro _
        rw [show yv (yw Y, yl Y, st2 (ys Y) 254 t (yv Y 254 t + ((rdI l 27 (l.getD 26 0).toNat).length : Int)), lstQ t ((rdI l 27 (l.getD 26 0).toNat).foldl addL (qL (yq Y) t)) [] (yq Y)) 230 t = yv Y 230 t from vI_ne (by omega), c4]
        exact ⟨by decide, by decide⟩
      · rw [if_neg d1]
        by_cases d2 : (rdI l 27 (l.getD 26 0).toNat).foldl addL (qL (yq Y) t) = [] ∨ yv Y 247 t = 1
        · rw [if_pos d2]
          intro z; exact (z rnkY_0).elim
        · rw [if_neg d2]
          intro _
          have e : ∀ w lk sc q, yv (w, lk, st2 sc 230 t 5, q) 230 t = 5 := fun w lk sc q => by show vI (st2 sc 230 t 5) 230 t = _; rw [vI_eq rfl]; rfl
          rw [e]; exact ⟨by decide, by decide⟩
    · rw [if_neg c4]
      have c5 : yv Y 230 t = 5 := by omega
      unfold tcY
      obtain ⟨L1, hL1⟩ : ∃ L1, L1 = sftL (tcL (yv Y 264 t).toNat (rdI l 26 (l.getD 25 0).toNat) (qL (yq Y) t)) (tcF (yv Y 264 t).toNat (rdI l 26 (l.getD 25 0).toNat) (qL (yq Y) t) (qF (yq Y) t)) := ⟨_, rfl⟩
      rw [← hL1]
      by_cases d1 : (yv Y 264 t).toNat + 30 < (qL (yq Y) t).length
      · rw [if_pos d1]
        intro _
        have e : ∀ w lk v q, yv (w, lk, st2 (ys Y) 264 t v, q) 230 t = 5 := fun w lk v q => by show vI (st2 (ys Y) 264 t v) 230 t = _; rw [vI_ne (by omega)]; exact c5
        rw [e]; exact ⟨by decide, by decide⟩
      · rw [if_neg d1]
        by_cases d2 : L1 = [] ∨ yv Y 247 t ≤ (if yv Y 263 t = 0 then 2 else 3)
        · rw [if_pos d2]
          intro z; exact (z rnkY_0).elim
        · rw [if_neg d2]
          intro _
          have e : ∀ w lk v q, yv (w, lk, st2 (st2 (ys Y) 263 t v) 264 t 0, q) 230 t = 5 := fun w lk v q => by show vI (st2 (st2 (ys Y) 263 t v) 264 t 0) 230 t = _; rw [vI_ne (by omega), vI_ne (by omega)]; exact c5
          rw [e]; exact ⟨by decide, by decide⟩
theorem FT_anS (hr : 0 ≤ yv Y 229 t) : FT t Y (anS t l Y) := by
  unfold anS
  split
  · exact FT_tb
  · split
    · exact FT_tm hr
    · exact FT_tc hr
theorem std_v {done : Bool} {sc : VV} {a i : Nat} (h : a ≠ 245 ∧ a ≠ 246 ∧ a ≠ 269) {v : Int} : vI (stdS t done (st2 sc 245 t v)) a i = vI sc a i := by
  unfold stdS
  split
  · split
    · rw [vI_ne (by omega), vI_ne (by omega)]
    · rw [vI_ne (by omega)]
  · rw [vI_ne (by omega), vI_ne (by omega)]
theorem FT_std {done : Bool} : FT t Y (yw Y, yl Y, stdS t done (st2 (ys Y) 245 t (yv Y 245 t - 1)), yq Y) := by
  have e : FTs t (yv Y 229 t) (ys Y) (stdS t done (st2 (ys Y) 245 t (yv Y 245 t - 1))) := fun a i hw => by
    unfold wrT at hw
    unfold stdS
    have e9 : vI (st2 (ys Y) 245 t (yv Y 245 t - 1)) 229 t = yv Y 229 t := vI_ne (by omega)
    rw [e9]
    split
    · split
      · rename_i c
        rw [vI_ne (by have c : 0 ≤ yv Y 229 t := c; omega), vI_ne (by omega)]
      · rw [vI_ne (by omega)]
    · rw [vI_ne (by omega), vI_ne (by omega)]
  exact ⟨fun _ _ _ => rfl, fun _ _ => rfl, e, ⟨std_v (by decide), std_v (by decide), std_v (by decide)⟩, .refl⟩
/-- an answer comes to a work of the class -/
theorem c_answered (hB : bdg N ev oth) (hal : al ≤ 8) (ht : t < 12 + N) (hN : 12 + N ≤ 44) (hW : CW M m al N pa own sd ps sn pu rf tm lf b0 eg tk pb as nb mn fa Lb LA dn sto Y h) (h3 : ∀ t, t < 12 + N → yv Y 226 t ≠ 0 → yv Y 227 t = 3 → yv Y 247 t ≤ 3) (hr : rmR t Y0 Y) (hw : wE N own Lb Y0 t) (hg : yv Y0 226 t ≠ 0) (hq : PkC M 22 l) (hb : isBL l) (hll : l.length ≤ 460) (hwl : wellL l = true) (hty : l.getD 0 0 = tyS Y0 t + 1) (hx1 : x1 = if yv Y0 230 t = 1 then 0 else 1) (hk : isK M kx) (hkx : kd M kx ≠ (3, 30) ∧ kd M kx ≠ (3, 12)) (hkey : ky (kC M kx) = key) (h22 : mo M 22 = 9 ∧ mo M 23 = 9) (hR : RunP (fun Y => LI N own Lb Y t ∧ sdY m N own tm Lb ev Y) m al N own sd tm Lb t n (ans0 t key l Y)) (hmu : mu own (ans0 t key l Y) t < n) (hmu2 : mu own (ans0 t key l Y) t ≤ 1410) (hlf : lf t + 2 * mu own (ans0 t key l Y) t + 4 < 2147483648) :
    RW (f_X11_answered ((wa pa t : Nat) : Int) x1 (kx : Int) ((22 : Nat) : Int) M) M m al N pa own sd ps sn pu rf tm lf b0 tk pb as nb Lb LA dn t (lf t + 2 * mu own (ans0 t key l Y) t + 1) (prY m al N own sd tm Lb t n (ans0 t key l Y)) := by
  obtain ⟨r1, r2, r3, r4, r5⟩ := hr
  have v : ∀ a i, yv Y a i = yv Y0 a i := fun a i => by show vI (ys Y) a i = vI (ys Y0) a i; rw [r2]
  have eY : Y = setW Y0 (yw Y) := by
    show (Y.1, Y.2.1, Y.2.2.1, Y.2.2.2) = (Y.1, Y0.2.1, Y0.2.2.1, Y0.2.2.2)
    rw [show Y.2.1 = Y0.2.1 from r1, show Y.2.2.1 = Y0.2.2.1 from r2, show Y.2.2.2 = Y0.2.2.2 from r3]
  obtain ⟨hh0, hk0⟩ := wOK_hd hw.1 hg
  have hh : hdW N Y t := hdW_ag hh0 (fun a _ => v a t)
  have hgo : yv Y 226 t ≠ 0 := by rw [v]; exact hg
  have t44 : t < 44 := by omega
  obtain ⟨fR, mR, _⟩ := run_ft t44 n _ hR
  obtain ⟨⟨hC, hPub, hLb, hrec, hmn, hst⟩, hA⟩ := id hW
  have w1 := (hC.2.1.2.2.1 t ht).1
  have g := (hC.2.2.1 t ht).2.2.2 hgo
  by_cases c1 : yv Y0 230 t = 1
  · have cY : yv Y 230 t = 1 := by rw [v]; exact c1
    have ea : ans0 t key l Y = (yw Y, fup (yl Y) t (lkA1 key l (yl Y t)), ys Y, yq Y) := by unfold ans0; rw [if_pos cY]
    rw [ea] at hR hmu hmu2 hlf ⊢
    obtain ⟨M', eg', e1, e2, e3⟩ := c_ansLook hC ht hq hb hwl (by rw [hty, r1]; unfold tyS; rw [if_pos c1]) hk hkx hkey h22
    rw [hx1, if_pos c1, e1]
    exact RW_pre (e3.mono (mo2 ⟨rfl, rfl⟩)) (c_goW hB hal ht hN (CW_lk hW h3 e2 e3) h3 hgo cY hR hmu hmu2 hlf)
  · rw [hx1, if_neg c1]
    by_cases c2 : yv Y0 230 t = 2
    · have cY : yv Y 230 t = 2 := by rw [v]; exact c2
      have k2 : yv Y 227 t = 2 := by
        rw [v]
        rcases hk0 with z | z | z | z
        · omega
        · omega
        · exact z.1
        · rcases z.2.2.2.2 with y | y
          · omega
          · have := y.1.2.1; omega
      have ea : ans0 t key l Y = (yw Y, yl Y, stdS t true (st2 (ys Y) 245 t (yv Y 245 t - 1)), yq Y) := by unfold ans0; rw [cY, if_neg (by decide), if_pos rfl]
      rw [ea] at hR hmu hmu2 hlf fR ⊢
      obtain ⟨e3, e4⟩ := g.2.2.2.2.1 k2
      obtain ⟨P, hP⟩ : ∃ P, pb t = some P := by
        cases h : pb t with
        | none => exact absurd h e4
        | some P => exact ⟨P, rfl⟩
      rw [hP] at e3
      have e3 : rR M (wa pa t) 3 = (P : Int) := e3
      have PS := (hPub.1 t ht P hP).1
      have k30 : (kd M P).1 = 30 := by rw [PS.1]
      obtain ⟨M', h', lf', eg', mn', sto', fa', b0', a1, a2, a3, a4, a5, a6, a7⟩ := c_over30 (done := true) hB hal ht hN hW.1 hh k2 cY hP hR hmu hmu2 hlf
      refine CQ_RW hW h3 (by rw [k2]; decide) (FT_std.trans fR) ?_ a2 a3 ⟨a4, a5, by omega⟩ a7
      unfold f_X11_answered
      rw [if_pos rfl, gfr_e w1.1, e3, Option.bind_some]
      rw [ckE_t k30]
      unfold f_X30_answered j_X11_answered_14
      have eo : ovM M P true = sI M P 5 (rI M P 5 + 1) := rfl
      rw [gfi_e k30, Option.bind_some, pfi_e k30, Option.bind_some, ck_e (by rw [kd_sI]; exact k30), ← eo, a1]
      rfl
    · obtain ⟨_, k3, ht12, _, hq0, _⟩ := wOK_q hw.1 hg c1 c2
      have k3Y : yv Y 227 t = 3 := by rw [v]; exact k3
      have cY1 : yv Y 230 t ≠ 1 := by rw [v]; exact c1
      have cY2 : yv Y 230 t ≠ 2 := by rw [v]; exact c2
      have hqY : qOK own Y t := by rw [eY]; exact hq0
      rw [ans0_S cY1 cY2] at hR hmu hmu2 hlf fR mR ⊢
      obtain ⟨e3, e4⟩ := g.2.2.2.2.2 k3Y
      obtain ⟨Q, hQ⟩ : ∃ Q, as t = some Q := by
        cases h : as t with
        | none => exact absurd h e4
        | some Q => exact ⟨Q, rfl⟩
      rw [hQ] at e3
      have e3 : rR M (wa pa t) 3 = (Q : Int) := e3
      obtain ⟨hS, hF⟩ := hA.1 t ht Q hQ
      have k31 : (kd M Q).1 = 31 := by rw [hS.1]
      have hsh : shp (yv Y 230 t) l := shp_wl hb hll hwl (by
        have := hq0.2.1
        rw [v, hty]
        unfold tyS
        rcases this with e | e | e <;> rw [e]
        · exact Or.inl ⟨rfl, rfl⟩
        · exact Or.inr (Or.inl ⟨rfl, rfl⟩)
        · exact Or.inr (Or.inr ⟨rfl, rfl⟩))
      have n22 : ¬ AQs Q 22 ∧ ¬ AQs Q (22 + 1) := ⟨fun z => by have := AQ_mo hS z; rw [h22.1] at this; exact absurd this (by decide), fun z => by have := AQ_mo hS z; rw [show (22 + 1 : Nat) = 23 from rfl, h22.2] at this; exact absurd this (by decide)⟩
      have gE := q_ans (k := 200) (q_run (m := m) (al := al) (tm := tm) (sd := sd) (Lb := Lb) (ev := ev) (by omega) hN n) hC hS (hF hgo k3Y) hmn hrec hh ht12 (by omega) k3Y hqY hq hsh n22 (fun _ => hR) (by decide) (fun z => by
        have st := anS_st z hqY.2.1
        have LIa : LI N own Lb (anS t l Y) t := by
          cases n with
          | zero => exact hR.elim
          | succ n => exact hR.1.1
        have := dq_le (wOK_q LIa.1 z st.1 st.2).2.2.2.2.1
        omega)
      have hr0 : 0 ≤ yv Y 229 t := hh.2.2.1 ht12
      have gR := QR_RW hW h3 ht12 hQ hgo k3Y ((FT_anS hr0).trans fR) (QE_R gE mR) (Nat.le_refl _)
      unfold f_X11_answered j_X11_answered_14
      rw [if_pos rfl, gfr_e w1.1, e3, Option.bind_some]
      rw [ckE_f (by rw [k31]; decide), ckE_t k31]
      exact RW_pre .refl gR
/-- a request of a work fails -/
theorem c_failed (hB : bdg N ev oth) (hal : al ≤ 8) (ht : t < 12 + N) (hN : 12 + N ≤ 44) (hW : CW M m al N pa own sd ps sn pu rf tm lf b0 eg tk pb as nb mn fa Lb LA dn sto Y h) (h3 : ∀ t, t < 12 + N → yv Y 226 t ≠ 0 → yv Y 227 t = 3 → yv Y 247 t ≤ 3) (hr : rmR t Y0 Y) (hw : wE N own Lb Y0 t) (hg : yv Y0 226 t ≠ 0) (hx1 : x1 = if yv Y0 230 t = 1 then 0 else 1) (hk : isK M kx) (hkey : ky (kC M kx) = key) (hR : RunP (fun Y => LI N own Lb Y t ∧ sdY m N own tm Lb ev Y) m al N own sd tm Lb t n (fai0 t key Y)) (hmu : mu own (fai0 t key Y) t < n) (hmu2 : mu own (fai0 t key Y) t ≤ 1410) (hlf : lf t + 2 * mu own (fai0 t key Y) t + 4 < 2147483648) :
    RW (f_X11_failed ((wa pa t : Nat) : Int) x1 (kx : Int) M) M m al N pa own sd ps sn pu rf tm lf b0 tk pb as nb Lb LA dn t (lf t + 2 * mu own (fai0 t key Y) t + 1) (prY m al N own sd tm Lb t n (fai0 t key Y)) := by
  obtain ⟨r1, r2, r3, r4, r5⟩ := hr
  have v : ∀ a i, yv Y a i = yv Y0 a i := fun a i => by show vI (ys Y) a i = vI (ys Y0) a i; rw [r2]
  obtain ⟨hh0, hk0⟩ := wOK_hd hw.1 hg
  have hh : hdW N Y t := hdW_ag hh0 (fun a _ => v a t)
  have hgo : yv Y 226 t ≠ 0 := by rw [v]; exact hg
  have t44 : t < 44 := by omega
  obtain ⟨fR, mR, _⟩ := run_ft t44 n _ hR
  obtain ⟨⟨hC, hPub, hLb, hrec, hmn, hst⟩, hA⟩ := id hW
  have w1 := (hC.2.1.2.2.1 t ht).1
  have g := (hC.2.2.1 t ht).2.2.2 hgo
  by_cases c1 : yv Y0 230 t = 1
  · have cY : yv Y 230 t = 1 := by rw [v]; exact c1
    have ea : fai0 t key Y = (yw Y, fup (yl Y) t ((yl Y t).1, (yl Y t).2.1, flE key (yl Y t).2.2.1, w32 ((yl Y t).2.2.2 - 1)), ys Y, yq Y) := by unfold fai0; rw [if_pos cY]
    rw [ea] at hR hmu hmu2 hlf ⊢
    obtain ⟨M', e1, e2, e3⟩ := c_faiLook hC ht hk hkey
    rw [hx1, if_pos c1, e1]
    exact RW_pre (e3.mono (mo2 ⟨rfl, rfl⟩)) (c_goW hB hal ht hN (CW_lk hW h3 e2 e3) h3 hgo cY hR hmu hmu2 hlf)
  · rw [hx1, if_neg c1]
    by_cases c2 : yv Y0 230 t = 2
    · have cY : yv Y 230 t = 2 := by rw [v]; exact c2
      have k2 : yv Y 227 t = 2 := by
        rw [v]
        rcases hk0 with z | z | z | z
        · omega
        · omega
        · exact z.1
        · rcases z.2.2.2.2 with y | y
          · omega
          · have := y.1.2.1; omega
      have ea : fai0 t key Y = (yw Y, yl Y, stdS t false (st2 (ys Y) 245 t (yv Y 245 t - 1)), yq Y) := by unfold fai0; rw [cY, if_neg (by decide), if_pos rfl]
      rw [ea] at hR hmu hmu2 hlf fR ⊢
      obtain ⟨e3, e4⟩ := g.2.2.2.2.1 k2
      obtain ⟨P, hP⟩ : ∃ P, pb t = some P := by
        cases h : pb t with
        | none => exact absurd h e4
        | some P => exact ⟨P, rfl⟩
      rw [hP] at e3
      have e3 : rR M (wa pa t) 3 = (P : Int) := e3
      have PS := (hPub.1 t ht P hP).1
      have k30 : (kd M P).1 = 30 := by rw [PS.1]
      obtain ⟨M', h', lf', eg', mn', sto', fa', b0', a1, a2, a3, a4, a5, a6, a7⟩ := c_over30 (done := false) hB hal ht hN hW.1 hh k2 cY hP hR hmu hmu2 hlf
      refine CQ_RW hW h3 (by rw [k2]; decide) (FT_std.trans fR) ?_ a2 a3 ⟨a4, a5, by omega⟩ a7
      unfold f_X11_failed
      rw [if_pos rfl, gfr_e w1.1, e3, Option.bind_some]
      rw [ckE_t k30]
      unfold f_X30_failed j_X11_failed_13
      have eo : ovM M P false = sI M P 6 1 := rfl
      rw [pfz_e k30 (Or.inr rfl), Option.bind_some, ck_e (by rw [kd_sI]; exact k30), ← eo, a1]
      rfl
    · obtain ⟨_, k3, ht12, _, hq0, _⟩ := wOK_q hw.1 hg c1 c2
      have k3Y : yv Y 227 t = 3 := by rw [v]; exact k3
      have ea : fai0 t key Y = clY t 2 Y := by unfold fai0; rw [if_neg (by rw [v]; exact c1), if_neg (by rw [v]; exact c2)]
      rw [ea] at hR hmu hmu2 hlf fR mR ⊢
      obtain ⟨e3, e4⟩ := g.2.2.2.2.2 k3Y
      obtain ⟨Q, hQ⟩ : ∃ Q, as t = some Q := by
        cases h : as t with
        | none => exact absurd h e4
        | some Q => exact ⟨Q, rfl⟩
      rw [hQ] at e3
      have e3 : rR M (wa pa t) 3 = (Q : Int) := e3
      obtain ⟨hS, hF⟩ := hA.1 t ht Q hQ
      have k31 : (kd M Q).1 = 31 := by rw [hS.1]
      have c0 : yv (clY t 2 Y) 226 t = 0 := clS_0
      rw [prY_0 c0]
      have hr0 : 0 ≤ yv Y 229 t := hh.2.2.1 ht12
      obtain ⟨M3, d1, d2, d3⟩ := c_end (how := 2) hC (t := t) ht hgo (rc_ok hrec hh) (Or.inl (by decide)) (by decide) (by omega)
      have gR : QR (f_X31_failed (Q : Int) ((wa pa t : Nat) : Int) M) M m al N pa own sd ps sn pu rf tm lf b0 tk pb as nb Q t (clY t 2 Y) (clY t 2 Y) := by
        refine ⟨M3, h, _, eg, mn, fa, b0, ?_, d2, XR_fk d3 (mo2 ⟨rfl, rfl⟩) rfl, fun z => absurd c0 z, ⟨fun z hz => fup_ne hz, by rw [fup_eq]; omega, by rw [fup_eq]; omega⟩, fun r hr => ?_, Or.inl rfl⟩
        · unfold f_X31_failed
          rw [ck_e w1.1, d1, Option.bind_some]
        · rw [show yv (clY t 2 Y) 269 r = yv Y 269 r from clS_ne (by omega) (by omega)]; exact hmn r hr
      have gW := QR_RW hW h3 ht12 hQ hgo k3Y (FT_cl) gR (Nat.le_refl _)
      unfold f_X11_failed j_X11_failed_13
      rw [if_pos rfl, gfr_e w1.1, e3, Option.bind_some]
      rw [ckE_f (by rw [k31]; decide), ckE_t k31]
      exact RW_pre .refl gW
end CANSW2
