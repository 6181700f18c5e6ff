/-! a publishing of the class is answered -/
section COVER
variable {M M1 M2 : MM} {m al N p t nb n P oth : Nat} {pa tk : Nat → Nat} {own : Nat → Ky} {sd ps sn pu rf : Nat → Int} {tm how : Int} {lf : Nat → Nat} {b0 : Nat × Nat} {h : Gh} {eg : EG} {pb as : Nat → Option Nat} {mn sto : Nat → Int} {fa : Nat → Nat} {Y : Ys} {Lb : Nat → List Trm} {LA : Nat → List Nat} {dn : Nat → Int} {ev : Nat → Nat} {done : Bool}
/-- what comes to a publishing -/
def ovM (M : MM) (P : Nat) (done : Bool) : MM := if done = true then sI M P 5 (rI M P 5 + 1) else sI M P 6 1
theorem c_over30 (hB : bdg N ev oth) (hal : al ≤ 8) (ht : t < 12 + N) (hN : 12 + N ≤ 44) (hQ : CQ M m al N pa own sd ps sn pu rf tm lf b0 eg tk pb as nb mn fa Lb LA dn sto Y h) (hh : hdW N Y t) (hk : yv Y 227 t = 2) (h2 : yv Y 230 t = 2) (hPt : pb t = some P) (hR : RunP (fun Y => LI N own Lb Y t ∧ sdY m N own tm Lb ev Y) m al N own sd tm Lb t n (yw Y, yl Y, stdS t done (st2 (ys Y) 245 t (yv Y 245 t - 1)), yq Y)) (hmu : mu own (yw Y, yl Y, stdS t done (st2 (ys Y) 245 t (yv Y 245 t - 1)), yq Y) t < n) (hmu2 : mu own (yw Y, yl Y, stdS t done (st2 (ys Y) 245 t (yv Y 245 t - 1)), yq Y) t ≤ 1410) (hlf : lf t + 2 * mu own (yw Y, yl Y, stdS t done (st2 (ys Y) 245 t (yv Y 245 t - 1)), yq Y) t + 4 < 2147483648) :
    ∃ M' h' lf' eg' mn' sto' fa' b0', f_X30_over (P : Int) ((wa pa t : Nat) : Int) (ovM M P done) = some M' ∧ CQ M' m al N pa own sd ps sn pu rf tm lf' b0' eg' tk pb as nb mn' fa' Lb LA dn sto' (prY m al N own sd tm Lb t n (yw Y, yl Y, stdS t done (st2 (ys Y) 245 t (yv Y 245 t - 1)), yq Y)) h' ∧ FK F8 M M' ∧ (∀ z, z ≠ t → lf' z = lf z) ∧ lf t ≤ lf' t ∧ lf' t + 2 * mu own (prY m al N own sd tm Lb t n (yw Y, yl Y, stdS t done (st2 (ys Y) 245 t (yv Y 245 t - 1)), yq Y)) t ≤ lf t + 2 * mu own (yw Y, yl Y, stdS t done (st2 (ys Y) 245 t (yv Y 245 t - 1)), yq Y) t ∧ BS b0 b0' (prY m al N own sd tm Lb t n (yw Y, yl Y, stdS t done (st2 (ys Y) 245 t (yv Y 245 t - 1)), yq Y)) t := by
  obtain ⟨Yd, hYd⟩ : ∃ Yd : Ys, Yd = (yw Y, yl Y, stdS t done (st2 (ys Y) 245 t (yv Y 245 t - 1)), yq Y) := ⟨_, rfl⟩
  rw [← hYd] at hR hmu hmu2 hlf ⊢
  obtain ⟨hC, hPub, hLb, hrec, hmn, hst⟩ := hQ
  have hgo : yv Y 226 t ≠ 0 := by rw [hh.1]; decide
  have hrc := rc_ok hrec hh
  have hu := hC.2.1.1
  obtain ⟨PS, PF⟩ := hPub.1 t ht P hPt
  obtain ⟨pT, f2, f3, f4, f5, f6⟩ := PF hgo hk
  rw [show vI (ys Y) 230 t = 2 from h2, if_pos rfl] at f4
  have k30 : (kd M P).1 = 30 := by rw [PS.1]
  have v : ∀ a i, a ≠ 245 → a ≠ 246 → a ≠ 269 → yv Yd a i = yv Y a i := fun a i z1 z2 z3 => by
    rw [hYd]
    show vI (stdS t done (st2 (ys Y) 245 t (yv Y 245 t - 1))) a i = _
    rw [stdS_ne z2 z3, vI_ne (by omega)]
  have v5 : yv Yd 245 t = w32 (yv Y 245 t - 1) := by
    rw [hYd]
    show vI (stdS t done (st2 (ys Y) 245 t (yv Y 245 t - 1))) 245 t = _
    rw [stdS_ne (by decide) (by decide), vI_eq rfl]
  obtain ⟨M1, hM1⟩ : ∃ M1, M1 = ovM M P done := ⟨_, rfl⟩
  obtain ⟨M2, hM2⟩ : ∃ M2, M2 = sI M1 P 4 (yv Y 245 t - 1) := ⟨_, rfl⟩
  have ex1 : Ex (fun z => z = P) M M1 := by
    rw [hM1]
    unfold ovM
    by_cases c : done = true
    · rw [if_pos c]; exact Ex.st (A := fun z => z = P) rfl
    · rw [if_neg c]; exact Ex.st (A := fun z => z = P) rfl
  have ex2 : Ex (fun z => z = P) M M2 := by rw [hM2]; exact ex1.trans (Ex.st (A := fun z => z = P) rfl)
  obtain ⟨sv, hsv⟩ : ∃ sv : Int, sv = if done = true then w32 (sto t + 1) else sto t := ⟨_, rfl⟩
  have I1 : ∀ i, rI M1 P i = if i = 5 then sv else if i = 6 then yv Yd 246 t else rI M P i := fun i => by
    rw [hM1]
    unfold ovM
    cases hd : done with
    | true =>
      rw [if_pos rfl, rI_sI]
      by_cases c5 : i = 5
      · rw [if_pos ⟨rfl, c5⟩, if_pos c5, hsv, hd, if_pos rfl, f5]
      · rw [if_neg (fun z => c5 z.2), if_neg c5]
        by_cases c6 : i = 6
        · rw [if_pos c6, c6, f6, hYd, hd]
          show yv Y 246 t = vI (stdS t true (st2 (ys Y) 245 t (yv Y 245 t - 1))) 246 t
          unfold stdS
          rw [if_pos rfl]
          by_cases c : 0 ≤ vI (st2 (ys Y) 245 t (yv Y 245 t - 1)) 229 t
          · rw [if_pos c, vI_ne (by omega), vI_ne (by omega)]
          · rw [if_neg c, vI_ne (by omega)]
        · rw [if_neg c6]
    | false =>
      rw [if_neg (by decide), rI_sI]
      by_cases c5 : i = 5
      · rw [if_neg (by omega), if_pos c5, hsv, hd, if_neg (by decide), c5]; exact f5
      · rw [if_neg c5]
        by_cases c6 : i = 6
        · rw [if_pos ⟨rfl, c6⟩, if_pos c6, hYd, hd]
          show _ = vI (stdS t false (st2 (ys Y) 245 t (yv Y 245 t - 1))) 246 t
          unfold stdS
          rw [if_neg (by decide), vI_eq rfl]
        · rw [if_neg (fun z => c6 z.2), if_neg c6]
  have I2 : ∀ i, rI M2 P i = if i = 4 then yv Yd 245 t else rI M1 P i := fun i => by
    rw [hM2, rI_sI]
    by_cases c : i = 4
    · rw [if_pos ⟨rfl, c⟩, if_pos c, v5]
    · rw [if_neg (fun z => c z.2), if_neg c]
  obtain ⟨sto', hsto'⟩ : ∃ sto', sto' = fup sto t sv := ⟨_, rfl⟩
  have est : sto' t = sv := by rw [hsto']; exact fup_eq
  -- the state behind
  obtain ⟨C2, fk2⟩ := CB_13 hC PS ex2
  have C2 : CB M2 m al N pa own sd ps sn pu rf tm lf b0 eg tk pb as nb mn fa Yd h := by
    rw [hYd]
    exact CB_sc C2 (fun a i z => by rw [stdS_ne (by omega) (by omega), vI_ne (by omega)]) rfl
  have h02 : PubsC M2 (12 + N) pb Lb LA sto (st2 (ys Y) 226 t 0) := Pubs_0 hu ht hPt (Pubs_going hPub) ex2
  have Lib2 := Libs_fk fk2 hu (by decide) hLb
  have hu2 := C2.2.1.1
  have PS2 := (h02.1 t ht P hPt).1
  have fd : FT t Y Yd := by
    rw [hYd]
    have e9 : vI (st2 (ys Y) 245 t (yv Y 245 t - 1)) 229 t = yv Y 229 t := vI_ne (by omega)
    exact ⟨.refl, fun _ _ => rfl, (FTs_st (Or.inl ⟨by omega, rfl⟩)).trans (FTs_std e9.symm), ⟨by rw [← hYd]; exact v _ _ (by decide) (by decide) (by decide), by rw [← hYd]; exact v _ _ (by decide) (by decide) (by decide), by rw [← hYd]; exact v _ _ (by decide) (by decide) (by decide)⟩, .refl⟩
  have hhd : hdW N Yd t := hd_ft hh fd (v _ _ (by decide) (by decide) (by decide))
  have god : yv Yd 226 t ≠ 0 := by rw [hhd.1]; decide
  have recd : recY nb Yd := rec_ft hrec fd (fun _ => hgo)
  have svw : w32 sv = sv := by
    rw [← show rI M1 P 5 = sv from by rw [I1, if_pos rfl]]; exact w32_rI
  obtain ⟨M3, k1, k2, k3⟩ := CB_task1 (v := sv) C2 ht god (by rw [v _ _ (by decide) (by decide) (by decide)]; exact hrc) svw
  have v9 : yv Yd 229 t = yv Y 229 t := v _ _ (by decide) (by decide) (by decide)
  rw [v9] at k2
  obtain ⟨P13, P113⟩ := PbS_mo PS2
  have Pl := PbS_lt hu2 PS2
  have I3 : ∀ i, rI M3 P i = rI M2 P i := fun i => k3.rI (by omega) (by rw [P13]; rfl) i
  have R3 : ∀ i, rR M3 (P + 1) i = rR M (P + 1) i := fun i => by rw [k3.rR (by omega) (by rw [P113]; rfl), ex2.rR]
  have t9 : 0 ≤ yv Y 229 t → sv = yv Yd 269 (yv Y 229 t).toNat := fun z => by
    have t12 : t < 12 := by
      by_cases c : t < 12
      · exact c
      · have := (hh.2.2.2 (by omega)).1; omega
    rw [hsv, hst t t12 hgo hk, hYd]
    show _ = vI (stdS t done (st2 (ys Y) 245 t (yv Y 245 t - 1))) 269 _
    unfold stdS
    cases done with
    | true => rw [if_pos rfl, if_pos rfl, vI_ne (by omega), if_pos z, vI_eq rfl, vI_ne (by omega)]
    | false => rw [if_neg (by decide), if_neg (by decide), vI_ne (by omega), vI_ne (by omega)]
  have b28 : t < 12 ∨ yv Y 229 t < 0 := by
    by_cases c : t < 12
    · exact Or.inl c
    · have := (hh.2.2.2 (by omega)).1; exact Or.inr (by omega)
  have mnB : ∀ (Y3 : Ys), (∀ r, yv Y3 269 r = yv Yd 269 r) → ∀ r, r < nb → mnU (yv Y 229 t) sv mn r = yv Y3 269 r := fun Y3 e9 r hr => by
    rw [e9]
    have base := mn_ft (mn := mn) fd hmn r hr
    unfold mnU
    by_cases c : yv Y 229 t < 0
    · rw [if_pos c]; exact base (by omega)
    · rw [if_neg c]
      unfold fup
      by_cases d : r = (yv Y 229 t).toNat
      · rw [if_pos d, d]; exact t9 (by omega)
      · rw [if_neg d]; exact base (fun z => d z.2)
  have stB : ∀ (Y3 : Ys), FT t Yd Y3 → (∀ r, yv Y3 269 r = yv Yd 269 r) → ∀ t, t < 12 → yv Y3 226 t ≠ 0 → yv Y3 227 t = 2 → sto' t = yv Y3 269 (yv Y3 229 t).toNat := fun Y3 f3 e9 t' h12 z1 z2 => by
    by_cases e : t' = t
    · rw [e] at h12 ⊢
      rw [e9, f3.2.2.2.1.2.2, v9, est]
      exact t9 ((hrec.2 t h12 hgo).1.1)
    · rw [hsto', fup_ne e]
      exact sto_ft hst hrec hgo (fd.trans f3) b28 t' e h12 z1 z2
  have h03 : PubsC M3 (12 + N) pb Lb LA sto' (st2 (ys Yd) 226 t 0) := by
    have H := Pubs_fk k3 hu2 (by decide) h02
    refine Pubs_w (sto := sto) (sc := st2 (ys Y) 226 t 0) (M := M3) (M1 := M3) k2.2.1.1 ht hPt H .refl (fun t' z b y => ?_) (fun t' z => by rw [hsto']; exact fup_ne z) (H.1 t ht P hPt).1 (fun z => absurd (by rw [vI_eq rfl]; rfl) z)
    rw [vI_ne (by omega), vI_ne (by omega)]
    exact fd.2.2.1 b t' (by unfold wrT; omega)
  have Lib3 := Libs_fk k3 hu2 (by decide) Lib2
  have k303 : (kd M3 P).1 = 30 := by rw [(h03.1 t ht P hPt).1.1]
  have vpd := FT_p fd
  have pT3 : PbT M3 P (pbL (yv Yd 243 t).toNat (Lb (yp Yd t)) (LA (yp Yd t))) := by
    rw [v 243 t (by decide) (by decide) (by decide), vpd]
    exact ⟨by rw [I3, I2, if_neg (by decide), I1, if_neg (by decide), if_neg (by decide)]; exact pT.1, pT.2.1, fun i hi => by rw [R3]; exact pT.2.2 i hi⟩
  have e2 : rI M3 P 2 = yv Yd 244 t := by rw [I3, I2, if_neg (by decide), I1, if_neg (by decide), if_neg (by decide), f2]; exact (v 244 t (by decide) (by decide) (by decide)).symm
  have e3 : rI M3 P 3 = yv Yd 243 t := by rw [I3, I2, if_neg (by decide), I1, if_neg (by decide), if_neg (by decide), f3]; exact (v 243 t (by decide) (by decide) (by decide)).symm
  have e4 : rI M3 P 4 = yv Yd 245 t := by rw [I3, I2, if_pos rfl]
  have e5 : rI M3 P 5 = sto' t := by rw [I3, I2, if_neg (by decide), I1, if_pos rfl, est]
  have e6 : rI M3 P 6 = yv Yd 246 t := by rw [I3, I2, if_neg (by decide), I1, if_neg (by decide), if_pos rfl]
  have fk3 : FK F8 M M3 := FK.trans (fk2.mono (mo1 rfl)) (k3.mono (mo1 rfl))
  have d30 : yv Yd 230 t = 2 := by rw [v _ _ (by decide) (by decide) (by decide)]; exact h2
  have kd2 : yv Yd 227 t = 2 := by rw [v _ _ (by decide) (by decide) (by decide)]; exact hk
  have run : f_X30_over (P : Int) ((wa pa t : Nat) : Int) (ovM M P done) = j_X30_over_28 (P : Int) ((wa pa t : Nat) : Int) M3 := by
    unfold f_X30_over
    rw [← hM1, gfi_e (by rw [ex1.kd]; exact k30), show rI M1 P 4 = yv Y 245 t from by rw [I1, if_neg (by decide), if_neg (by decide)]; exact f4, Option.bind_some, pfi_e (by rw [ex1.kd]; exact k30), Option.bind_some, ← hM2]
    rw [show ((gfr 11 4 ((wa pa t : Nat) : Int) M2).bind fun v1 => if v1 = -1 then j_X30_over_28 (P : Int) ((wa pa t : Nat) : Int) M2 else (gfr 11 4 ((wa pa t : Nat) : Int) M2).bind fun v2 => (gfi 30 5 (P : Int) M2).bind fun v3 => (pfi 26 4 v2 v3 M2).bind fun M1 => j_X30_over_28 (P : Int) ((wa pa t : Nat) : Int) M1) = j_X30_over_28 (P : Int) ((wa pa t : Nat) : Int) M3 from by rw [gfi_e (by rw [ex2.kd]; exact k30), show rI M2 P 5 = sv from by rw [I2, if_neg (by decide), I1, if_pos rfl]]; exact k1 _]
  rw [run]
  obtain ⟨n, rfl⟩ : ∃ k, n = k + 1 := ⟨n - 1, by omega⟩
  obtain ⟨⟨hLI, hsd⟩, hR⟩ := hR
  obtain ⟨_, hR2, _⟩ := hR god
  have w45 : w32 (yv Yd 245 t) = yv Yd 245 t := w32_vI
  have epr : prY m al N own sd tm Lb t (n + 1) Yd = if yv Yd 245 t = 0 then prY m al N own sd tm Lb t n (nxtY m own Lb t Yd) else Yd := by
    rw [prY, if_neg god, if_neg (by rw [d30]; decide), if_pos d30]
  rw [epr]
  unfold j_X30_over_28 j_X30_over_47
  rw [gfi_e k303, e4, Option.bind_some, w45]
  obtain ⟨kk1, kk3, kk4, kk5, kk6, kk7⟩ : True ∧ (0 ≤ yv Yd 243 t ∧ yv Yd 243 t ≤ 16) ∧ 0 ≤ yv Yd 244 t ∧ (yv Yd 244 t).toNat < (pbT (yv Yd 243 t).toNat (Lb (yp Yd t))).length ∧ (yv Yd 246 t = 0 ∨ yv Yd 246 t = 1) ∧ ((cnA (yp Yd t) t (yw Yd) : Nat) : Int) = yv Yd 245 t := by
    rcases (wOK_hd hLI.1 god).2 with z | z | ⟨_, _, z1, z2, z3, z4, z5⟩ | ⟨z, _⟩
    · omega
    · omega
    · exact ⟨trivial, z1, z2, z3, z4, z5 d30⟩
    · omega
  by_cases c : yv Yd 245 t = 0
  · rw [if_pos c, if_pos c, ck_e k303]
    have hRn := hR2 d30 c
    have t44 : t < 44 := by omega
    obtain ⟨_, muN⟩ := LI_nxt hsd t44 hLI.1 god d30
    have fN : FT t Yd (nxtY m own Lb t Yd) := FT_nxt
    have ll := (pbL_len (lim := (yv Yd 243 t).toNat) (hLb (yp Yd t) (yp_lt hhd)).2.2.2.2.2.1).1
    have l64 := pT3.2.1
    obtain ⟨M4, lf4, eg4, x, r1, ⟨r2, r3, r4⟩, r5, r6, r7⟩ := c_next30 (sto := sto') k2 h03 Lib3 hsd.1 recd hhd ht (by omega) kd2 hPt pT3 (by omega) e2 e3 (by rw [e4]; exact c) e5 e6 kk6 (wOK_id hLI.1 (by omega))
    have em : mnU (yv Yd 229 t) (sto' t) (mnU (yv Y 229 t) sv mn) = mnU (yv Y 229 t) sv mn := by rw [v9, est]; exact mnU_2
    rw [em] at r2
    have Q4 : CQ M4 m al N pa own sd ps sn pu rf tm lf4 b0 eg4 tk pb as nb (mnU (yv Y 229 t) sv mn) fa Lb LA dn sto' (nxtY m own Lb t Yd) h := ⟨r2, r3, r4, rec_ft recd fN (fun _ => god), mnB _ nxt_269, stB _ fN nxt_269⟩
    rw [r1, Option.bind_some, r7, w32_b2i]
    obtain ⟨n', rfl⟩ : ∃ k, n = k + 1 := ⟨n - 1, by omega⟩
    have l1 := r6.2
    by_cases d : yv (nxtY m own Lb t Yd) 226 t = 0
    · rw [decide_eq_false (fun z => z d), if_pos (by decide), pr_0 d]
      exact ⟨M4, h, lf4, eg4, _, sto', fa, b0, rfl, Q4, FK.trans fk3 r5, r6.1, by omega, by omega, Or.inl rfl⟩
    · rw [decide_eq_true d, if_neg (by decide)]
      have k11 : (kd M4 (wa pa t)).1 = 11 := (r2.2.1.2.2.1 t ht).1.1
      obtain ⟨M', h', lf', eg', mn', sto2, fa', b0', q1, q2, q3, q4, q5, q6, q7⟩ := c_goOn hB hal ht hN (n' + 1) M4 _ h lf4 eg4 _ sto' fa FU Q4 d (nxt_230 d) (by rw [fN.2.2.2.1.1, kd2]; decide) hRn (by omega) (by unfold FU; omega) (by omega)
      refine ⟨M', h', lf', eg', mn', sto2, fa', b0', ?_, q2, FK.trans (FK.trans fk3 r5) q3, fun z hz => (q4 z hz).trans (r6.1 z hz), by omega, by omega, q7⟩
      dsimp only
      rw [ck_e k11]
      unfold f_X11_goOn l_X11_goOn_2
      rw [q1, Option.bind_some]
  · rw [if_neg c, if_neg c]
    refine ⟨M3, h, lf, eg, _, sto', fa, b0, rfl, ⟨k2, ?_, Lib3, recd, mnB _ (fun _ => rfl), stB _ .refl (fun _ => rfl)⟩, fk3, fun _ _ => rfl, Nat.le_refl _, Nat.le_refl _, Or.inl rfl⟩
    refine Pubs_w (sto := sto') (sc := st2 (ys Yd) 226 t 0) (M := M3) (M1 := M3) k2.2.1.1 ht hPt h03 .refl (fun t' z b y => (vI_ne (by omega)).symm) (fun _ _ => rfl) (h03.1 t ht P hPt).1 (fun _ _ => ⟨pT3, e2, e3, ?_, e5, e6⟩)
    rw [show vI (ys Yd) 230 t = 2 from d30, if_pos rfl, e4]
end COVER
