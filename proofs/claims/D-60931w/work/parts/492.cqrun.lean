/-! a query of the class goes on by itself -/
/-- asking a holder comes to what the reference's query comes to -/
def QSn (m al N : Nat) (pa : Nat → Nat) (own : Nat → Ky) (sd ps sn pu rf : Nat → Int) (tm : Int) (lf : Nat → Nat) (b0 : Nat × Nat) (eg : EG) (tk : Nat → Nat) (pb as : Nat → Option Nat) (nb : Nat) (mn : Nat → Int) (fa : Nat → Nat) (Lb : Nat → List Trm) (ev : Nat → Nat) (Q t n : Nat) : Prop :=
  ∀ (M : MM) (Y : Ys) (h : Gh) (k : Nat), CB M m al N pa own sd ps sn pu rf tm lf b0 eg tk pb as nb mn fa Y h → AsS M Q → AsF M Q (ys Y) (yq Y) t → (∀ r, r < nb → mn r = yv Y 269 r) → recY nb Y → yv Y 226 t ≠ 0 → yv Y 230 t ≠ 1 → yv Y 230 t ≠ 2 → RunP (fun Y => LI N own Lb Y t ∧ sdY m N own tm Lb ev Y) m al N own sd tm Lb t n Y → PkC M 31 (hdB (tyQ Y t) 0 (kf (own (yp Y t))) ++ bdQ Y t) → 5 * dq own Y t + 5 ≤ k →
  QE (fREC k 3 (Q : Int) ((wa pa t : Nat) : Int) (((qO (yq Y) t).getD (qI Y t) 0 : Nat) : Int) M) M m al N pa own sd ps sn pu rf tm lf b0 eg tk pb as nb Q t (prY m al N own sd tm Lb t n Y)
section CQRUN
variable {S : Nat → Bool} {M M1 M2 : MM} {m al N p t nb n Q pk k : Nat} {pa tk : Nat → Nat} {own : Nat → Ky} {sd ps sn pu rf : Nat → Int} {tm how : Int} {lf : Nat → Nat} {b0 : Nat × Nat} {h : Gh} {eg : EG} {pb as : Nat → Option Nat} {mn : Nat → Int} {fa : Nat → Nat} {Y Y1 Yf : Ys} {l l' : List Int} {Lb : Nat → List Trm} {ev : Nat → Nat}
theorem rnkY_0 : yv (rnkY t Y) 226 t = 0 := clS_0
theorem anS_ag (hg : yv (anS t l Y) 226 t ≠ 0) {a i : Nat} (ha : a = 226 ∨ a = 227 ∨ a = 228 ∨ a = 229 ∨ a = 265 ∨ a = 269) : yv (anS t l Y) a i = yv Y a i := by
  revert hg
  unfold anS
  by_cases c3 : yv Y 230 t = 3
  · rw [if_pos c3]
    intro _
    show vI (st2 (st2 (ys Y) 256 t _) 230 t 4) a i = _
    rw [vI_ne (by omega), vI_ne (by omega)]
  · rw [if_neg c3]
    by_cases c4 : yv Y 230 t = 4
    · rw [if_pos c4]
      unfold tmY
      by_cases d1 : decide (l.getD 25 0 = 1) = true ∧ ((rdI l 27 (l.getD 26 0).toNat).foldl addL (qL (yq Y) t)).length < 200
      · rw [if_pos d1]
        intro _
        exact vI_ne (by omega)
      · rw [if_neg d1]
        by_cases d2 : (rdI l 27 (l.getD 26 0).toNat).foldl addL (qL (yq Y) t) = [] ∨ yv Y 247 t = 1
        · rw [if_pos d2]
          intro z; exact (z rnkY_0).elim
        · rw [if_neg d2]
          intro _
          show vI (st2 (st2 (st2 (st2 (ys Y) 254 t _) 263 t 0) 264 t 0) 230 t 5) a i = _
          rw [vI_ne (by omega), vI_ne (by omega), vI_ne (by omega), vI_ne (by omega)]
    · rw [if_neg c4]
      unfold tcY
      obtain ⟨L1, hL1⟩ : ∃ L1, L1 = sftL (tcL (yv Y 264 t).toNat (rdI l 26 (l.getD 25 0).toNat) (qL (yq Y) t)) (tcF (yv Y 264 t).toNat (rdI l 26 (l.getD 25 0).toNat) (qL (yq Y) t) (qF (yq Y) t)) := ⟨_, rfl⟩
      rw [← hL1]
      by_cases d1 : (yv Y 264 t).toNat + 30 < (qL (yq Y) t).length
      · rw [if_pos d1]
        intro _
        exact vI_ne (by omega)
      · rw [if_neg d1]
        by_cases d2 : L1 = [] ∨ yv Y 247 t ≤ (if yv Y 263 t = 0 then 2 else 3)
        · rw [if_pos d2]
          intro z; exact (z rnkY_0).elim
        · rw [if_neg d2]
          intro _
          show vI (st2 (st2 (ys Y) 263 t _) 264 t 0) a i = _
          rw [vI_ne (by omega), vI_ne (by omega)]
theorem prY_0 (h0 : yv Y 226 t = 0) : prY m al N own sd tm Lb t n Y = Y := by
  cases n with
  | zero => rfl
  | succ n => unfold prY; rw [if_pos h0]
/-- a query of the class goes on with a list or a check -/
theorem q_go (hS : QSn m al N pa own sd ps sn pu rf tm lf b0 eg tk pb as nb mn fa Lb ev Q t n) (hP : PQ M m al N pa own sd ps sn pu rf tm lf b0 eg tk pb as nb mn fa Q t Y h) (hrec : recY nb Y) (hgo : yv Y 226 t ≠ 0) (hR : RunP (fun Y => LI N own Lb Y t ∧ sdY m N own tm Lb ev Y) m al N own sd tm Lb t n Y) {sel : Nat} (hs : (yv Y 230 t = 4 ∧ sel = 4) ∨ (yv Y 230 t = 5 ∧ sel = 1)) (hk : 5 * dq own Y t + 6 ≤ k) :
    QE (fREC k sel (Q : Int) ((wa pa t : Nat) : Int) 0 M) M m al N pa own sd ps sn pu rf tm lf b0 eg tk pb as nb Q t (prY m al N own sd tm Lb t n Y) := by
  obtain ⟨k, rfl⟩ : ∃ k', k = k' + 1 := ⟨k - 1, by omega⟩
  have h1 : yv Y 230 t ≠ 1 := by omega
  have h2 : yv Y 230 t ≠ 2 := by omega
  obtain ⟨hLI, hsd⟩ : LI N own Lb Y t ∧ sdY m N own tm Lb ev Y := by
    cases n with
    | zero => exact hR.elim
    | succ n => exact hR.1
  obtain ⟨hh, hk3, ht, _, hq, _⟩ := wOK_q hLI.1 hgo h1 h2
  have hmn := hP.2.2.2
  rcases hs with ⟨h4, e⟩ | ⟨h5, e⟩
  · subst e
    obtain ⟨M', r1, r2, r3, r4, r5, r6⟩ := c_listW (R := fREC k) hP hsd.1 hh ht hq h4
    show QE (f_X31_list (fREC k) (Q : Int) ((wa pa t : Nat) : Int) M) M m al N pa own sd ps sn pu rf tm lf b0 eg tk pb as nb Q t _
    rw [r1]
    exact QE_pre r6 (QE_b1 (hS M' Y h k r2 r3 r4 hmn hrec hgo h1 h2 hR r5 (by omega)))
  · subst e
    obtain ⟨M', r1, r2, r3, r4, r5, r6⟩ := c_checkW (R := fREC k) hP hh ht hq h5
    show QE (f_X31_check (fREC k) (Q : Int) ((wa pa t : Nat) : Int) M) M m al N pa own sd ps sn pu rf tm lf b0 eg tk pb as nb Q t _
    rw [r1]
    exact QE_pre r6 (QE_b1 (hS M' Y h k r2 r3 r4 hmn hrec hgo h1 h2 hR r5 (by omega)))
/-- an answer comes -/
theorem q_ans (hS : QSn m al N pa own sd ps sn pu rf tm lf b0 eg tk pb as nb mn fa Lb ev Q t n) (hC : CB M m al N pa own sd ps sn pu rf tm lf b0 eg tk pb as nb mn fa Y h) (hA : AsS M Q) (hF : AsF M Q (ys Y) (yq Y) t) (hmn : ∀ r, r < nb → mn r = yv Y 269 r) (hrec : recY nb Y) (hh : hdW N Y t) (ht : t < 12) (hlf : lf t + 1 < 2147483648) (hk3 : yv Y 227 t = 3) (hq : qOK own Y t) (hpk : PkC M pk l) (hsh : shp (yv Y 230 t) l) (hpq : ¬ AQs Q pk ∧ ¬ AQs Q (pk + 1)) (hR : yv (anS t l Y) 226 t ≠ 0 → RunP (fun Y => LI N own Lb Y t ∧ sdY m N own tm Lb ev Y) m al N own sd tm Lb t n (anS t l Y)) (hk : 3 ≤ k) (hk2 : yv (anS t l Y) 226 t ≠ 0 → 5 * dq own (anS t l Y) t + 8 ≤ k) :
    QE (fREC k 0 (Q : Int) ((wa pa t : Nat) : Int) (pk : Int) M) M m al N pa own sd ps sn pu rf tm lf b0 eg tk pb as nb Q t (prY m al N own sd tm Lb t n (anS t l Y)) := by
  have clo : yv (anS t l Y) 226 t = 0 → prY m al N own sd tm Lb t n (anS t l Y) = anS t l Y := fun z => prY_0 z
  have rc : yv (anS t l Y) 226 t ≠ 0 → recY nb (anS t l Y) := fun z => recY_ag hrec (fun a i w => anS_ag z (by omega))
  obtain ⟨k, rfl⟩ : ∃ k', k = k' + 2 := ⟨k - 2, by omega⟩
  have hq1 := hq.2.1
  by_cases c3 : yv Y 230 t = 3
  · have e : anS t l Y = tbY t (l.getD 27 0) (rdF l 27) Y := by unfold anS; rw [if_pos c3]
    rw [c3] at hsh
    have g : yv (anS t l Y) 226 t ≠ 0 := by
      rw [e]
      show vI (st2 (st2 (ys Y) 256 t _) 230 t 4) 226 t ≠ 0
      rw [vI_ne (by omega), vI_ne (by omega), show vI (ys Y) 226 t = 1 from hh.1]; decide
    have s4 : yv (anS t l Y) 230 t = 4 := by
      rw [e]
      show vI (st2 (st2 (ys Y) 256 t _) 230 t 4) 230 t = 4
      rw [vI_eq rfl]; rfl
    refine c_ansB hC hA hF hmn hq c3 hpk hsh hpq (fun M1 hP => ?_)
    rw [← e] at hP
    have := hk2 g
    exact q_go hS hP (rc g) g (hR g) (Or.inl ⟨s4, rfl⟩) (by omega)
  · by_cases c4 : yv Y 230 t = 4
    · have e : anS t l Y = tmY t (decide (l.getD 25 0 = 1)) (rdI l 27 (l.getD 26 0).toNat) Y := by unfold anS; rw [if_neg c3, if_pos c4]
      rw [c4] at hsh
      rw [e] at clo rc hR hk2 ⊢
      exact c_ansM hC hA hF hmn hq c4 hpk hsh hpq hrec hh ht hlf hk3 (fun M1 sel g hs hP => q_go hS hP (rc g) g (hR g) hs (by have := hk2 g; omega)) clo
    · have c5 : yv Y 230 t = 5 := by omega
      have e : anS t l Y = tcY t (rdI l 26 (l.getD 25 0).toNat) Y := by unfold anS; rw [if_neg c3, if_neg c4]
      rw [c5] at hsh
      rw [e] at clo rc hR hk2 ⊢
      refine c_ansC hC hA hF hmn hq c5 hpk hsh hpq hrec hh ht hlf hk3 (fun M1 g hP => ?_) clo
      have s5 : yv (tcY t (rdI l 26 (l.getD 25 0).toNat) Y) 230 t = 5 := by
        have hok : okM (rdI l 26 (l.getD 25 0).toNat) := by
          obtain ⟨n, s1, s2, s3, s4⟩ := hsh.2.2.2.2 rfl
          rw [s1]; exact s4
        rcases qOK_tc (tl := rdI l 26 (l.getD 25 0).toNat) hq c5 hok with z | ⟨_, _, z, _⟩
        · exact absurd z g
        · exact z
      exact q_go hS hP (rc g) g (hR g) (Or.inr ⟨s5, rfl⟩) (by have := hk2 g; omega)
/-- all along -/
theorem q_run (hlf : lf t + 1 < 2147483648) (hN : 12 + N ≤ 44) : ∀ n, QSn m al N pa own sd ps sn pu rf tm lf b0 eg tk pb as nb mn fa Lb ev Q t n := by
  intro n
  induction n with
  | zero =>
    intro M Y h k _ _ _ _ _ _ _ _ hR
    exact hR.elim
  | succ n ih =>
    intro M Y h k hC hA hF hmn hrec hgo h1 h2 hR hpk hk
    obtain ⟨⟨hLI, hsd⟩, hR2⟩ := hR
    obtain ⟨_, _, hRq⟩ := hR2 hgo
    have hRq := hRq h1 h2
    obtain ⟨hh, hk3, ht, _, hq, _⟩ := wOK_q hLI.1 hgo h1 h2
    have hd : dtW t (yw Y) = yw Y := wOK_id hLI.1 ((hLI.2 hgo).1 (by have := hq.2.1; omega))
    have pN := yp_lt hh
    have hst := (hsd.2.2.2.1 (yp Y t) (by omega)).2.1
    obtain ⟨k, rfl⟩ : ∃ k', k = k' + 1 := ⟨k - 1, by omega⟩
    have ep : prY m al N own sd tm Lb t (n + 1) Y = if (qonY N own sd tm t Y).1 = true then prY m al N own sd tm Lb t n (qonY N own sd tm t Y).2 else (qonY N own sd tm t Y).2 := by
      conv => lhs; unfold prY
      rw [if_neg hgo, if_neg h1, if_neg h2]
    show QE (f_X31_consult (fREC k) (Q : Int) ((wa pa t : Nat) : Int) (((qO (yq Y) t).getD (qI Y t) 0 : Nat) : Int) M) M m al N pa own sd ps sn pu rf tm lf b0 eg tk pb as nb Q t _
    rw [ep]
    by_cases o : qH (yq Y) (qQ Y t) = own (yp Y t)
    · obtain ⟨_, _, _, _, _, _, xk⟩ := q_idx hq hF
      have hkk : kyo (qK (yq Y) (qQ Y t)) := by rw [← xk]; exact kyo_ky (kC_ok _ _)
      obtain ⟨_, _, _, hsh, eq⟩ := qon_own (m := m) (N := N) (sd := sd) (tm := tm) hq hsd.1.1.2.2.2.2.2.2.2.2.2.1 hst hkk o hd rfl rfl
      have dqo := dq_own (sd := sd) hsd (by omega) hLI hgo h1 h2 o
      rw [eq] at hRq dqo ⊢
      rw [if_pos rfl]
      refine c_consO hC hA hF hsd.1 hh ht hq hst o hd hpk rfl rfl (fun M2 h2' C2 S2 F2 P2 => ?_)
      have n33 := (AQ_31 C2.1.1.1 S2).2
      refine q_ans ih C2 S2 F2 hmn hrec hh ht hlf hk3 hq P2 hsh n33 (fun _ => hRq rfl) (by omega) (fun z => ?_)
      rcases dqo with y | y
      · exact absurd y z
      · have y : dq own (anS t (ansB m (wst (yw Y) 9).toNat (own (yp Y t)) none (wT (yw Y) (yp Y t)) (wS (yw Y) (yp Y t)) (hdB (tyQ Y t) 0 (kf (own (yp Y t))) ++ bdQ Y t)) Y) t + 1 ≤ dq own Y t := y
        omega
    · have eq : qonY N own sd tm t Y = (false, askQ N own sd tm t (tyQ Y t) (bdQ Y t) Y) := by
        unfold qonY tyQ bdQ
        by_cases c3 : yv Y 230 t = 3
        · rw [if_pos c3, if_neg o, if_pos c3, if_pos c3]
        · rw [if_neg c3, if_neg c3, if_neg c3]
          by_cases c4 : yv Y 230 t = 4
          · rw [if_pos c4, if_neg o, if_pos c4, if_pos c4]
          · rw [if_neg c4, if_neg o, if_neg c4, if_neg c4]
      rw [eq, if_neg Bool.false_ne_true]
      have hty : tyQ Y t = 9 ∨ tyQ Y t = 11 ∨ tyQ Y t = 13 := by
        unfold tyQ
        split
        · exact Or.inl rfl
        · split
          · exact Or.inr (Or.inl rfl)
          · exact Or.inr (Or.inr rfl)
      exact c_consR hC hA hF hmn hrec hsd.1 hh ht hlf hk3 hq hd hty hpk o
end CQRUN
