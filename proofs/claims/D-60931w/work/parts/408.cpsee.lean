section CPSEE
variable {M M1 : MM} {m al N p kx x i : Nat} {pa : Nat → Nat} {own : Nat → Ky} {sd ps sn pu rf : Nat → Int} {tm ad ty : Int} {lf : Nat → Nat} {b : Nat × Nat} {w : Wd} {h : Gh} {l bd : List Int} {Q : Nat → List Rq} {y : Rq} {n n' : Nat → Nat}
theorem prF_app : prF (fup Q p (Q p ++ [y])) = fun q C => if q = p then (prF Q p C || decide (qPrb y = some ((C : Nat) : Int))) else prF Q q C := by
  funext q C
  unfold prF
  by_cases e : q = p
  · subst e; rw [fup_eq, if_pos rfl, List.any_append]; simp
  · rw [fup_ne e, if_neg e]
theorem prF_none (hy : qPrb y = none) : prF (fup Q p (Q p ++ [y])) = prF Q := by
  rw [prF_app]
  funext q C
  by_cases e : q = p
  · rw [if_pos e, hy, e]; simp
  · rw [if_neg e]
theorem Lk_none (hL : Lk N Q n) (hy : qPrb y = none) : Lk N (fup Q p (Q p ++ [y])) n := fun q hq => by
  obtain ⟨l1, l2⟩ := hL q hq
  by_cases e : q = p
  · subst e
    rw [fup_eq]
    refine ⟨fun z hz => ?_, ?_⟩
    · rcases List.mem_append.mp hz with w | w
      · exact l1 z w
      · intro c hc
        have : z = y := by simpa using w
        rw [this, hy] at hc
        cases hc
    · rw [List.pairwise_append]
      refine ⟨l2, List.pairwise_singleton _ _, fun a ha c hc => ?_⟩
      have : c = y := by simpa using hc
      rw [this, hy]
      cases hq : qPrb a with
      | none => exact Or.inl rfl
      | some _ => exact Or.inr (by simp)
  · rw [fup_ne e]; exact ⟨l1, l2⟩
theorem Lk_mono (hL : Lk N Q n) (hn : ∀ q, q < N → n q ≤ n' q ∧ n' q ≤ 160) : Lk N Q n' := fun q hq => by
  obtain ⟨l1, l2⟩ := hL q hq
  have := hn q hq
  exact ⟨fun y hy c hc => by have := l1 y hy c hc; omega, l2⟩
theorem Lk_prb {C : Nat} (hL : Lk N Q n) (hp : p < N) (hC : C < n p ∧ (C < n p - 1 ∨ n p = 160)) (hy : qPrb y = some ((C : Nat) : Int)) (hno : prF Q p C = false) : Lk N (fup Q p (Q p ++ [y])) n := fun q hq => by
  obtain ⟨l1, l2⟩ := hL q hq
  by_cases e : q = p
  · subst e
    rw [fup_eq]
    refine ⟨fun z hz => ?_, ?_⟩
    · rcases List.mem_append.mp hz with w | w
      · exact l1 z w
      · intro c hc
        have : z = y := by simpa using w
        rw [this, hy] at hc
        have := Option.some.inj hc
        omega
    · rw [List.pairwise_append]
      refine ⟨l2, List.pairwise_singleton _ _, fun a ha c hc => ?_⟩
      have : c = y := by simpa using hc
      rw [this, hy]
      right
      intro ea
      unfold prF at hno
      rw [List.any_eq_false] at hno
      have := hno a ha
      rw [ea] at this
      simp at this
  · rw [fup_ne e]; exact ⟨l1, l2⟩
/-- what is asked for some work -/
theorem cp_ask0 {x3 x4 : Int} {wk : Option Nat} (hc : CPs M m al N pa own sd ps sn pu rf tm lf b w h) (ho : okW N own tm w) (hp : p < N) (hk : isK M kx) (hkm : mo M kx ≠ 5 ∧ mo M (kx + 1) ≠ 5) (hx : PkC M 31 (hdB ty 0 (kf (own p)) ++ bd)) (hty : 0 ≤ ty ∧ ty < 256) (had : 0 ≤ ad ∧ ad < 32) (hw : wkX M N pa lf x3 wk) (h4 : x4 = if ty = 1 ∨ ty = 3 ∨ ty = 5 then 0 else 1) :
    ∃ M' h', f_X17_ask ((pa p : Nat) : Int) (kx : Int) ad x3 x4 (-1) M = some (b2i (askY N own sd tm w p ad ty (ky (kC M kx)) bd wk none).2, M') ∧ CPs M' m al N pa own sd ps sn pu rf tm lf b (askY N own sd tm w p ad ty (ky (kC M kx)) bd wk none).1 h' ∧ FK (fun z => z == 1 || z == 5) M M' := by
  obtain ⟨M', rg', fA', e1, ⟨g1, g2, g3, g4, g5, g6, g7, g8⟩, e3⟩ := cp_ask (x5 := -1) (pb := none) hc ho hp hk hkm hx hty had hw (Or.inl ⟨rfl, rfl⟩) h4
  obtain ⟨c1, c2, c3, c4, c5, c6, c7, c8, c9⟩ := hc
  refine ⟨M', (fA', h.2.1, h.2.2.1, h.2.2.2.1, rg'), e1, ?_, e3⟩
  have eT : wT (askY N own sd tm w p ad ty (ky (kC M kx)) bd wk none).1 = wT w := by unfold askY; split <;> rfl
  have eS : wS (askY N own sd tm w p ad ty (ky (kC M kx)) bd wk none).1 = wS w := by unfold askY; split <;> rfl
  have eQ : prF (wQ (askY N own sd tm w p ad ty (ky (kC M kx)) bd wk none).1) = prF (wQ w) ∧ Lk N (wQ (askY N own sd tm w p ad ty (ky (kC M kx)) bd wk none).1) (fun q => (h.2.1.2.2.2.2 q).1) := by
    unfold askY
    split
    · exact ⟨rfl, c7⟩
    · exact ⟨prF_none rfl, Lk_none c7 rfl⟩
  refine ⟨g1, g2, by rw [eT, eQ.1]; exact g3, by rw [eS]; exact g4, g5, g6, eQ.2, ?_, by rw [eT]; exact c9⟩
  unfold cpCl cpWd at *
  rw [eT]
  exact ⟨g7, g8⟩
/-- tables change -/
theorem cp_tab {M' : MM} {g' : TG} {T' : List Row} (hc : CPs M m al N pa own sd ps sn pu rf tm lf b w h) (hp : p < N) (hT : TbsC M' m N pa own (fup (wT w) p T') (prF (wQ w)) g') (hKL : KL h.2.1.2.2.2.1.length g'.2.2.2.1.length (wT w p).length T'.length) (hac : nN M' + tbN N (wT w) h.2.1 ≤ nN M + tbN N (fup (wT w) p T') g' ∧ nU M' + tbU N m (wT w) h.2.1 ≤ nU M + tbU N m (fup (wT w) p T') g') (hfk : ∀ S : Nat → Bool, S 2 = true → FK S M M') (hbk : bkMo M N h.2.1 g') (hn : ∀ q, q < N → (h.2.1.2.2.2.2 q).1 ≤ (g'.2.2.2.2 q).1) (hl : ∀ q, q < N → (fup (wT w) p T' q).length ≤ 100) (hN : N ≤ 32) : CPs M' m al N pa own sd ps sn pu rf tm lf b (setT w (fup (wT w) p T')) (h.1, g', h.2.2) := by
  obtain ⟨c1, c2, c3, c4, c5, c6, c7, c8, c9⟩ := hc
  have hu := c5.1
  have f : FK (fun z => z == 2) M M' := hfk _ (by decide)
  have bA : ∀ q, q < N → (h.2.1.2.2.2.2 q).1 ≤ (h.2.1.2.2.2.2 q).2.1 := fun q hq => (c3.2.2.2.2.2 q hq).2.2.1.2
  have bB : ∀ q, q < N → (g'.2.2.2.2 q).1 ≤ 160 := fun q hq => Nat.le_trans (hT.2.2.2.2.2 q hq).2.2.1.2 (hT.2.2.2.2.2 q hq).2.1.2.2.2.2.1.1
  refine ⟨BoC_fk f hu (by decide) c1, NetRep_fk f hu (by decide) c2, hT, sts_fk f (by decide) c4, PeC_fk f ⟨by decide, by decide⟩ c5, RqsC_bf (RqsC_fk f (by decide) c6) (fun q hq y hy c hcc => ?_), Lk_mono c7 (fun q hq => ⟨hn q hq, bB q hq⟩), ?_, ?_⟩
  · exact (hbk q hq).2 _ (Nat.lt_of_lt_of_le ((c7 q hq).1 y hy c hcc).2.1 (bA q hq))
  · obtain ⟨b1, b2⟩ := c8
    unfold cpCl at b1
    unfold cpWd at b2
    refine ⟨?_, ?_⟩
    · show nN M' ≤ b.1 + (3 * h.1 + tbN N (fup (wT w) p T') g' + 3 * sumN h.2.2.1 N + 5 * sumN (fun q => (h.2.2.2.2 q).1) N)
      omega
    · show nU M' ≤ b.2 + (466 * h.1 + tbU N m (fup (wT w) p T') g' + 11 * sumN h.2.2.1 N + 479 * sumN (fun q => (h.2.2.2.2 q).1) N)
      omega
  · have es : sumN (fun q => (fup (wT w) p T' q).length) N + (wT w p).length = sumN (fun q => (wT w q).length) N + T'.length := by
      have := sumN_fup (f := fun q => (wT w q).length) (p := p) (v := T'.length) N hp
      rw [← this]
      congr 1
      exact sumN_congr N (fun i _ => by unfold fup; split <;> rfl)
    have bnd := sumN_le (f := fun q => (fup (wT w) p T' q).length) (b := 100) N hl
    show g'.2.2.2.1.length + sumN (fun q => (fup (wT w) p T' q).length) N ≤ 5000
    rcases hKL.2 with k | k
    · omega
    · omega
/-- a peer sees a key at an address -/
theorem cp_see (hc : CPs M m al N pa own sd ps sn pu rf tm lf b w h) (ho : okW N own tm w) (ho2 : okW N own tm (setT w (fup (wT w) p (seeT m (own p) (ky (kC M kx)) ad (wT w p)).1))) (hp : p < N) (hk : isK M kx) (hkx : (kd M kx).2 ≠ 38) (had : 0 ≤ ad ∧ ad < 32) :
    ∃ M' h', f_X17_see ((pa p : Nat) : Int) (kx : Int) ad M = some M' ∧ CPs M' m al N pa own sd ps sn pu rf tm lf b (seeY m N own sd tm w p (ky (kC M kx)) ad) h' ∧ FK P5 M M' ∧ ∀ q, (q = 22 ∨ q = 23 ∨ q = 42 ∨ q = 43) → (∀ i, M'.1 q i = M.1 q i) ∧ ∀ i, M'.2.1 q i = M.2.1 q i := by
  obtain ⟨key, hkey⟩ : ∃ key, key = ky (kC M kx) := ⟨_, rfl⟩
  rw [← hkey] at ho2 ⊢
  have hc0 := hc
  obtain ⟨c1, c2, c3, c4, c5, c6, c7, c8, c9⟩ := hc
  have hu := c5.1
  obtain ⟨pe, p276, _⟩ := c5.2.2 p hp
  have k17 : (kd M (pa p)).1 = 17 := by rw [pe.1]
  obtain ⟨kyo1, tl100, tad, _⟩ := ho.2.2.2 p hp
  have okTp : okT (own p) (wT w p) := (c3.2.2.2.2.2 p hp).2.2.2.2.2.2.1
  obtain ⟨M1, g1, res, e1, e2, e3, e4, e5, e6, e7, e8⟩ := c_seeT (ad := ad) c3 hp hk hkx kyo1 (w32_id (by omega) (by omega)) (by omega) (by have := c9; omega)
  rw [← hkey] at e2 e3 e4 e5
  have lenT : ∀ q, q < N → (fup (wT w) p (seeT m (own p) key ad (wT w p)).1 q).length ≤ 100 := fun q hq => (ho2.2.2.2 q hq).2.1
  have C1 := cp_tab hc0 hp e2 e4 e5 e6 e7 e8 lenT ho.2.2.1
  obtain ⟨w1, hw1⟩ : ∃ w1, w1 = setT w (fup (wT w) p (seeT m (own p) key ad (wT w p)).1) := ⟨_, rfl⟩
  rw [← hw1] at C1 ho2
  have F1 : FK P5 M M1 := e6 P5 (by decide)
  have st1 : ∀ q, (q = 22 ∨ q = 23 ∨ q = 42 ∨ q = 43) → q < nN M ∧ (mo M q = 9 ∨ mo M q = 7) := fun q hq => by
    have m22 := mo22 c2.1
    obtain ⟨_, _, _, _, _, _, _, _, m42, _⟩ := BdS_mo c1.1
    have l47 : 47 < nN M := hu.lt (by rw [c1.1.2.2.2.2.2.1]; show 230 ≠ 63; decide)
    rcases hq with e | e | e | e <;> subst e
    · exact ⟨by omega, Or.inl m22.1⟩
    · exact ⟨by omega, Or.inl m22.2⟩
    · exact ⟨by omega, Or.inr m42.1⟩
    · exact ⟨by omega, Or.inr m42.2⟩
  have hk1 : ∀ q, (q = 22 ∨ q = 23 ∨ q = 42 ∨ q = 43) → (∀ i, M1.1 q i = M.1 q i) ∧ ∀ i, M1.2.1 q i = M.2.1 q i := fun q hq => by
    obtain ⟨q1, q2⟩ := st1 q hq
    exact (e6 (fun z => z == 2) (by decide)).cell q1 (by rcases q2 with z | z <;> rw [z] <;> decide)
  unfold f_X17_see
  rw [gfr_e k17, pe.2.2.1.2.2.1, Option.bind_some, ck_e (c3.2.2.2.2.2 p hp).2.1.2.1.1, e1, Option.bind_some]
  unfold seeY
  by_cases full : (seeT m (own p) key ad (wT w p)).2 = true
  · rw [if_pos full] at e3
    obtain ⟨C, f1, f2, f3, f4, f5⟩ := e3
    have eC : (kc key (own p)).toNat = C := by omega
    by_cases pf : prF (wQ w) p C = true
    · rw [if_pos pf] at f5
      rw [f5, if_pos rfl, if_neg (by rw [eC, pf]; simp), ← hw1]
      exact ⟨M1, _, rfl, C1, F1, hk1⟩
    · have pf : prF (wQ w) p C = false := by simpa using pf
      rw [if_neg (by rw [pf]; decide)] at f5
      rw [f5, if_neg (by omega), if_pos ⟨full, by rw [eC]; exact pf⟩, ← hw1]
      obtain ⟨M2, b1, b2, b3, b4⟩ := cp_begin (ty := 1) C1 hp
      have C2 := b2
      obtain ⟨d1, d2, d3, d4, d5, d6, d7, d8, d9⟩ := b2
      have pe1 := (C1.2.2.2.2.1.2.2 p hp).1
      have pe2 := (d5.2.2 p hp).1
      have tt := (d3.2.2.2.2.2 p hp).2
      have wT1 : wT w1 p = (seeT m (own p) key ad (wT w p)).1 := by rw [hw1]; exact fup_eq
      have wQ1 : wQ w1 = wQ w := by rw [hw1]; rfl
      obtain ⟨fm, fne⟩ := seeT_full okTp full
      have nb : (g1.2.2.2.2 p).1 ≤ (g1.2.2.2.2 p).2.1 := tt.2.1.2
      have bk := (tt.1.2.2.2.2.1.2.1 C (Nat.lt_of_lt_of_le f3 nb)).2.1
      obtain ⟨row, _, _⟩ := tt.1.2.2.2.2.2.1 C false (Nat.lt_of_lt_of_le f3 nb)
      have hCn := tt.1.2.2.2.2.2.2.1 C false (Nat.lt_of_lt_of_le f3 nb)
      rw [tt.2.2.1 C false f3, inB_pr tt.2.2.2.2.2.1 kyo1 f2 tt.2.1.1 f4, ← f1, wT1] at hCn
      have hm1 : 1 ≤ m := c1.1.2.2.2.2.2.2.2.2.2.1
      cases hh : (seeT m (own p) key ad (wT w p)).1.filter (pr (own p) (kc key (own p)) false) with
      | nil => rw [hh] at fm; simp at fm; omega
      | cons x xs =>
        rw [hh] at hCn
        rw [List.head?_cons]
        dsimp only
        have xT : x ∈ wT w1 p := by rw [wT1]; exact (List.mem_filter.mp (by rw [hh]; exact List.mem_cons_self)).1
        have xad := (ho2.2.2.2 p hp).2.2.1 x xT
        cases hPl : (g1.2.2.2.2 p).2.2.2.1 C false with
        | nil => rw [hPl] at hCn; simp at hCn
        | cons c0 cs =>
          rw [hPl] at hCn row
          rw [List.map_cons, List.map_cons] at hCn
          have ec : ctc M2 c0 = kad x := (List.cons.inj hCn).1
          have hct := row.2.2.2.2.2 c0 List.mem_cons_self
          have r0 : rR M2 ((g1.2.2.2.2 p).2.2.1 C + 1 + 1) 0 = ((c0 : Nat) : Int) := row.2.2.2.2.1 0 (by simp)
          have ek : ky (kC M2 (c0 + 1)) = x.1 := congrArg Prod.fst ec
          have ea : rI M2 c0 1 = x.2.1 := congrArg Prod.snd ec
          have m0 : mo M2 (c0 + 1) = 2 := ct_mo hct (by omega) (by omega)
          have m0' : mo M2 (c0 + 1 + 1) = 2 := ct_mo hct (by omega) (by omega)
          obtain ⟨M3, rg', fA', a1, ⟨a2, a3, a4, a5, a6, a7, a8, a9⟩, a10⟩ := cp_ask (kx := c0 + 1) (ad := x.2.1) (ty := 1) (bd := []) (x3 := -1) (x4 := 0) (x5 := (((g1.2.2.2.2 p).2.2.1 C : Nat) : Int)) (wk := none) (pb := some ((C : Nat) : Int)) C2 ho2 hp hct.2.2.2 ⟨by rw [m0]; decide, by rw [m0']; decide⟩ (by rw [List.append_nil]; exact b3) (by omega) xad (Or.inl ⟨rfl, rfl⟩) (Or.inr ⟨C, rfl, rfl⟩) rfl
          rw [ek] at a1 a3 a6 a7
          obtain ⟨w2, hw2⟩ : ∃ w2, w2 = askY N own sd tm w1 p x.2.1 1 x.1 [] none (some ((C : Nat) : Int)) := ⟨_, rfl⟩
          rw [f1]
          rw [← hw2] at a1 a3 a6 a7 ⊢
          obtain ⟨M4, g2, t1, t2, t3, ⟨t4, t5, t6, t7⟩, t8, t9, t10⟩ := c_flagT (C := C) (v := w2.2) a4 hp f3 (fun _ => f4)
          have F4 : FK (fun z => z == 2) M3 M4 := t8 _ (by decide)
          have eT : wT w2.1 = wT w1 := by rw [hw2]; unfold askY; split <;> rfl
          have eS : wS w2.1 = wS w1 := by rw [hw2]; unfold askY; split <;> rfl
          have eQ : fup (prF (wQ w1)) p (fup (prF (wQ w1) p) C w2.2) = prF (wQ w2.1) ∧ Lk N (wQ w2.1) (fun q => (g1.2.2.2.2 q).1) := by
            rw [hw2]
            unfold askY
            by_cases c40 : (wQ w1 p).length = 40
            · rw [if_pos c40]
              refine ⟨?_, d7⟩
              have : fup (prF (wQ w1) p) C false = prF (wQ w1) p := by
                have e : prF (wQ w1) p C = false := by rw [wQ1]; exact pf
                rw [← e]; exact fup_self
              show fup (prF (wQ w1)) p (fup (prF (wQ w1) p) C false) = _
              rw [this, fup_self]
            · rw [if_neg c40]
              refine ⟨?_, Lk_prb d7 hp ⟨f3, f4⟩ rfl (by rw [wQ1]; exact pf)⟩
              show fup (prF (wQ w1)) p (fup (prF (wQ w1) p) C true) = prF (fup (wQ w1) p (wQ w1 p ++ [_]))
              rw [prF_app]
              funext q D
              unfold fup
              by_cases e : q = p
              · rw [if_pos e, if_pos e]
                show (if D = C then true else prF (wQ w1) p D) = (prF (wQ w1) p D || decide (some ((C : Nat) : Int) = some ((D : Nat) : Int)))
                by_cases e2 : D = C
                · rw [if_pos e2, e2]; simp
                · rw [if_neg e2, decide_eq_false (fun z => e2 (by have := Option.some.inj z; omega)), Bool.or_false]
              · rw [if_neg e, if_neg e]
          have bA : ∀ q, q < N → (g1.2.2.2.2 q).1 ≤ (g1.2.2.2.2 q).2.1 := fun q hq => (a4.2.2.2.2.2 q hq).2.2.1.2
          refine ⟨M4, (fA', g2, h.2.2.1, h.2.2.2.1, rg'), ?_, ⟨BoC_fk F4 a6.1 (by decide) a2, NetRep_fk F4 a6.1 (by decide) a3, by rw [eT, ← eQ.1]; exact t2, by rw [eS]; exact sts_fk F4 (by decide) a5, PeC_fk F4 ⟨by decide, by decide⟩ a6, RqsC_bf (RqsC_fk F4 (by decide) a7) (fun q hq y hy c hcc => (t9 q hq).2 _ (Nat.lt_of_lt_of_le ((eQ.2 q hq).1 y hy c hcc).2.1 (bA q hq))), Lk_mono eQ.2 (fun q hq => ⟨Nat.le_of_eq (t10 q hq), Nat.le_trans (t2.2.2.2.2.2 q hq).2.2.1.2 (t2.2.2.2.2.2 q hq).2.1.2.2.2.2.1.1⟩), ?_, ?_⟩, ?_, fun q hq => ?_⟩
          · rw [ck_e (by rw [pe1.1]), b1, Option.bind_some]
            dsimp only
            rw [gfr_e (by rw [bk.1]), bk.2.1, Option.bind_some, gfr_e bk.2.2.2.1.1, bk.2.2.2.1.2.1, Option.bind_some, show lar 6 (((g1.2.2.2.2 p).2.2.1 C + 1 + 1 : Nat) : Int) 0 M2 = _ from lar_n (j := 0) bk.2.2.2.1.2.2 (by decide) hm1 (by have := c1.1.2.2.2.2.2.2.2.2.2.2; omega), r0, Option.bind_some, gfr_e (by rw [hct.1]), hct.2.1, Option.bind_some, gfi_e (by rw [hct.1]), ea, Option.bind_some, ck_e (by rw [pe2.1]), a1, Option.bind_some]
            dsimp only
            rw [t1, Option.bind_some]
          · unfold cpCl at a8
            unfold cpWd at a9
            refine ⟨?_, ?_⟩
            · rw [t4]
              unfold cpCl
              rw [eT]
              show nN M3 ≤ b.1 + (3 * fA' + tbN N (wT w1) g2 + 3 * sumN h.2.2.1 N + 5 * sumN (fun q => (rg' q).1) N)
              rw [t6]
              exact a8
            · rw [t5]
              unfold cpWd
              rw [eT]
              show nU M3 ≤ b.2 + (466 * fA' + tbU N m (wT w1) g2 + 11 * sumN h.2.2.1 N + 479 * sumN (fun q => (rg' q).1) N)
              rw [t7]
              exact a9
          · rw [eT]
            show g2.2.2.2.1.length + _ ≤ 5000
            rw [t3]
            exact d9
          · refine (F1.trans ?_).trans ((a10.mono ?_).trans (t8 P5 (by decide)))
            · refine FK_ex b4 (fun q _ hq => ?_)
              have s31 := (BdS_mo C1.1.1).2.2.2.2.1
              rcases hq with e | e <;> rw [e]
              · rw [s31.1]; decide
              · rw [s31.2]; decide
            · intro z hz
              unfold P5
              revert hz
              simp only [Bool.or_eq_true, beq_iff_eq]
              omega
          · have s1 := hk1 q hq
            obtain ⟨q1, q2⟩ := st1 q hq
            have hq31 : ¬ (q = 31 ∨ q = 32) := by omega
            have l1 : q < nN M1 := Nat.lt_of_lt_of_le q1 F1.1
            have l2 : q < nN M2 := by rw [b4.nN]; exact l1
            have mq1 : mo M1 q = mo M q := exa_mo F1 q1
            have mq2 : mo M2 q = mo M q := by
              rw [← mq1]
              exact mo_same (fun z _ => b4.kd z)
            have s2 : (∀ i, M2.1 q i = M1.1 q i) ∧ ∀ i, M2.2.1 q i = M1.2.1 q i := ⟨fun i => b4.1 q hq31 i, fun i => by rw [b4.2]⟩
            have s3 := a10.cell l2 (by rw [mq2]; rcases q2 with z | z <;> rw [z] <;> decide)
            have l3 : q < nN M3 := Nat.lt_of_lt_of_le l2 a10.1
            have s4 := F4.cell l3 (by rw [exa_mo a10 l2, mq2]; rcases q2 with z | z <;> rw [z] <;> decide)
            exact ⟨fun i => by rw [s4.1, s3.1, s2.1, s1.1], fun i => by rw [s4.2, s3.2, s2.2, s1.2]⟩
  · rw [if_neg full] at e3
    rw [e3, if_pos rfl, if_neg (fun z => full z.1), ← hw1]
    exact ⟨M1, _, rfl, C1, F1, hk1⟩
end CPSEE
