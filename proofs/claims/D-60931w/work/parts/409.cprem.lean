/-- a request is sent once more -/
def againY (N : Nat) (sd : Nat → Int) (tm : Int) (w : Wd) (p i : Nat) (y : Rq) : Wd :=
  ((sendY N sd tm w p (qAdr y) (qByt y)).1, (sendY N sd tm w p (qAdr y) (qByt y)).2.1, (sendY N sd tm w p (qAdr y) (qByt y)).2.2.1, tlU (wtl w) (5 * p + 3), wnx w, fup (wQ w) p ((wQ w p).set i (goQ y (tm + wst w 4))), wT w, wS w)
section CPREM
variable {M M1 : MM} {m al N p kx x i : Nat} {pa : Nat → Nat} {own : Nat → Ky} {sd ps sn pu rf : Nat → Int} {tm ad ty : Int} {lf : Nat → Nat} {b : Nat × Nat} {w : Wd} {h : Gh} {l bd : List Int} {Q : Nat → List Rq} {y : Rq} {n n' : Nat → Nat}
theorem cp_lose (hc : CPs M m al N pa own sd ps sn pu rf tm lf b w h) (ho : okW N own tm w) (ho2 : okW N own tm (loseY own w p (ky (kC M kx)) ad)) (hp : p < N) (hk : isK M kx) (had : 0 ≤ ad ∧ ad < 32) :
    ∃ M' h', f_X20_lose ((pa p + 10 : Nat) : Int) (kx : Int) ad M = some M' ∧ CPs M' m al N pa own sd ps sn pu rf tm lf b (loseY own w p (ky (kC M kx)) ad) h' ∧ ∀ S : Nat → Bool, S 2 = true → FK S M M' := by
  have hc0 := hc
  obtain ⟨c1, c2, c3, c4, c5, c6, c7, c8, c9⟩ := hc
  obtain ⟨kyo1, tl100, tad, _⟩ := ho.2.2.2 p hp
  obtain ⟨M1, g1, e1, e2, e4, e5, e6, e7, e8⟩ := c_loseT (ad := ad) c3 hp hk kyo1 (w32_id (by omega) (by omega)) (by have := c9; omega)
  exact ⟨M1, _, e1, cp_tab hc0 hp e2 e4 e5 e6 e7 (fun q hq => Nat.le_of_eq (e8 q hq)) (fun q hq => (ho2.2.2.2 q hq).2.1) ho.2.2.1, e6⟩
theorem goQ_prb {y : Rq} {d : Int} : qPrb (goQ y d) = qPrb y := rfl
theorem prF_set (hi : i < (Q p).length) (hy : qPrb y = qPrb ((Q p).getD i q0)) : prF (fup Q p ((Q p).set i y)) = prF Q := by
  funext q C
  unfold prF
  by_cases e : q = p
  · subst e
    rw [fup_eq]
    rw [any_erase (d := q0) (l := (Q q).set i y) (by rw [List.length_set]; exact hi), any_erase (d := q0) (l := Q q) hi]
    rw [List.getD_eq_getElem?_getD, List.getElem?_set, if_pos rfl, if_pos hi]
    have e1 : decide (qPrb y = some ((C : Nat) : Int)) = decide (qPrb ((Q q).getD i q0) = some ((C : Nat) : Int)) := by simp only [hy]
    show (decide (qPrb y = _) || _) = _
    rw [e1, List.eraseIdx_set_eq]
  · rw [fup_ne e]
theorem Lk_set (hL : Lk N Q n) (hp : p < N) (hi : i < (Q p).length) (hy : qPrb y = qPrb ((Q p).getD i q0)) : Lk N (fup Q p ((Q p).set i y)) n := fun q hq => by
  obtain ⟨l1, l2⟩ := hL q hq
  by_cases e : q = p
  · subst e
    rw [fup_eq]
    refine ⟨fun z hz => ?_, ?_⟩
    · rcases List.mem_or_eq_of_mem_set hz with w | w
      · exact l1 z w
      · intro c hc
        rw [w, hy] at hc
        exact l1 _ (by rw [gd_get hi]; exact List.getElem_mem hi) c hc
    · rw [List.pairwise_iff_getElem] at l2 ⊢
      have hg : ∀ k (hk : k < ((Q q).set i y).length), qPrb ((Q q).set i y)[k] = qPrb ((Q q)[k]'(by rw [List.length_set] at hk; exact hk)) := by
        intro k hk
        rw [List.getElem_set]
        by_cases c : i = k
        · subst c
          rw [if_pos rfl, hy, gd_get hi]
        · rw [if_neg c]
      intro a c ha hc hac
      rw [hg a ha, hg c hc]
      exact l2 a c _ _ hac
  · rw [fup_ne e]; exact ⟨l1, l2⟩
/-- a request is sent once more -/
theorem cp_again (hc : CPs M m al N pa own sd ps sn pu rf tm lf b w h) (ho : okW N own tm w) (hp : p < N) (hi : i < (wQ w p).length) (hy : y = (wQ w p).getD i q0) :
    ∃ M' h', f_X17_sendAgain ((pa p : Nat) : Int) (((h.2.2.2.2 p).2 i : Nat) : Int) M = some M' ∧ CPs M' m al N pa own sd ps sn pu rf tm lf b (againY N sd tm w p i y) h' ∧ FK (fun z => z == 1 || z == 5) M M' := by
  obtain ⟨c1, c2, c3, c4, c5, c6, c7, c8, c9⟩ := hc
  have hu := c5.1
  have oky := ((ho.2.2.2 p hp).2.2.2.2.2 y (by rw [hy, gd_get hi]; exact List.getElem_mem hi)).2
  obtain ⟨M', fA', e1, e2, e3, e4, e5, e6⟩ := c_sendAgain c1 c5 c6 c2 ho.1 ho.2.1 hp hi hy oky.1 ⟨oky.2.2.2.2.1, by have := oky.2.2.2.2.2; omega⟩
  have f : FK (fun z => z == 1 || z == 5) M M' := e6 _ (by decide) (by decide)
  refine ⟨M', (fA', h.2), e1, ⟨BoC_fk f hu (by decide) c1, e2, ?_, sts_fk f (by decide) c4, e3, e4, Lk_set c7 hp hi (by rw [goQ_prb, hy]), ?_, c9⟩, f⟩
  · show TbsC M' m N pa own (wT w) (prF (fup (wQ w) p ((wQ w p).set i (goQ y (tm + wst w 4))))) h.2.1
    rw [prF_set hi (by rw [goQ_prb, hy])]
    exact tbs_fk f ⟨by decide, by decide⟩ c3
  · obtain ⟨b1, b2⟩ := c8
    unfold cpCl at b1
    unfold cpWd at b2
    refine ⟨?_, ?_⟩
    · show nN M' ≤ b.1 + (3 * fA' + tbN N (wT w) h.2.1 + 3 * sumN h.2.2.1 N + 5 * sumN (fun q => (h.2.2.2.2 q).1) N)
      omega
    · show nU M' ≤ b.2 + (466 * fA' + tbU N m (wT w) h.2.1 + 11 * sumN h.2.2.1 N + 479 * sumN (fun q => (h.2.2.2.2 q).1) N)
      omega
/-- a request waits no more -/
theorem cp_remove (hc : CPs M m al N pa own sd ps sn pu rf tm lf b w h) (hp : p < N) (hi : i < (wQ w p).length) :
    ∃ M' h', f_X17_remove ((pa p : Nat) : Int) (i : Int) M = some ((((h.2.2.2.2 p).2 i : Nat) : Int), M') ∧ CPs M' m al N pa own sd ps sn pu rf tm lf b (setQ w (fup (wQ w) p ((wQ w p).eraseIdx i))) h' ∧ isRq M' ((h.2.2.2.2 p).2 i) ∧ RqC M' N pa (h.2.1.2.2.2.2 p).2.2.1 lf ((h.2.2.2.2 p).2 i) ((wQ w p).getD i q0) ∧ ∀ S : Nat → Bool, S 2 = true → S 5 = true → FK S M M' := by
  obtain ⟨c1, c2, c3, c4, c5, c6, c7, c8, c9⟩ := hc
  have hu := c5.1
  obtain ⟨M', rg', g', e1, e2, e3, e4, e5, e6, e7, e8, ⟨e9, e10, e11⟩, e12, e13⟩ := c_removeQ c6 c5 c3 c7 hp hi
  have f : FK (fun z => z == 2 || z == 5) M M' := e13 _ (by decide) (by decide)
  refine ⟨M', (h.1, g', h.2.2.1, h.2.2.2.1, rg'), e1, ⟨BoC_fk f hu (by decide) c1, NetRep_fk f hu (by decide) c2, e4, sts_fk f (by decide) c4, e3, e2, e5, ?_, ?_⟩, e6, e7, e13⟩
  · obtain ⟨b1, b2⟩ := c8
    unfold cpCl at b1
    unfold cpWd at b2
    have es : sumN (fun q => (rg' q).1) N = sumN (fun q => (h.2.2.2.2 q).1) N := sumN_congr N (fun q _ => e8 q)
    refine ⟨?_, ?_⟩
    · show nN M' ≤ b.1 + (3 * h.1 + tbN N (wT w) g' + 3 * sumN h.2.2.1 N + 5 * sumN (fun q => (rg' q).1) N)
      rw [es, e10, e12.1]; exact b1
    · show nU M' ≤ b.2 + (466 * h.1 + tbU N m (wT w) g' + 11 * sumN h.2.2.1 N + 479 * sumN (fun q => (rg' q).1) N)
      rw [es, e11, e12.2]; exact b2
  · show g'.2.2.2.1.length + sumN (fun q => (wT w q).length) N ≤ 5000
    rw [e9]; exact c9
/-- a tally -/
theorem cp_tally {j : Nat} (hc : CPs M m al N pa own sd ps sn pu rf tm lf b w h) (hp : p < N) (hj : j < 5) : CPs (sI M (pa p) (11 + j) (rI M (pa p) (11 + j) + 1)) m al N pa own sd ps sn pu rf tm lf b (setL w (tlU (wtl w) (5 * p + j))) h ∧ ∀ S : Nat → Bool, S 5 = true → FK S M (sI M (pa p) (11 + j) (rI M (pa p) (11 + j) + 1)) := by
  obtain ⟨c1, c2, c3, c4, c5, c6, c7, c8, c9⟩ := hc
  have hu := c5.1
  have F : ∀ S : Nat → Bool, S 5 = true → FK S M (sI M (pa p) (11 + j) (rI M (pa p) (11 + j) + 1)) := fun S hs => pe_fk c5 hp hs
  have f := F (fun z => z == 5) (by decide)
  exact ⟨⟨BoC_fk f hu (by decide) c1, NetRep_fk f hu (by decide) c2, tbs_fk f ⟨by decide, by decide⟩ c3, sts_fk f (by decide) c4, pe_tly c5 hp hj, rqs_word c6 hp (by omega), c7, c8, c9⟩, F⟩
/-- ints of the board's cells but 18 -/
theorem cp_board {Z : Nat → Prop} (hc : CPs M m al N pa own sd ps sn pu rf tm lf b w h) (hx : Ex Z M M1) (hz : ¬ Z 18) (hm : ∀ z, z < nN M → Z z → mo M z = 7) : CPs M1 m al N pa own sd ps sn pu rf tm lf b w h ∧ ∀ S : Nat → Bool, S 7 = true → FK S M M1 := by
  obtain ⟨c1, c2, c3, c4, c5, c6, c7, c8, c9⟩ := hc
  have hu := c5.1
  have F : ∀ S : Nat → Bool, S 7 = true → FK S M M1 := fun S hs => FK_ex hx (fun z hz1 hz2 => by rw [hm z hz1 hz2]; exact hs)
  have f := F (fun z => z == 7) (by decide)
  exact ⟨⟨BoC_ex hx hz c1, NetRep_fk f hu (by decide) c2, tbs_fk f ⟨by decide, by decide⟩ c3, sts_fk f (by decide) c4, PeC_fk f ⟨by decide, by decide⟩ c5, RqsC_fk f (by decide) c6, c7, ⟨by rw [hx.nN]; exact c8.1, by rw [hx.nU]; exact c8.2⟩, c9⟩, F⟩
end CPREM
