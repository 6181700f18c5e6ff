/-! a work of the class ends -/
def CB (M : MM) (m al N : Nat) (pa : Nat → Nat) (own : Nat → Ky) (sd ps sn pu rf : Nat → Int) (tm : Int) (lf : Nat → Nat) (b0 : Nat × Nat) (eg : EG) (tk : Nat → Nat) (pb as : Nat → Option Nat) (nb : Nat) (mn : Nat → Int) (fa : Nat → Nat) (Y : Ys) (h : Gh) : Prop :=
  CPs M m al N pa own sd ps sn pu rf tm lf (eb b0 eg (12 + N)) (yw Y) h ∧ LksC M m (12 + N) pa (yl Y) lf eg ∧ WksC M (12 + N) pa tk pb as (ys Y) ∧ TksC M nb tk (ys Y) (yq Y) mn fa
/-- what is so of the records -/
def recY (nb : Nat) (Y : Ys) : Prop := nb ≤ 256 ∧ ∀ t, t < 12 → yv Y 226 t ≠ 0 → (0 ≤ yv Y 229 t ∧ yv Y 229 t < (nb : Int)) ∧ yv Y 265 (yv Y 229 t).toNat = yv Y 227 t ∧ ∀ t', t' < 12 → t' ≠ t → yv Y 226 t' ≠ 0 → yv Y 229 t' ≠ yv Y 229 t
/-- what a task has found is there -/
def toldF (M : MM) (a : Nat) (sc : VV) (q : Qs) (fa : Nat → Nat) (r : Nat) : Prop := rR M a 6 = ((fa r : Nat) : Int) ∧ kd M (fa r) = (528, (qR q r).length) ∧ (∀ i, i < (qR q r).length → rI M (fa r) i = (qR q r).getD i 0) ∧ rI M a 5 = (if vI sc 265 r = 1 then 6 else 3)
section CEND
variable {S : Nat → Bool} {M M1 : MM} {m al N p t nb : Nat} {pa tk : Nat → Nat} {own : Nat → Ky} {sd ps sn pu rf : Nat → Int} {tm how : Int} {lf : Nat → Nat} {b0 : Nat × Nat} {h : Gh} {eg : EG} {pb as : Nat → Option Nat} {mn mn' : Nat → Int} {fa fa' : Nat → Nat} {Y Y1 : Ys}
theorem rec_ft (h : recY nb Y) (f : FT t Y Y1) (h6 : yv Y1 226 t ≠ 0 → yv Y 226 t ≠ 0) : recY nb Y1 := by
  have g9 : ∀ t', yv Y1 229 t' = yv Y 229 t' := fun t' => by
    by_cases c : t' = t
    · rw [c]; exact f.2.2.2.1.2.2
    · exact f.2.2.1 229 t' (by unfold wrT; omega)
  have g7 : ∀ t', yv Y1 227 t' = yv Y 227 t' := fun t' => by
    by_cases c : t' = t
    · rw [c]; exact f.2.2.2.1.1
    · exact f.2.2.1 227 t' (by unfold wrT; omega)
  have g6 : ∀ t', yv Y1 226 t' ≠ 0 → yv Y 226 t' ≠ 0 := fun t' z => by
    by_cases c : t' = t
    · rw [c] at z ⊢; exact h6 z
    · rw [show yv Y1 226 t' = yv Y 226 t' from f.2.2.1 226 t' (by unfold wrT; omega)] at z; exact z
  refine ⟨h.1, fun t' ht' z => ?_⟩
  obtain ⟨a1, a2, a3⟩ := h.2 t' ht' (g6 t' z)
  rw [g9, g7]
  refine ⟨a1, ?_, fun t2 h2 hne z2 => by rw [g9]; exact a3 t2 h2 hne (g6 t2 z2)⟩
  rw [show yv Y1 265 (yv Y 229 t').toNat = yv Y 265 (yv Y 229 t').toNat from f.2.2.1 265 _ (by unfold wrT; omega)]
  exact a2
/-- cells of works and tasks are nothing to the peers' part -/
theorem cp_11 (hC : CPs M m al N pa own sd ps sn pu rf tm lf b0 (yw Y) h) (f : FK S M M1) (hs : S 1 = false ∧ S 2 = false ∧ S 3 = false ∧ S 5 = false ∧ S 7 = false ∧ S 9 = false ∧ S 10 = false) (hn : nN M1 = nN M ∧ nU M1 = nU M) : CPs M1 m al N pa own sd ps sn pu rf tm lf b0 (yw Y) h := by
  have := cp_w6 (d1 := 0) (d2 := 0) hC f ⟨hs.1, hs.2.1, hs.2.2.1, hs.2.2.2.1, hs.2.2.2.2.2.1, hs.2.2.2.2.2.2⟩ (BoC_fk f hC.2.2.2.2.1.1 hs.2.2.2.2.1 hC.1) (by omega) (by omega)
  exact this
theorem c_end (hC : CB M m al N pa own sd ps sn pu rf tm lf b0 eg tk pb as nb mn fa Y h) (ht : t < 12 + N) (hgo : yv Y 226 t ≠ 0) (hrc : yv Y 229 t = -1 ∨ (0 ≤ yv Y 229 t ∧ yv Y 229 t < (nb : Int))) (hk : how ≠ 1 ∨ yv Y 229 t < 0 ∨ (yv Y 265 (yv Y 229 t).toNat ≠ 1 ∧ yv Y 265 (yv Y 229 t).toNat ≠ 3) ∨ toldF M (tk (yv Y 229 t).toNat) (ys Y) (yq Y) fa (yv Y 229 t).toNat) (hw : w32 how = how) (hlf : lf t + 1 < 2147483648) :
    ∃ M', f_X11_end ((wa pa t : Nat) : Int) how M = some M' ∧ CB M' m al N pa own sd ps sn pu rf tm (fup lf t (lf t + 1)) b0 eg tk pb as nb mn fa (clY t how Y) h ∧ FK (fun z => z == 11 || z == 12) M M' := by
  obtain ⟨hp, hL, hW, hT⟩ := hC
  obtain ⟨hu, u1, u2, u3⟩ := id hL
  obtain ⟨w1, w2, w3, w4, w5⟩ := u2 t ht
  obtain ⟨k1, k2, k3, k4⟩ := hW t ht
  obtain ⟨g1, g2, g3⟩ := k4 hgo
  have hlt := WlS_lt hu w1
  obtain ⟨a, ha⟩ : ∃ a, a = wa pa t := ⟨_, rfl⟩
  obtain ⟨M2, hM2⟩ : ∃ M2, M2 = sI (sI M a 6 0) a 5 ((lf t : Int) + 1) := ⟨_, rfl⟩
  have k11 : (kd M a).1 = 11 := by rw [ha]; exact w1.1
  have x2 : ExA (A12 (wa pa t)) M M2 := by
    rw [hM2, ← ha]
    exact ((ExC_sI (A := A12 a) (Or.inl rfl)).trans (ExC_sI (A := A12 a) (Or.inl rfl))).exa
  have r5 : rI M2 (wa pa t) 5 = ((lf t + 1 : Nat) : Int) := by
    rw [hM2, ← ha, rI_sI, if_pos ⟨rfl, rfl⟩, w32_id (by omega) (by omega)]; omega
  have r6 : rI M2 (wa pa t) 6 = 0 := by
    rw [hM2, ← ha, rI_sI, if_neg (by omega), rI_sI, if_pos ⟨rfl, rfl⟩]; rfl
  have rr : ∀ i, rR M2 (wa pa t) i = rR M (wa pa t) i := fun i => by rw [hM2, rR_sI, rR_sI]
  have L2 : LksC M2 m (12 + N) pa (yl Y) (fup lf t (lf t + 1)) eg := LksC_w hL ht x2 (fun i _ => rr i) (by rw [r5, fup_eq]) (fun t' z => fup_ne z)
  have f2 := FK_w12 w1 x2
  have p2 : CPs M2 m al N pa own sd ps sn pu rf tm (fup lf t (lf t + 1)) (eb b0 eg (12 + N)) (dtW t (yw Y)) h := cp_life (cp_11 hp f2 (by decide) (by rw [hM2]; exact ⟨rfl, rfl⟩)) ht
  -- words of the works
  have cl6 : ∀ sc, vI sc 226 t = 0 → (∀ t', t' ≠ t → ∀ a, a = 226 ∨ a = 227 ∨ a = 228 ∨ a = 229 ∨ a = 241 ∨ a = 242 → vI sc a t' = yv Y a t') → WksC M2 (12 + N) pa tk pb as sc := fun sc z1 z2 => Wks_w hL ht x2 hW z2 ⟨by rw [rr]; exact k1, by rw [rr]; exact k2, by rw [r6, z1], fun z => absurd z1 z⟩
  have T2 : TksC M2 nb tk (ys Y) (yq Y) mn fa := Tks_fk hu f2 (by decide) hT
  have e0 : (gfi 11 5 (a : Int) (sI M a 6 0)) = some (lf t : Int) := by
    rw [gfi_e (by rw [kd_sI]; exact k11), rI_sI, if_neg (by omega), ha, w5]
  have e4 : rR (sI (sI M a 6 0) a 5 ((lf t : Int) + 1)) a 4 = rR M (wa pa t) 4 := by rw [rR_sI, rR_sI, ha]
  unfold f_X11_end
  rw [← ha, pfz_e k11 (Or.inl rfl), Option.bind_some, e0, Option.bind_some, pfi_e (by rw [kd_sI]; exact k11), Option.bind_some, gfr_e (by rw [kd_sI, kd_sI]; exact k11), e4, Option.bind_some, g2, ← hM2]
  have clv : clS t how (ys Y) = if yv Y 229 t < 0 then st2 (ys Y) 226 t 0 else st2 (st2 (ys Y) 226 t 0) 267 (yv Y 229 t).toNat how := rfl
  by_cases c : vI (ys Y) 229 t < 0
  · rw [if_pos c, if_pos rfl]
    refine ⟨M2, rfl, ⟨p2, L2, ?_, ?_⟩, f2.mono (fun z hz => by simp at hz ⊢; omega)⟩
    · show WksC M2 (12 + N) pa tk pb as (clS t how (ys Y))
      rw [clv, if_pos c]
      exact cl6 _ (by rw [vI_eq rfl]; rfl) (fun t' z a _ => vI_ne (by omega))
    · show TksC M2 nb tk (clS t how (ys Y)) (yq Y) mn fa
      rw [clv, if_pos c]
      exact Tks_sc T2 (fun r _ a z => vI_ne (by omega))
  · obtain ⟨r, hr⟩ : ∃ r : Nat, yv Y 229 t = (r : Int) := ⟨(yv Y 229 t).toNat, by have c : ¬ yv Y 229 t < 0 := c; omega⟩
    have hr' : vI (ys Y) 229 t = (r : Int) := hr
    have rnb : r < nb := by omega
    have er : (yv Y 229 t).toNat = r := by omega
    rw [er] at hk
    have tc := T2.1 r rnb
    have k26 : (kd M2 (tk r)).1 = 26 := by rw [tc.1]
    have x3 : ExA (fun z => z = tk r) M2 (sI M2 (tk r) 2 how) := (ExC_sI (A := fun z => z = tk r) rfl).exa
    have f3 : FK (fun z => z == 11) M2 (sI M2 (tk r) 2 how) := FK_exa x3 (fun z _ hz => by rw [hz, mo_cl1 k26 (by decide) (by decide)]; rfl)
    rw [if_neg c, hr', show ((r : Nat) : Int).toNat = r from rfl, if_neg (by omega)]
    refine ⟨sI M2 (tk r) 2 how, ?_, ⟨?_, ?_, ?_, ?_⟩, FK.trans (f2.mono (fun z hz => by simp at hz ⊢; omega)) (f3.mono (fun z hz => by simp at hz ⊢; omega))⟩
    · rw [Option.bind_some, pfi_e k26, Option.bind_some]
      rfl
    · exact cp_11 (Y := clY t how Y) p2 f3 (by decide) ⟨rfl, rfl⟩
    · exact LksC_fk f3 (by decide) L2
    · show WksC (sI M2 (tk r) 2 how) (12 + N) pa tk pb as (clS t how (ys Y))
      rw [clv, if_neg c]
      refine Wks_fk L2 f3 (by decide) (cl6 _ (by rw [vI_ne (by omega), vI_eq rfl]; rfl) (fun t' z a _ => by rw [vI_ne (by omega), vI_ne (by omega)]))
    · show TksC (sI M2 (tk r) 2 how) nb tk (clS t how (ys Y)) (yq Y) mn fa
      rw [clv, if_neg c, er]
      obtain ⟨s, hs⟩ : ∃ s, s = st2 (st2 (ys Y) 226 t 0) 267 r how := ⟨_, rfl⟩
      have v : ∀ a i, a ≠ 226 → ¬ (a = 267 ∧ i = r) → vI s a i = yv Y a i := fun a i z1 z2 => by rw [hs, vI_ne z2, vI_ne (by omega)]
      have v7 : vI s 267 r = how := by rw [hs, vI_eq rfl, hw]
      rw [← hs]
      refine Tks_w (L2.1) rnb T2 x3 (fun r' z a y => v a r' (by omega) (by omega)) (fun _ _ => rfl) ?_
      obtain ⟨t1, t2, t3, t4, t5, t6, t7, t8⟩ := tc
      have R : ∀ i, i ≠ 2 → rI (sI M2 (tk r) 2 how) (tk r) i = rI M2 (tk r) i := fun i z => by rw [rI_sI, if_neg (by omega)]
      refine ⟨by rw [kd_sI]; exact t1, by rw [R 0 (by decide), v _ _ (by decide) (by omega)]; exact t2, by rw [R 1 (by decide), v _ _ (by decide) (by omega)]; exact t3, by rw [rI_sI, if_pos ⟨rfl, rfl⟩, v7, hw], by rw [R 3 (by decide), v _ _ (by decide) (by omega)]; exact t5, by rw [R 4 (by decide)]; exact t6, fun z => ?_, fun z => by rw [rR_sI]; exact t8 (fun y => z (by rw [v _ _ (by decide) (by omega)]; exact y))⟩
      unfold tldT at z
      rw [v7, v _ _ (by decide) (by omega)] at z
      rcases hk with k | k | k | ⟨k1, k2, k3, k4⟩
      · exact absurd z.1 k
      · omega
      · omega
      · rw [v _ _ (by decide) (by omega)]
        have l1 : fa r < nN M := hu.lt (by rw [k2]; show 528 ≠ 63; decide)
        have ltk : tk r < nN M := hu.lt (by rw [(hT.1 r rnb).1]; decide)
        have n1 : fa r ≠ tk r := fun e => by rw [e, (hT.1 r rnb).1] at k2; exact absurd (congrArg Prod.fst k2) (by show ¬ (26 : Nat) = 528; decide)
        have n2 : ¬ A12 (wa pa t) (fa r) := fun e => by
          have := A12_mo w1 e
          obtain ⟨kk, ll, e2⟩ : ∃ kk ll, kd M (fa r) = (kk, ll) := ⟨_, _, rfl⟩
          have ek : kk = 528 := by rw [k2] at e2; exact (Prod.mk.inj e2).1.symm
          rw [mo_ar e2 (by omega) (by omega), ek] at this
          exact absurd this (by decide)
        have n3 : ¬ A12 (wa pa t) (tk r) := fun e => by
          have := A12_mo w1 e
          rw [mo_cl1 (c := 26) (by rw [(hT.1 r rnb).1]) (by decide) (by decide)] at this
          exact absurd this (by decide)
        exact ⟨by rw [rR_sI, x2.rR ltk n3]; exact k1, by rw [kd_sI, x2.kd l1]; exact k2, fun i hi => by rw [rI_sI, if_neg (fun e => n1 e.1), x2.rI l1 n2]; exact k3 i hi, by rw [R 5 (by decide), x2.rI ltk n3]; exact k4⟩
end CEND
