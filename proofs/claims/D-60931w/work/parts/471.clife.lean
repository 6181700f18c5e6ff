/-! a life more; what is so at the class's side between events -/
section BEHDT
variable {m al N p t : Nat} {own : Nat → Ky} {sd : Nat → Int} {tm how : Int} {Y : Ys} {Lb : Nat → List Trm} {key : Ky} {vals : Bool}
theorem dt_cl : clY t how (setW Y (dtW t (yw Y))) = clY t how Y := by
  show (dtW t (dtW t (yw Y)), yl Y, clS t how (ys Y), yq Y) = _
  rw [dtW_dtW]; rfl
theorem dt_lk : lkY m own t key vals (setW Y (dtW t (yw Y))) = lkY m own t key vals Y := by
  show (dtW t (dtW t (yw Y)), _, _, _) = _
  rw [dtW_dtW]; rfl
theorem dt_rf : rfY m own t (setW Y (dtW t (yw Y))) = rfY m own t Y := by
  unfold rfY
  rw [dt_cl, dt_lk]
  rfl
theorem beh_dt : behY m N own sd tm Lb t (setW Y (dtW t (yw Y))) = behY m N own sd tm Lb t Y := by
  unfold behY
  have e : ∀ a i, yv (setW Y (dtW t (yw Y))) a i = yv Y a i := fun _ _ => rfl
  rw [e, e]
  by_cases c0 : yv Y 227 t = 0 ∨ yv Y 227 t = 4
  · rw [if_pos c0, if_pos c0]
    by_cases c : yv Y 242 t < 0
    · rw [if_pos c, if_pos c]
      unfold brY
      exact dt_rf (Y := setV (setV Y 241 t (cloT (own (yp Y t)) (wT (yw Y) (yp Y t)))) 242 t 0)
    · rw [if_neg c, if_neg c]
      exact dt_rf (Y := setV Y 242 t (yv Y 242 t + 1))
  · rw [if_neg c0, if_neg c0]
    by_cases c1 : yv Y 227 t = 1
    · rw [if_pos c1, if_pos c1]
      unfold tlY
      exact dt_cl (Y := (yw Y, yl Y, st2 (ys Y) 269 (yv Y 229 t).toNat (((frontE m (yl Y t).2.2.1).length : Nat) : Int), tlQ (yv Y 229 t).toNat (fwE (frontE m (yl Y t).2.2.1)) (yq Y)))
    · rw [if_neg c1, if_neg c1]
      by_cases c2 : yv Y 227 t = 2
      · rw [if_pos c2, if_pos c2]
        unfold stoY
        show (((frontE m (yl Y t).2.2.1).foldl _ (dtW t (dtW t (yw Y)), _)).1, _, ((frontE m (yl Y t).2.2.1).foldl _ (dtW t (dtW t (yw Y)), _)).2, _) = _
        rw [dtW_dtW]; rfl
      · rw [if_neg c2, if_neg c2]
        unfold hldY
        show (match hldE (own (yp Y t)) (qK (yq Y) (3 * t + (yv Y 248 t).toNat)) (wS (yw Y) (yp Y t)) (frontE m (yl Y t).2.2.1) with | none => _ | some x => _) = _
        cases hldE (own (yp Y t)) (qK (yq Y) (3 * t + (yv Y 248 t).toNat)) (wS (yw Y) (yp Y t)) (frontE m (yl Y t).2.2.1) with
        | none =>
          show tlY t 0 [] (setW Y (dtW t (yw Y))) = tlY t 0 [] Y
          unfold tlY
          exact dt_cl (Y := (yw Y, yl Y, st2 (ys Y) 269 (yv Y 229 t).toNat ((0 : Nat) : Int), tlQ (yv Y 229 t).toNat [] (yq Y)))
        | some x =>
          obtain ⟨Y1, hY1⟩ : ∃ Y1 : Ys, Y1 = (yw Y, yl Y, st2 (st2 (st2 (ys Y) 250 (3 * t + (yv Y 248 t).toNat) (eAdr x)) 252 (3 * t + (yv Y 248 t).toNat) (hcE (own (yp Y t)) (qK (yq Y) (3 * t + (yv Y 248 t).toNat)) (wS (yw Y) (yp Y t)) x)) 248 t (yv Y 248 t + 1), hdQ (3 * t + (yv Y 248 t).toNat) (eKey x) (yq Y)) := ⟨_, rfl⟩
          have e1 : hldZ m own t (yv Y 248 t).toNat (setW Y1 (dtW t (yw Y1))) = hldZ m own t (yv Y 248 t).toNat Y1 := by
            unfold hldZ
            rw [dt_lk]
            show (if _ then _ else (dtW t (dtW t (yw Y1)), _, _, _)) = _
            rw [dtW_dtW]; rfl
          rw [hY1] at e1
          exact e1
end BEHDT
/-- what is so at the class's side of the works, queries aside -/
def CQ (M : MM) (m al N : Nat) (pa : Nat → Nat) (own : Nat → Ky) (sd ps sn pu rf : Nat → Int) (tm : Int) (lf : Nat → Nat) (b0 : Nat × Nat) (eg : EG) (tk : Nat → Nat) (pb as : Nat → Option Nat) (nb : Nat) (mn : Nat → Int) (fa : Nat → Nat) (Lb : Nat → List Trm) (LA : Nat → List Nat) (dn sto : Nat → Int) (Y : Ys) (h : Gh) : Prop :=
  CB M m al N pa own sd ps sn pu rf tm lf b0 eg tk pb as nb mn fa Y h ∧ PubsC M (12 + N) pb Lb LA sto (ys Y) ∧ LibsC M N pa Lb LA dn ∧ recY nb Y ∧ (∀ r, r < nb → mn r = yv Y 269 r) ∧ ∀ t, t < 12 → yv Y 226 t ≠ 0 → yv Y 227 t = 2 → sto t = yv Y 269 (yv Y 229 t).toNat
section CLIFE
variable {S : Nat → Bool} {M M1 M2 : MM} {m al N p t nb n P k oth : Nat} {pa tk : Nat → Nat} {own : Nat → Ky} {sd ps sn pu rf : Nat → Int} {tm how : Int} {lf : Nat → Nat} {b0 : Nat × Nat} {h : Gh} {eg : EG} {pb as : Nat → Option Nat} {mn sto : Nat → Int} {fa : Nat → Nat} {Y : Ys} {Lb : Nat → List Trm} {LA : Nat → List Nat} {dn : Nat → Int} {ev : Nat → Nat}
theorem c_life (hC : CB M m al N pa own sd ps sn pu rf tm lf b0 eg tk pb as nb mn fa Y h) (ht : t < 12 + N) (hlf : lf t + 1 < 2147483648) : CB (sI M (wa pa t) 5 ((lf t : Int) + 1)) m al N pa own sd ps sn pu rf tm (fup lf t (lf t + 1)) b0 eg tk pb as nb mn fa (setW Y (dtW t (yw Y))) h ∧ FK (fun z => z == 12) M (sI M (wa pa t) 5 ((lf t : Int) + 1)) := by
  obtain ⟨hp, hL, hW, hT⟩ := hC
  obtain ⟨hu, u1, u2, u3⟩ := id hL
  obtain ⟨w1, w2, w3, w4, w5⟩ := u2 t ht
  obtain ⟨a, ha⟩ : ∃ a, a = wa pa t := ⟨_, rfl⟩
  have x2 : ExA (A12 (wa pa t)) M (sI M (wa pa t) 5 ((lf t : Int) + 1)) := (ExC_sI (A := A12 (wa pa t)) (Or.inl rfl)).exa
  have f2 := FK_w12 w1 x2
  have r5 : rI (sI M (wa pa t) 5 ((lf t : Int) + 1)) (wa pa t) 5 = ((lf t + 1 : Nat) : Int) := by
    rw [rI_eq rfl, w32_id (by omega) (by omega)]; omega
  have I : ∀ i, i ≠ 5 → rI (sI M (wa pa t) 5 ((lf t : Int) + 1)) (wa pa t) i = rI M (wa pa t) i := fun i z => rI_ne (by omega)
  have I3 : ∀ i, rI (sI M (wa pa t) 5 ((lf t : Int) + 1)) (wa pa t + 3) i = rI M (wa pa t + 3) i := fun i => rI_ne (by omega)
  refine ⟨⟨cp_life (cp_11 hp f2 (by decide) ⟨rfl, rfl⟩) ht, LksC_w hL ht x2 (fun _ _ => rfl) (by rw [r5, fup_eq]) (fun t' z => fup_ne z), Wks_w hL ht x2 hW (fun _ _ _ _ => rfl) ?_, Tks_fk hu f2 (by decide) hT⟩, f2⟩
  obtain ⟨k1, k2, k3, k4⟩ := hW t ht
  refine ⟨k1, k2, by rw [I 6 (by decide)]; exact k3, fun z => ?_⟩
  obtain ⟨g1, g2, g3, g4⟩ := k4 z
  exact ⟨g1, g2, fun y => ⟨(g3 y).1, by rw [I3]; exact (g3 y).2.1, fun y2 => by rw [I3, I3]; exact (g3 y).2.2 y2⟩, g4⟩
theorem rec_w {w : Wd} (h : recY nb Y) : recY nb (setW Y w) := h
end CLIFE
