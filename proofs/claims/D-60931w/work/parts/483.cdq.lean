/-! how deep a query goes into itself -/
def dq (own : Nat → Ky) (Y : Ys) (t : Nat) : Nat :=
  if yv Y 230 t = 3 then 24 else if yv Y 230 t = 4 then 15 + (if qH (yq Y) (qQ Y t) = own (yp Y t) then ((259 - yv Y 254 t) / 30).toNat else 1) else (if yv Y 263 t = 0 then 7 else 0) + ((229 - yv Y 264 t) / 30).toNat
section CDQ
variable {m al N t : Nat} {own : Nat → Ky} {sd : Nat → Int} {tm : Int} {Y : Ys} {Lb : Nat → List Trm} {ev : Nat → Nat}
theorem dq_le (h : qOK own Y t) : dq own Y t ≤ 24 := by
  unfold dq
  by_cases c3 : yv Y 230 t = 3
  · rw [if_pos c3]; exact Nat.le_refl _
  · rw [if_neg c3]
    by_cases c4 : yv Y 230 t = 4
    · rw [if_pos c4]
      by_cases o : qH (yq Y) (qQ Y t) = own (yp Y t)
      · rw [if_pos o]
        rw [qI4 c4] at o
        have := h.2.2.2.2.2.1 o
        omega
      · rw [if_neg o]; omega
    · rw [if_neg c4]
      have := (h.2.2.2.2.2.2.2.2.2.1 (by have := h.2.1; omega)).2.1
      by_cases z : yv Y 263 t = 0
      · rw [if_pos z]; omega
      · rw [if_neg z]; omega
/-- asking itself a query comes nearer to its end -/
theorem dq_own (hs : sdY m N own tm Lb ev Y) (ht : t < 44) (h : LI N own Lb Y t) (hg : yv Y 226 t ≠ 0) (h1 : yv Y 230 t ≠ 1) (h2 : yv Y 230 t ≠ 2) (o : qH (yq Y) (qQ Y t) = own (yp Y t)) : yv (qonY N own sd tm t Y).2 226 t = 0 ∨ dq own (qonY N own sd tm t Y).2 t + 1 ≤ dq own Y t := by
  obtain ⟨hw, hl⟩ := h
  obtain ⟨hz, hp⟩ := hl hg
  obtain ⟨hh, hk, ht2, h9, hq, _⟩ := wOK_q hw hg h1 h2
  have wd := wOK_dt hw hg h1 h2
  have hqd : qOK own (setW Y (dtW t (yw Y))) t := hq
  have pN := yp_lt hh
  have p32 : yp Y t < 32 := by have := hs.1.2.2.1; omega
  obtain ⟨_, hst, _⟩ := hs.2.2.2.1 (yp Y t) p32
  have s9 := hs.1.1.2.2.2.2.2.2.2.2.2.1
  have hn : ∀ q y, y ∈ wQ (yw (setW Y (dtW t (yw Y)))) q → qWrk y ≠ some t := fun q y hy => dt_none hy
  unfold qonY
  by_cases c3 : yv Y 230 t = 3
  · rw [if_pos c3, if_pos o]
    have d3 : dq own Y t = 24 := by unfold dq; rw [if_pos c3]
    right
    have hbk := mkF_okB (h := (wst (yw Y) 9).toNat) (ps := choS (qK (yq Y) (qQ Y t)) (wS (yw Y) (yp Y t))) (Nat.le_trans (List.length_filter_le _ _) hst.1) (by omega)
    have ok := qOK_tb (hs := wst (yw Y) 9) hqd c3 s9 hbk
    obtain ⟨Y1, hY1⟩ : ∃ Y1, Y1 = tbY t (wst (yw Y) 9) (mkF (wst (yw Y) 9).toNat (choS (qK (yq Y) (qQ Y t)) (wS (yw Y) (yp Y t)))) (setW Y (dtW t (yw Y))) := ⟨_, rfl⟩
    rw [← hY1] at ok
    show dq own (tbY t (wst (yw Y) 9) (mkF (wst (yw Y) 9).toNat (choS (qK (yq Y) (qQ Y t)) (wS (yw Y) (yp Y t)))) (setW Y (dtW t (yw Y)))) t + 1 ≤ _
    rw [← hY1, d3]
    have v0 : yv Y1 230 t = 4 := by rw [hY1]; show vI (st2 (st2 (ys Y) 256 t _) 230 t 4) 230 t = _; rw [vI_eq rfl]; rfl
    unfold dq
    rw [v0, if_neg (by decide), if_pos rfl]
    by_cases o2 : qH (yq Y1) (qQ Y1 t) = own (yp Y1 t)
    · rw [if_pos o2]
      rw [qI4 v0] at o2
      have := ok.2.2.2.2.2.1 o2
      omega
    · rw [if_neg o2]; omega
  · rw [if_neg c3]
    by_cases c4 : yv Y 230 t = 4
    · rw [if_pos c4, if_pos o]
      obtain ⟨e1, e2, e3⟩ := hp.2 c4 o
      have d4 : dq own Y t = 15 + ((259 - yv Y 254 t) / 30).toNat := by unfold dq; rw [if_neg c3, if_pos c4, if_pos o]
      have pk := page_okM (key := qK (yq Y) (qQ Y t)) (hs := (hsQ Y t).toNat) (skip := (yv Y 254 t).toNat) (bs := qB (yq Y) t) hst
      have p30 := pk.1
      obtain ⟨tl, htl⟩ : ∃ tl, tl = pageS (yv Y 254 t).toNat (mtQ Y t) := ⟨_, rfl⟩
      have p30 : tl.length ≤ 30 := by rw [htl]; exact p30
      have qo := qOK_tm (more := moreS (yv Y 254 t).toNat (mtQ Y t)) (tl := tl) hqd c4 (by rw [htl]; exact pk) (fun z => by
        rw [show yv (setW Y (dtW t (yw Y))) 254 t = yv Y 254 t from rfl, w32s (by omega)]; omega)
      show yv (tmY t (moreS (yv Y 254 t).toNat (mtQ Y t)) (pageS (yv Y 254 t).toNat (mtQ Y t)) (setW Y (dtW t (yw Y)))) 226 t = 0 ∨ dq own (tmY t (moreS (yv Y 254 t).toNat (mtQ Y t)) (pageS (yv Y 254 t).toNat (mtQ Y t)) (setW Y (dtW t (yw Y)))) t + 1 ≤ _
      rw [← htl]
      rcases qo with z | ⟨o1, o2, o3⟩
      · exact Or.inl z
      · right
        rw [d4]
        rcases o3 with ⟨r0, r1, r2, r3, r4, r5, r6, r7, r8, r9, r10⟩ | ⟨r0, r1, r2⟩
        · have l30 : tl.length = 30 := by
            rw [htl]
            unfold pageS
            unfold moreS at r1
            have := of_decide_eq_true r1
            rw [List.length_map, List.length_take]; omega
          rw [show yv (setW Y (dtW t (yw Y))) 254 t = yv Y 254 t from rfl, l30, w32s (by omega)] at r4
          have ok4 := o1
          unfold dq
          rw [r0, if_neg (by decide), if_pos rfl, r4]
          by_cases oo : qH (yq (tmY t (moreS (yv Y 254 t).toNat (mtQ Y t)) tl (setW Y (dtW t (yw Y))))) (qQ (tmY t (moreS (yv Y 254 t).toNat (mtQ Y t)) tl (setW Y (dtW t (yw Y)))) t) = own (yp (tmY t (moreS (yv Y 254 t).toNat (mtQ Y t)) tl (setW Y (dtW t (yw Y)))) t)
          · rw [if_pos oo]; omega
          · rw [if_neg oo]
            omega
        · unfold dq
          rw [r0, if_neg (by decide), if_neg (by decide), r1, if_pos rfl, r2]
          omega
    · have c5 : yv Y 230 t = 5 := by have := hq.2.1; omega
      rw [if_neg c4, if_pos o]
      have d5 : dq own Y t = (if yv Y 263 t = 0 then 7 else 0) + ((229 - yv Y 264 t) / 30).toNat := by unfold dq; rw [if_neg c3, if_neg c4]
      have r64 := (hq.2.2.2.2.2.2.2.2.2.1 c5).2.1
      have l200 := hq.2.2.2.2.2.2.2.2.1.1
      rcases qOK_tc (tl := chkS (qK (yq Y) (qQ Y t)) ((chQ Y t).map od) (wS (yw Y) (yp Y t))) hqd c5 (chk_okM hst (by rw [List.length_map]; unfold chQ; rw [List.length_take]; omega)) with z | ⟨o1, o2, o3, o4⟩
      · exact Or.inl z
      · right
        show dq own (tcY t (chkS (qK (yq Y) (qQ Y t)) ((chQ Y t).map od) (wS (yw Y) (yp Y t))) (setW Y (dtW t (yw Y)))) t + 1 ≤ _
        rw [d5]
        unfold dq
        rw [o3, if_neg (by decide), if_neg (by decide)]
        rcases o4 with ⟨e1, e2, e3⟩ | ⟨e1, e2, e3, e4⟩
        · rw [e1, e2]
          rw [show yv (setW Y (dtW t (yw Y))) 263 t = yv Y 263 t from rfl, show yv (setW Y (dtW t (yw Y))) 264 t = yv Y 264 t from rfl]
          have := (o1.2.2.2.2.2.2.2.2.2.1 o3).2.1
          rw [e2, show yv (setW Y (dtW t (yw Y))) 264 t = yv Y 264 t from rfl] at this
          have := o1.2.2.2.2.2.2.2.2.1.1
          omega
        · rw [show yv (setW Y (dtW t (yw Y))) 263 t = yv Y 263 t from rfl] at e1
          rw [e1, e2, e3, if_pos rfl, if_neg (by decide)]
          omega
end CDQ
