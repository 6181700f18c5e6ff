/-! the steps of a query keep what is so of it -/
/-- what is so of the listing as a peer asks itself -/
def pgQ (own : Nat → Ky) (Y : Ys) (t : Nat) : Prop := (yv Y 230 t = 3 → yv Y 254 t = 0 ∧ qL (yq Y) t = []) ∧ (yv Y 230 t = 4 → qH (yq Y) (qQ Y t) = own (yp Y t) → yv Y 254 t = ((qL (yq Y) t).length : Int) ∧ (qL (yq Y) t).length < 200 ∧ qL (yq Y) t = ((mtQ Y t).take (qL (yq Y) t).length).map itm)
theorem addL_le {L : List It} {x : It} : L.length ≤ (addL L x).length := by
  unfold addL
  split
  · exact Nat.le_refl _
  · rw [List.length_append]; omega
theorem addLs_le {tl : List It} : ∀ {L : List It}, L.length ≤ (tl.foldl addL L).length := by
  induction tl with
  | nil => intro L; exact Nat.le_refl _
  | cons x tl ih => intro L; rw [List.foldl_cons]; exact Nat.le_trans addL_le ih
theorem addL_mem {L : List It} {x z : It} (h : z ∈ addL L x) : z ∈ L ∨ z = x := by
  unfold addL at h
  split at h
  · exact Or.inl h
  · rcases List.mem_append.mp h with h | h
    · exact Or.inl h
    · exact Or.inr (List.mem_singleton.mp h)
theorem addLs_mem {tl : List It} {z : It} : ∀ {L : List It}, z ∈ tl.foldl addL L → z ∈ L ∨ z ∈ tl := by
  induction tl with
  | nil => intro L h; exact Or.inl h
  | cons x tl ih =>
    intro L h
    rw [List.foldl_cons] at h
    rcases ih h with h | h
    · rcases addL_mem h with h | h
      · exact Or.inl h
      · exact Or.inr (by rw [h]; exact List.mem_cons_self)
    · exact Or.inr (List.mem_cons_of_mem _ h)
/-- all that are told come to the list, if it is not full and they are apart -/
theorem addLs_all {tl : List It} : ∀ {L : List It}, ((L ++ tl).map od).Nodup → L.length ≤ 200 → (tl.foldl addL L).length < 200 → tl.foldl addL L = L ++ tl := by
  induction tl with
  | nil => intro L _ _ _; rw [List.append_nil]; rfl
  | cons x tl ih =>
    intro L h hl hs
    rw [List.foldl_cons] at hs ⊢
    have n1 : L.length ≠ 200 := fun e => by
      have := addLs_le (tl := tl) (L := addL L x)
      have := addL_le (L := L) (x := x)
      omega
    have n2 : od x ∉ L.map od := by
      rw [List.map_append, List.map_cons, List.nodup_append] at h
      exact fun z => h.2.2 _ z _ List.mem_cons_self rfl
    have e : addL L x = L ++ [x] := by unfold addL; rw [if_neg (fun z => z.elim n1 n2)]
    rw [e] at hs ⊢
    rw [ih (by rw [List.append_assoc]; exact h) (by rw [List.length_append]; show L.length + 1 ≤ 200; omega) hs, List.append_assoc]
    rfl
section WQUERY
variable {m al N p q t t' : Nat} {own : Nat → Ky} {sd : Nat → Int} {tm ad ty how r : Int} {w : Wd} {Y Y1 : Ys} {Lb : Nat → List Trm} {key : Ky} {bd : List Int} {vals : Bool} {S : List Post} {tl : List It} {more : Bool}
/-- postings of one key are apart -/
theorem mt_nodup (h : okSt S) {hs : Nat} {bs : List Int} : (((mtcS hs bs (choS key S)).map itm).map od).Nodup := by
  rw [List.map_map]
  obtain ⟨_, h2, h3⟩ := h
  have sub : (mtcS hs bs (choS key S)).Sublist S := (List.filter_sublist).trans (List.filter_sublist)
  have h4 : ((mtcS hs bs (choS key S)).map pmz).Pairwise (· < ·) := List.Pairwise.sublist (sub.map _) (show (S.map pmz).Pairwise (· < ·) from List.pairwise_map.mpr h2)
  have h5 : (mtcS hs bs (choS key S)).Pairwise (fun a b => pmz a < pmz b) := List.pairwise_map.mp h4
  refine List.pairwise_map.mpr (List.Pairwise.imp_of_mem (fun {a b} ha hb hab e => ?_) h5)
  have a1 := (List.mem_filter.mp (List.mem_filter.mp ha).1).2
  have b1 := (List.mem_filter.mp (List.mem_filter.mp hb).1).2
  have a2 : a.1 = key := by simpa using a1
  have b2 : b.1 = key := by simpa using b1
  have e : (a.2.1, a.2.2.1) = (b.2.1, b.2.2.1) := e
  have e1 : a.2.1 = b.2.1 := (Prod.mk.inj e).1
  have e2 : a.2.2.1 = b.2.2.1 := (Prod.mk.inj e).2
  unfold pmz at hab
  rw [a2, b2, e1, e2] at hab
  omega
/-- a page of the own postings -/
theorem page_add (h : okSt S) {hs : Nat} {bs : List Int} {L : List It} (hl : L.length < 200) (hL : L = ((mtcS hs bs (choS key S)).take L.length).map itm) (hf : ((pageS L.length (mtcS hs bs (choS key S))).foldl addL L).length < 200) (hm : moreS L.length (mtcS hs bs (choS key S)) = true) : (pageS L.length (mtcS hs bs (choS key S))).foldl addL L = ((mtcS hs bs (choS key S)).take (L.length + 30)).map itm ∧ (pageS L.length (mtcS hs bs (choS key S))).length = 30 ∧ ((pageS L.length (mtcS hs bs (choS key S))).foldl addL L).length = L.length + 30 := by
  obtain ⟨P, hP⟩ : ∃ P, P = mtcS hs bs (choS key S) := ⟨_, rfl⟩
  have nd := mt_nodup h (key := key) (hs := hs) (bs := bs)
  rw [← hP] at nd hL hf hm ⊢
  have hlen : L.length + 30 < P.length := by
    have : 30 < (P.drop L.length).length := by simpa [moreS] using hm
    rw [List.length_drop] at this
    omega
  have ap : L ++ pageS L.length P = (P.take (L.length + 30)).map itm := by
    conv => lhs; rw [hL]
    unfold pageS
    rw [← List.map_append]
    have l1 : ((P.take L.length).map itm).length = L.length := by rw [List.length_map, List.length_take]; omega
    rw [l1, ← List.take_add]
  have pl : (pageS L.length P).length = 30 := by unfold pageS; rw [List.length_map, List.length_take, List.length_drop]; omega
  have e := addLs_all (tl := pageS L.length P) (L := L) (by
    rw [ap, List.map_map]
    rw [List.map_map] at nd
    exact List.Nodup.sublist ((List.take_sublist _ _).map _) nd) (by omega) hf
  refine ⟨by rw [e, ap], pl, by rw [e, List.length_append, pl]⟩
theorem scQ_le {L : List It} (h : ∀ z, z ∈ L → z.2.2 ≤ 15) : scQ L 0 0 := fun i hi => by
  have := h _ (getD_mem hi (d := it0))
  rw [if_neg (by omega)]
  omega
/-- BITS -/
theorem qOK_tb {hs : Int} {bs : List Int} (h : qOK own Y t) (h3 : yv Y 230 t = 3) (hh : 1 ≤ hs ∧ hs ≤ 8) (hb : okB bs) : qOK own (tbY t hs bs Y) t := by
  obtain ⟨q1, q2, q3, q4, q5, q6, q7, q8, q9, q10, q11⟩ := h
  obtain ⟨Y1, hY⟩ : ∃ Y1, Y1 = tbY t hs bs Y := ⟨_, rfl⟩
  have v : ∀ a i, a ≠ 256 → a ≠ 230 → yv Y1 a i = yv Y a i := fun a i z1 z2 => by rw [hY]; show vI (st2 (st2 (ys Y) 256 t hs) 230 t 4) a i = _; rw [vI_ne (by omega), vI_ne (by omega)]
  have v0 : yv Y1 230 t = 4 := by rw [hY]; show vI (st2 (st2 (ys Y) 256 t hs) 230 t 4) 230 t = _; rw [vI_eq rfl]; rfl
  have v6 : yv Y1 256 t = hs := by rw [hY]; show vI (st2 (st2 (ys Y) 256 t hs) 230 t 4) 256 t = _; rw [vI_ne (by omega), vI_eq rfl, w32s (by omega)]
  have vp : yp Y1 t = yp Y t := by rw [hY]; exact FT_p FT_tb
  have eB : qB (yq Y1) t = bs := by rw [hY]; exact fup_eq
  have eO : qO (yq Y1) = qO (yq Y) := by rw [hY]; rfl
  have eH : qH (yq Y1) = qH (yq Y) := by rw [hY]; rfl
  have eL : qL (yq Y1) = qL (yq Y) := by rw [hY]; rfl
  have eF : qF (yq Y1) = qF (yq Y) := by rw [hY]; rfl
  rw [← hY]
  unfold qOK
  rw [v 247 _ (by omega) (by omega), v 254 _ (by omega) (by omega), v0, v6, vp, eB, eO, eH, eL, eF]
  exact ⟨q1, by omega, q3, fun z => absurd rfl z, fun i hi => by rw [v 250 _ (by omega) (by omega)]; exact q5 i hi, q6, hb, fun _ _ => hh, q9, fun z => absurd z (by decide), fun _ => q11 (by omega)⟩
/-- MATCHES -/
theorem qOK_tm (h : qOK own Y t) (h4 : yv Y 230 t = 4) (hok : okM tl) (h54 : qH (yq Y) (3 * t + (qO (yq Y) t).getD (if yv Y 247 t = 1 then 0 else 1) 0) = own (yp Y t) → 0 ≤ w32 (yv Y 254 t + (tl.length : Int)) ∧ w32 (yv Y 254 t + (tl.length : Int)) ≤ 229) : yv (tmY t more tl Y) 226 t = 0 ∨ (qOK own (tmY t more tl Y) t ∧ yv (tmY t more tl Y) 226 t = yv Y 226 t ∧ ((yv (tmY t more tl Y) 230 t = 4 ∧ more = true ∧ (tl.foldl addL (qL (yq Y) t)).length < 200 ∧ qL (yq (tmY t more tl Y)) t = tl.foldl addL (qL (yq Y) t) ∧ yv (tmY t more tl Y) 254 t = w32 (yv Y 254 t + (tl.length : Int)) ∧ (yw (tmY t more tl Y) = yw Y ∧ qK (yq (tmY t more tl Y)) = qK (yq Y) ∧ qB (yq (tmY t more tl Y)) = qB (yq Y) ∧ qH (yq (tmY t more tl Y)) = qH (yq Y) ∧ qO (yq (tmY t more tl Y)) = qO (yq Y) ∧ ∀ a i, a ≠ 254 → yv (tmY t more tl Y) a i = yv Y a i)) ∨ (yv (tmY t more tl Y) 230 t = 5 ∧ yv (tmY t more tl Y) 263 t = 0 ∧ yv (tmY t more tl Y) 264 t = 0))) := by
  obtain ⟨q1, q2, q3, q4, q5, q6, q7, q8, q9, q10, q11⟩ := h
  have okl := okL_adds (tl := tl) q9 hok.2
  have l15 : ∀ z, z ∈ tl.foldl addL (qL (yq Y) t) → z.2.2 ≤ 15 := fun z hz => by
    rcases addLs_mem hz with hz | hz
    · exact (q11 (by omega)).2 z hz
    · exact (hok.2 z hz).2.2.2
  unfold tmY
  by_cases c : more = true ∧ (tl.foldl addL (qL (yq Y) t)).length < 200
  · rw [if_pos c]
    right
    obtain ⟨Y1, hY⟩ : ∃ Y1, Y1 = (yw Y, yl Y, st2 (ys Y) 254 t (yv Y 254 t + (tl.length : Int)), lstQ t (tl.foldl addL (qL (yq Y) t)) [] (yq Y)) := ⟨_, rfl⟩
    have v : ∀ a i, a ≠ 254 → yv Y1 a i = yv Y a i := fun a i z => by rw [hY]; exact vI_ne (by omega)
    have v4 : yv Y1 254 t = w32 (yv Y 254 t + (tl.length : Int)) := by rw [hY]; exact vI_eq rfl
    have vp : yp Y1 t = yp Y t := by unfold yp; rw [show vI (ys Y1) 228 t = vI (ys Y) 228 t from v 228 t (by decide)]
    have eL : qL (yq Y1) t = tl.foldl addL (qL (yq Y) t) := by rw [hY]; exact fup_eq
    have eF : qF (yq Y1) t = [] := by rw [hY]; exact fup_eq
    have eB : qB (yq Y1) = qB (yq Y) := by rw [hY]; rfl
    have eO : qO (yq Y1) = qO (yq Y) := by rw [hY]; rfl
    have eH : qH (yq Y1) = qH (yq Y) := by rw [hY]; rfl
    have eK : qK (yq Y1) = qK (yq Y) := by rw [hY]; rfl
    have eW : yw Y1 = yw Y := by rw [hY]
    rw [← hY]
    refine ⟨?_, v _ _ (by decide), Or.inl ⟨by rw [v _ _ (by decide)]; exact h4, c.1, c.2, eL, v4, eW, eK, eB, eH, eO, v⟩⟩
    unfold qOK
    rw [v 247 _ (by decide), v4, v 230 _ (by decide), v 256 _ (by decide), v 263 _ (by decide), v 264 _ (by decide), vp, eB, eO, eH, eL, eF]
    exact ⟨q1, q2, q3, q4, fun i hi => by rw [v 250 _ (by decide)]; exact q5 i hi, h54, q7, q8, okl, fun z => by omega, fun _ => ⟨rfl, l15⟩⟩
  · rw [if_neg c]
    by_cases d : tl.foldl addL (qL (yq Y) t) = [] ∨ yv Y 247 t = 1
    · rw [if_pos d]
      left
      exact clS_0
    · rw [if_neg d]
      right
      obtain ⟨Y1, hY⟩ : ∃ Y1, Y1 = (yw Y, yl Y, st2 (st2 (st2 (st2 (ys Y) 254 t (yv Y 254 t + (tl.length : Int))) 263 t 0) 264 t 0) 230 t 5, lstQ t (tl.foldl addL (qL (yq Y) t)) [] (yq Y)) := ⟨_, rfl⟩
      have v : ∀ a i, a ≠ 254 → a ≠ 263 → a ≠ 264 → a ≠ 230 → yv Y1 a i = yv Y a i := fun a i z1 z2 z3 z4 => by
        rw [hY]
        show vI (st2 (st2 (st2 (st2 (ys Y) 254 t (yv Y 254 t + (tl.length : Int))) 263 t 0) 264 t 0) 230 t 5) a i = _
        rw [vI_ne (by omega), vI_ne (by omega), vI_ne (by omega), vI_ne (by omega)]
      have v4 : yv Y1 254 t = w32 (yv Y 254 t + (tl.length : Int)) := by
        rw [hY]
        show vI (st2 (st2 (st2 (st2 (ys Y) 254 t (yv Y 254 t + (tl.length : Int))) 263 t 0) 264 t 0) 230 t 5) 254 t = _
        rw [vI_ne (by omega), vI_ne (by omega), vI_ne (by omega)]; exact vI_eq rfl
      have v0 : yv Y1 230 t = 5 := by
        rw [hY]
        show vI (st2 (st2 (st2 (st2 (ys Y) 254 t (yv Y 254 t + (tl.length : Int))) 263 t 0) 264 t 0) 230 t 5) 230 t = _
        rw [vI_eq rfl]; rfl
      have v63 : yv Y1 263 t = 0 := by
        rw [hY]
        show vI (st2 (st2 (st2 (st2 (ys Y) 254 t (yv Y 254 t + (tl.length : Int))) 263 t 0) 264 t 0) 230 t 5) 263 t = _
        rw [vI_ne (by omega), vI_ne (by omega), vI_eq rfl]; rfl
      have v64 : yv Y1 264 t = 0 := by
        rw [hY]
        show vI (st2 (st2 (st2 (st2 (ys Y) 254 t (yv Y 254 t + (tl.length : Int))) 263 t 0) 264 t 0) 230 t 5) 264 t = _
        rw [vI_ne (by omega), vI_eq rfl]; rfl
      have vp : yp Y1 t = yp Y t := by unfold yp; rw [show vI (ys Y1) 228 t = vI (ys Y) 228 t from v 228 t (by decide) (by decide) (by decide) (by decide)]
      have eL : qL (yq Y1) t = tl.foldl addL (qL (yq Y) t) := by rw [hY]; exact fup_eq
      have eF : qF (yq Y1) t = [] := by rw [hY]; exact fup_eq
      have eB : qB (yq Y1) = qB (yq Y) := by rw [hY]; rfl
      have eO : qO (yq Y1) = qO (yq Y) := by rw [hY]; rfl
      have eH : qH (yq Y1) = qH (yq Y) := by rw [hY]; rfl
      have ln : 0 < (tl.foldl addL (qL (yq Y) t)).length := List.length_pos_iff.mpr (fun z => d (Or.inl z))
      have n7 : yv Y 247 t ≠ 1 := fun z => d (Or.inr z)
      rw [← hY]
      refine ⟨?_, v _ _ (by decide) (by decide) (by decide) (by decide), Or.inr ⟨v0, v63, v64⟩⟩
      unfold qOK
      rw [v 247 _ (by decide) (by decide) (by decide) (by decide), v4, v0, v 256 _ (by decide) (by decide) (by decide) (by decide), v63, v64, vp, eB, eO, eH, eL, eF]
      refine ⟨q1, by omega, q3, fun _ => by omega, fun i hi => by rw [v 250 _ (by decide) (by decide) (by decide) (by decide)]; exact q5 i hi, h54, q7, fun a _ => q8 a (by omega), okl, fun _ => ⟨⟨Or.inl rfl, by omega⟩, ⟨by omega, by omega⟩, rfl, ?_⟩, fun z => absurd rfl z⟩
      exact scQ_le l15
end WQUERY
