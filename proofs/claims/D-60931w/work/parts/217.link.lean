/-! the claim out of the law's function over the flat memory -/
set_option maxRecDepth 100000
def M0 : MM := (fun _ _ => 0, fun _ _ => -1, fun _ => (63, 0), 0, 0)
theorem env_cls {s : State} {args : Array Value} (hall : ∀ w ∈ lw_all, w.before args s = true) : ∀ c : Nat, ∃ D : ClassId × (Nat → Nat), ∀ q : vw_C, vwCl[c]? = some q → u_Kn s q.1 q.2.1 q.2.2 D.1 D.2 := by
  intro c
  rcases c with _ | c
  · obtain ⟨cC, iS, h⟩ := u_known (C := RX3) (T := TX3) (N := 1) (n := 1) hall in_X3 (hall _ q250)
    exact ⟨(cC, iS), fun q hq => by cases hq; exact h⟩
  rcases c with _ | c
  · obtain ⟨cC, iS, h⟩ := u_known (C := RX1) (T := TX1) (N := 13) (n := 13) hall in_X1 (hall _ q208)
    exact ⟨(cC, iS), fun q hq => by cases hq; exact h⟩
  rcases c with _ | c
  · obtain ⟨cC, iS, h⟩ := u_known (C := RX2) (T := TX2) (N := 4) (n := 4) hall in_X2 (hall _ q220)
    exact ⟨(cC, iS), fun q hq => by cases hq; exact h⟩
  rcases c with _ | c
  · obtain ⟨cC, iS, h⟩ := u_known (C := RX3) (T := TX3) (N := 1) (n := 1) hall in_X3 (hall _ q250)
    exact ⟨(cC, iS), fun q hq => by cases hq; exact h⟩
  rcases c with _ | c
  · obtain ⟨cC, iS, h⟩ := u_known (C := RX4) (T := TX4) (N := 2) (n := 2) hall in_X4 (hall _ q265)
    exact ⟨(cC, iS), fun q hq => by cases hq; exact h⟩
  rcases c with _ | c
  · obtain ⟨cC, iS, h⟩ := u_known (C := RX5) (T := TX5) (N := 4) (n := 4) hall in_X5 (hall _ q283)
    exact ⟨(cC, iS), fun q hq => by cases hq; exact h⟩
  rcases c with _ | c
  · obtain ⟨cC, iS, h⟩ := u_known (C := RX6) (T := TX6) (N := 15) (n := 15) hall in_X6 (hall _ q304)
    exact ⟨(cC, iS), fun q hq => by cases hq; exact h⟩
  rcases c with _ | c
  · obtain ⟨cC, iS, h⟩ := u_known (C := RX7) (T := TX7) (N := 6) (n := 6) hall in_X7 (hall _ q319)
    exact ⟨(cC, iS), fun q hq => by cases hq; exact h⟩
  rcases c with _ | c
  · obtain ⟨cC, iS, h⟩ := u_known (C := RX8) (T := TX8) (N := 3) (n := 3) hall in_X8 (hall _ q355)
    exact ⟨(cC, iS), fun q hq => by cases hq; exact h⟩
  rcases c with _ | c
  · obtain ⟨cC, iS, h⟩ := u_known (C := RX9) (T := TX9) (N := 2) (n := 2) hall in_X9 (hall _ q371)
    exact ⟨(cC, iS), fun q hq => by cases hq; exact h⟩
  rcases c with _ | c
  · obtain ⟨cC, iS, h⟩ := u_known (C := RX10) (T := TX10) (N := 6) (n := 6) hall in_X10 (hall _ q390)
    exact ⟨(cC, iS), fun q hq => by cases hq; exact h⟩
  rcases c with _ | c
  · obtain ⟨cC, iS, h⟩ := u_known (C := RX11) (T := TX11) (N := 12) (n := 12) hall in_X11 (hall _ q489)
    exact ⟨(cC, iS), fun q hq => by cases hq; exact h⟩
  rcases c with _ | c
  · obtain ⟨cC, iS, h⟩ := u_known (C := RX3) (T := TX3) (N := 1) (n := 1) hall in_X3 (hall _ q250)
    exact ⟨(cC, iS), fun q hq => by cases hq; exact h⟩
  rcases c with _ | c
  · obtain ⟨cC, iS, h⟩ := u_known (C := RX13) (T := TX13) (N := 3) (n := 3) hall in_X13 (hall _ q497)
    exact ⟨(cC, iS), fun q hq => by cases hq; exact h⟩
  rcases c with _ | c
  · obtain ⟨cC, iS, h⟩ := u_known (C := RX14) (T := TX14) (N := 0) (n := 0) hall (fun w h => by simp [u_ws] at h) (hall _ q516)
    exact ⟨(cC, iS), fun q hq => by cases hq; exact h⟩
  rcases c with _ | c
  · obtain ⟨cC, iS, h⟩ := u_known (C := RX15) (T := TX15) (N := 6) (n := 6) hall in_X15 (hall _ q523)
    exact ⟨(cC, iS), fun q hq => by cases hq; exact h⟩
  rcases c with _ | c
  · obtain ⟨cC, iS, h⟩ := u_known (C := RX16) (T := TX16) (N := 145) (n := 145) hall in_X16 (hall _ q2104)
    exact ⟨(cC, iS), fun q hq => by cases hq; exact h⟩
  rcases c with _ | c
  · obtain ⟨cC, iS, h⟩ := u_known (C := RX17) (T := TX17) (N := 20) (n := 20) hall in_X17 (hall _ q706)
    exact ⟨(cC, iS), fun q hq => by cases hq; exact h⟩
  rcases c with _ | c
  · obtain ⟨cC, iS, h⟩ := u_known (C := RX18) (T := TX18) (N := 3) (n := 3) hall in_X18 (hall _ q714)
    exact ⟨(cC, iS), fun q hq => by cases hq; exact h⟩
  rcases c with _ | c
  · obtain ⟨cC, iS, h⟩ := u_known (C := RX19) (T := TX19) (N := 3) (n := 3) hall in_X19 (hall _ q737)
    exact ⟨(cC, iS), fun q hq => by cases hq; exact h⟩
  rcases c with _ | c
  · obtain ⟨cC, iS, h⟩ := u_known (C := RX20) (T := TX20) (N := 5) (n := 5) hall in_X20 (hall _ q766)
    exact ⟨(cC, iS), fun q hq => by cases hq; exact h⟩
  rcases c with _ | c
  · obtain ⟨cC, iS, h⟩ := u_known (C := RX21) (T := TX21) (N := 3) (n := 3) hall in_X21 (hall _ q793)
    exact ⟨(cC, iS), fun q hq => by cases hq; exact h⟩
  rcases c with _ | c
  · obtain ⟨cC, iS, h⟩ := u_known (C := RX22) (T := TX22) (N := 2) (n := 2) hall in_X22 (hall _ q799)
    exact ⟨(cC, iS), fun q hq => by cases hq; exact h⟩
  rcases c with _ | c
  · obtain ⟨cC, iS, h⟩ := u_known (C := RX23) (T := TX23) (N := 2) (n := 2) hall in_X23 (hall _ q1023)
    exact ⟨(cC, iS), fun q hq => by cases hq; exact h⟩
  rcases c with _ | c
  · obtain ⟨cC, iS, h⟩ := u_known (C := RX24) (T := TX24) (N := 11) (n := 11) hall in_X24 (hall _ q1072)
    exact ⟨(cC, iS), fun q hq => by cases hq; exact h⟩
  rcases c with _ | c
  · obtain ⟨cC, iS, h⟩ := u_known (C := RX25) (T := TX25) (N := 4) (n := 4) hall in_X25 (hall _ q1171)
    exact ⟨(cC, iS), fun q hq => by cases hq; exact h⟩
  rcases c with _ | c
  · obtain ⟨cC, iS, h⟩ := u_known (C := RX26) (T := TX26) (N := 7) (n := 7) hall in_X26 (hall _ q1205)
    exact ⟨(cC, iS), fun q hq => by cases hq; exact h⟩
  rcases c with _ | c
  · obtain ⟨cC, iS, h⟩ := u_known (C := RX27) (T := TX27) (N := 4) (n := 4) hall in_X27 (hall _ q1269)
    exact ⟨(cC, iS), fun q hq => by cases hq; exact h⟩
  rcases c with _ | c
  · obtain ⟨cC, iS, h⟩ := u_known (C := RX28) (T := TX28) (N := 5) (n := 5) hall in_X28 (hall _ q1500)
    exact ⟨(cC, iS), fun q hq => by cases hq; exact h⟩
  rcases c with _ | c
  · obtain ⟨cC, iS, h⟩ := u_known (C := RX29) (T := TX29) (N := 4) (n := 4) hall in_X29 (hall _ q1723)
    exact ⟨(cC, iS), fun q hq => by cases hq; exact h⟩
  rcases c with _ | c
  · obtain ⟨cC, iS, h⟩ := u_known (C := RX30) (T := TX30) (N := 7) (n := 7) hall in_X30 (hall _ q1352)
    exact ⟨(cC, iS), fun q hq => by cases hq; exact h⟩
  rcases c with _ | c
  · obtain ⟨cC, iS, h⟩ := u_known (C := RX31) (T := TX31) (N := 18) (n := 18) hall in_X31 (hall _ q1381)
    exact ⟨(cC, iS), fun q hq => by cases hq; exact h⟩
  obtain ⟨cC, iS, h⟩ := u_known (C := RX3) (T := TX3) (N := 1) (n := 1) hall in_X3 (hall _ q250)
  exact ⟨(cC, iS), fun q hq => by simp [vwCl] at hq⟩
theorem env_arr {s : State} {args : Array Value} (hts : ∀ w ∈ lw_tbl, w.before args s = true) : ∀ t : Nat, ∃ cA : ClassId, t < 14 → ArrOfT s cA (aty t) ∧ va_RA s cA (aty t) := by
  intro t
  rcases t with _ | t
  · obtain ⟨cA, k, comp, h1, h2, h3⟩ := Cond.arrayClass_spec (hts _ (lw_all_tbl q248))
    exact ⟨cA, fun _ => ⟨fun n z => ⟨fun k h => (by cases h), k, h2, comp, h3⟩, h1⟩⟩
  rcases t with _ | t
  · obtain ⟨cA, k, comp, h1, h2, h3⟩ := Cond.arrayClass_spec (hts _ (lw_all_tbl q247))
    exact ⟨cA, fun _ => ⟨fun n z => ⟨fun k h => (by cases h), k, h2, comp, h3⟩, h1⟩⟩
  rcases t with _ | t
  · obtain ⟨cA, k, comp, h1, h2, h3⟩ := Cond.arrayClass_spec (hts _ (lw_all_tbl q1869))
    exact ⟨cA, fun _ => ⟨fun n z => ⟨fun k h => (by cases h), k, h2, comp, h3⟩, h1⟩⟩
  rcases t with _ | t
  · obtain ⟨comp, cA, k, h1, h2, h3, h4, h5⟩ := Cond.arrayOver_spec (hts _ q216)
    exact ⟨cA, fun _ => ⟨fun n z => ⟨fun k h => (by cases h), k, h3, comp, h4⟩, k, comp, h3, h4, h1, h5⟩⟩
  rcases t with _ | t
  · obtain ⟨comp, cA, k, h1, h2, h3, h4, h5⟩ := Cond.arrayOver_spec (hts _ q218)
    exact ⟨cA, fun _ => ⟨fun n z => ⟨fun k h => (by cases h), k, h3, comp, h4⟩, k, comp, h3, h4, h1, h5⟩⟩
  rcases t with _ | t
  · obtain ⟨comp, cA, k, h1, h2, h3, h4, h5⟩ := Cond.arrayOver_spec (hts _ q325)
    exact ⟨cA, fun _ => ⟨fun n z => ⟨fun k h => (by cases h), k, h3, comp, h4⟩, k, comp, h3, h4, h1, h5⟩⟩
  rcases t with _ | t
  · obtain ⟨comp, cA, k, h1, h2, h3, h4, h5⟩ := Cond.arrayOver_spec (hts _ q377)
    exact ⟨cA, fun _ => ⟨fun n z => ⟨fun k h => (by cases h), k, h3, comp, h4⟩, k, comp, h3, h4, h1, h5⟩⟩
  rcases t with _ | t
  · obtain ⟨comp, cA, k, h1, h2, h3, h4, h5⟩ := Cond.arrayOver_spec (hts _ q386)
    exact ⟨cA, fun _ => ⟨fun n z => ⟨fun k h => (by cases h), k, h3, comp, h4⟩, k, comp, h3, h4, h1, h5⟩⟩
  rcases t with _ | t
  · obtain ⟨comp, cA, k, h1, h2, h3, h4, h5⟩ := Cond.arrayOver_spec (hts _ q529)
    exact ⟨cA, fun _ => ⟨fun n z => ⟨fun k h => (by cases h), k, h3, comp, h4⟩, k, comp, h3, h4, h1, h5⟩⟩
  rcases t with _ | t
  · obtain ⟨comp, cA, k, h1, h2, h3, h4, h5⟩ := Cond.arrayOver_spec (hts _ q720)
    exact ⟨cA, fun _ => ⟨fun n z => ⟨fun k h => (by cases h), k, h3, comp, h4⟩, k, comp, h3, h4, h1, h5⟩⟩
  rcases t with _ | t
  · obtain ⟨comp, cA, k, h1, h2, h3, h4, h5⟩ := Cond.arrayOver_spec (hts _ q743)
    exact ⟨cA, fun _ => ⟨fun n z => ⟨fun k h => (by cases h), k, h3, comp, h4⟩, k, comp, h3, h4, h1, h5⟩⟩
  rcases t with _ | t
  · obtain ⟨comp, cA, k, h1, h2, h3, h4, h5⟩ := Cond.arrayOver_spec (hts _ q760)
    exact ⟨cA, fun _ => ⟨fun n z => ⟨fun k h => (by cases h), k, h3, comp, h4⟩, k, comp, h3, h4, h1, h5⟩⟩
  rcases t with _ | t
  · obtain ⟨comp, cA, k, h1, h2, h3, h4, h5⟩ := Cond.arrayOver_spec (hts _ q772)
    exact ⟨cA, fun _ => ⟨fun n z => ⟨fun k h => (by cases h), k, h3, comp, h4⟩, k, comp, h3, h4, h1, h5⟩⟩
  rcases t with _ | t
  · obtain ⟨comp, cA, k, h1, h2, h3, h4, h5⟩ := Cond.arrayOver_spec (hts _ q1808)
    exact ⟨cA, fun _ => ⟨fun n z => ⟨fun k h => (by cases h), k, h3, comp, h4⟩, k, comp, h3, h4, h1, h5⟩⟩
  obtain ⟨cA, k, comp, h1, h2, h3⟩ := Cond.arrayClass_spec (hts _ (lw_all_tbl q248))
  exact ⟨cA, fun h => by omega⟩
theorem whole_of (HF : ∀ g : GG, gL g ≤ 386 → ∃ Mf : MM, f_L_law g M0 = some (1, Mf) ∧ Mf.2.2.2.1 ≤ 600000 ∧ Mf.2.2.2.2 ≤ 7302250) {p : Program} {e : Env} {s : State} {m : MethodId} {below : List Frame} {meth : Method} {c : Code} (l : Launch) {b L : Nat} {xs : Nat → Int32} (hL : L ≤ 386) (C0 : lw_At p s m meth c b L xs) : W p l e room_1 s m #[Value.ref b] below meth c s.heap [] 0 0 (lw_Z below #[Value.ref b] s) (entryFrame m ([Value.ref b] : List Value).toArray 4) := by
  obtain ⟨hx, hb, hr, hml, hown, hts, hX, hbl, hlocks, hgv⟩ := id C0
  have hall : ∀ w ∈ lw_all, w.before #[Value.ref b] s = true := fun w h => hts w (lw_all_tbl h)
  obtain ⟨DD, hDD⟩ := Classical.axiomOfChoice (env_cls hall)
  obtain ⟨ca, hca⟩ := Classical.axiomOfChoice (env_arr hts)
  let g : GG := ((fun c => (DD c).1, fun c => (DD c).2), ca, s.heap.size, b, L, xs)
  have hK : va_K (gD g) vwCl (tyo g) s := by
    refine ⟨fun c q hq => hDD c q hq, fun k q hq => ?_⟩
    unfold tyo at hq
    rw [List.getElem?_map] at hq
    cases hr2 : (List.range 14)[k]? with
    | none => rw [hr2] at hq; cases hq
    | some j =>
      rw [hr2] at hq
      cases hq
      have hj : j < 14 := List.mem_range.mp (List.mem_of_getElem? hr2)
      exact hca j hj
  have hE : EnvOK g s := by
    refine ⟨hK, fun w hw hn => ?_, fun t h3 h14 => ?_, hbl⟩
    · unfold lwN at hn
      split at hn
      · exact va_Nw.of rfl (hts _ hw)
      · exact va_Nw.of rfl (hts _ hw)
      · exact va_Nw.of rfl (hts _ hw)
      · cases hn
    · clear hK
      revert h3 h14
      rcases t with _ | _ | _ | t
      · intro h3; omega
      · intro h3; omega
      · intro h3; omega
      intro _ h14
      rcases t with _ | t
      · exact va_AO.of (hts _ q216)
      rcases t with _ | t
      · exact va_AO.of (hts _ q218)
      rcases t with _ | t
      · exact va_AO.of (hts _ q325)
      rcases t with _ | t
      · exact va_AO.of (hts _ q377)
      rcases t with _ | t
      · exact va_AO.of (hts _ q386)
      rcases t with _ | t
      · exact va_AO.of (hts _ q529)
      rcases t with _ | t
      · exact va_AO.of (hts _ q720)
      rcases t with _ | t
      · exact va_AO.of (hts _ q743)
      rcases t with _ | t
      · exact va_AO.of (hts _ q760)
      rcases t with _ | t
      · exact va_AO.of (hts _ q772)
      rcases t with _ | t
      · exact va_AO.of (hts _ q1808)
      omega
  have cx : Cx g YL_law p s m #[Value.ref b] meth c := ⟨hx, hb, hml, hown, hall, hE, hX, Nat.le_refl _, fun h => absurd h (show ¬ (YL_law.2.2.2.1.name = "<init>") by decide)⟩
  obtain ⟨Mf, h1, h2, h3⟩ := HF g hL
  have hs := s_L_law_0 (g := g) (d := 221) (Nat.le_refl _) (P := fun x => x = (1, Mf)) (o := ((0, 1), Mf)) (fun r e => by rw [e]) h1 rfl
  have hl := lv_entry ([.ref b]) (n := 4) (Nat.le_of_ble_eq_true rfl)
  rw [lg_entry_eq]
  generalize (lg_sl ([.ref b]) ++ List.replicate (4 - (lg_sl ([.ref b])).length) Slot.unset).toArray = ls at hl ⊢
  have hl : lv_has ls 4 [(0, .ref b)] := hl
  have hH : Hold g M0 s.heap := ⟨rfl, fun k q h => by simp [wso, M0] at h, fun a _ => rfl⟩
  have hls : lv_has ls YL_law.2.2.1 (lsv g [(1, (-2)), (9, 0), (9, 0), (9, 0)]) := hl
  refine hs.2 p l e room_1 s m #[Value.ref b] below meth c s.heap [] 0 0 _ ls cx ⟨by decide, by decide, ?_, ?_⟩ hH va_S.rf hls ?_
  · show 0 + Mf.2.2.2.1 ≤ 600000 + 0
    omega
  · show 0 + Mf.2.2.2.2 ≤ 7302250 + 0
    omega
  intro pc' arr' H' locs' cells' slots' e1 e2 hret hH' hS'
  have e1 : cells' = Mf.2.2.2.1 := by have : cells' + 0 = 0 + Mf.2.2.2.1 := e1; omega
  have e2 : slots' = Mf.2.2.2.2 := by have : slots' + 0 = 0 + Mf.2.2.2.2 := e2; omega
  have hdc : decode code pc' = .ok (.ireturn, 1) := by
    rcases hret with ⟨_, h, _⟩ | ⟨h, _⟩ | ⟨h, _⟩
    · exact h
    · exact absurd h (show ¬ (0 : Nat) = 1 by decide)
    · exact absurd h (show ¬ (0 : Nat) = 9 by decide)
  refine va_forget (fun q hq => hS'.2.2 q hq) ?_
  refine W.widen (k := 600000) (n := 7302250) (by omega) (by omega) ?_
  exact lw_ret hx hb hr hlocks hdc
