/-! what is told of a lookup -/
def FroV (V : VV) (m t : Nat) (E : List Ent) (Ls : List Nat) : Prop := vI V 156 106 = ((Ls.length : Nat) : Int) ∧ ArrN V 240 Ls ∧ (∀ r, r ∈ Ls → ∃ i, i < E.length ∧ r = 65 * t + i) ∧ Ls.map (gE V) = frontE m E
theorem fw6 (F : List Ent) : (fwE F).length = 6 * F.length := by
  unfold fwE
  induction F with
  | nil => rfl
  | cons a F ih => rw [List.flatMap_cons, List.length_append, ih, List.length_cons]; show 6 + 6 * F.length = 6 * (F.length + 1); omega
section VTELLK
variable {V W : VV} {m al N p t oth Z : Nat} {own : Nat → Ky} {sd ps sn pu rf : Nat → Int} {tm : Int} {w : Wd} {ev tn : Nat → Nat} {Lb : Nat → List Trm} {Y : Ys} {E : List Ent} {Ls : List Nat}
theorem fro_len (hf : FroV V m t E Ls) (hm : m ≤ 20) : Ls.length ≤ 20 := by
  have : (Ls.map (gE V)).length = (frontE m E).length := by rw [hf.2.2.2]
  rw [List.length_map] at this
  rw [this]
  unfold frontE
  rw [List.length_take]
  omega
theorem fro_lt (hf : FroV V m t E Ls) (hE : E.length ≤ 64) (ht : t < 44) : ∀ i, i < Ls.length → Ls.getD i 0 < 2860 := fun i hi => by
  obtain ⟨j, h1, h2⟩ := hf.2.2.1 (Ls.getD i 0) (getD_mem hi)
  omega
theorem fro_get (hf : FroV V m t E Ls) {i : Nat} (hi : i < Ls.length) : gE V (Ls.getD i 0) = (frontE m E).getD i ent0 := by
  rw [← hf.2.2.2, gd_get hi, gd_get (S := List.map _ Ls) (by rw [List.length_map]; exact hi), List.getElem_map]
/-- records tell -/
theorem vy_tell {r n : Nat} {l : List Int} (h : VY V m al N own sd ps sn pu rf tm Lb oth Z ev tn Y) (ht : t < 44) (htn : tn t < 2000000000) (hr : yv Y 229 t = (r : Int)) (hr2 : r < 256) (hl : l.length ≤ 180) (hn : n ≤ 200) (hw : ∀ a i, a ≠ 270 → ¬ (a = 269 ∧ i = r) → mv a i ≠ 9 → W a i = V a i) (h9 : vI W 269 r = (n : Int)) (h7 : ∀ i, i < 46080 → ¬ (180 * r ≤ i ∧ i < 180 * r + 180) → vI W 270 i = vI V 270 i) (h8 : ∀ i, i < l.length → vI W 270 (180 * r + i) = l.getD i 0) : ∃ V', f_X16_close (t : Int) 1 W = some V' ∧ VY V' m al N own sd ps sn pu rf tm Lb oth Z ev (fup tn t (tn t + 1)) (tlY t n l Y) ∧ KpV W V' := by
  have m6 : ∀ a i, (226 ≤ a ∧ a ≤ 270 ∧ a ≠ 240) → mv a i ≠ 9 := fun a i z => by
    unfold mv
    rw [if_neg (by omega)]
    unfold mvA
    rw [if_neg (by omega), if_neg (by omega), if_neg (by omega), if_neg (by omega), if_neg (by omega)]
    by_cases c1 : 226 ≤ a ∧ a ≤ 264 ∧ a ≠ 240
    · rw [if_pos c1]; decide
    · rw [if_neg c1, if_pos (by omega)]; decide
  have m4 : ∀ a i, (173 ≤ a ∧ a ≤ 178) → mv a i ≠ 9 := fun a i z => by
    unfold mv
    rw [if_neg (by omega)]
    unfold mvA
    rw [if_neg (by omega), if_neg (by omega), if_neg (by omega), if_pos (by omega)]
    decide
  have gv : ∀ a i, a ≠ 270 → ¬ (a = 269 ∧ i = r) → mv a i ≠ 9 → vI W a i = vI V a i := fun a i z1 z2 z3 => by show w32 _ = w32 _; rw [hw a i z1 z2 z3]
  obtain ⟨k1, k2, k3, k4, k5, k6, k7, k8⟩ := id h
  have Y1 : VY W m al N own sd ps sn pu rf tm Lb oth Z ev tn (yw Y, yl Y, st2 (ys Y) 269 r (n : Int), tlQ r l (yq Y)) := by
    refine vy_mk h (fun a i z => hw a i (fun q => z (Or.inl (by omega))) (fun q => z (Or.inl (by omega))) (fun q => z (Or.inr q))) (LksV_ag k4 (fun a i z => gv a i (by omega) (by omega) (m6 a i (by omega)))) (fun a i z => ?_) ?_ (TmV_ag k8 (fun a i z => ?_) (fun t' _ q1 q2 => ?_))
    · rw [vI_st2]
      by_cases c : a = 269 ∧ i = r
      · rw [if_pos c, c.1, c.2, h9, w32_nn (by omega)]
      · rw [if_neg c, gv a i (by unfold scA at z; omega) c ?_]
        · exact k5 a i z
        · by_cases c2 : a = 156
          · have : i = 91 := by unfold scA at z; omega
            rw [c2, this]; decide
          · exact m6 a i (by unfold scA at z; omega)
    · obtain ⟨a1, a2, a3⟩ := k6
      refine ⟨fun t' ht' => ?_, fun i hi => ?_, fun r' hr' => ?_⟩
      · obtain ⟨b1, b2, b3, b4, b5, b6, b7, b8, b9, b10⟩ := a1 t' ht'
        have ge : ∀ a i, (a = 253 ∨ a = 255 ∨ (257 ≤ a ∧ a ≤ 262)) → vI W a i = vI V a i := fun a i z => gv a i (by omega) (by omega) (m6 a i (by omega))
        refine ⟨by rw [ge 258 _ (by omega)]; exact b1, b2, fun i hi => ?_, b4, fun i hi => by rw [ge 262 _ (by omega)]; exact b5 i hi, by rw [ge 255 _ (by omega)]; exact b6, b7, fun i hi => by rw [ge 257 _ (by omega)]; exact b8 i hi, b9, fun j hj => by rw [ge 253 _ (by omega)]; exact b10 j hj⟩
        rw [ge 259 _ (by omega), ge 260 _ (by omega), ge 261 _ (by omega)]
        exact b3 i hi
      · rw [gk_ag (a := 249) (fun j => gv 249 j (by omega) (by omega) (m6 249 j (by omega))), gk_ag (a := 251) (fun j => gv 251 j (by omega) (by omega) (m6 251 j (by omega)))]
        exact a2 i hi
      · show ((fup (qR (yq Y)) r l) r').length ≤ 180 ∧ ∀ i, i < ((fup (qR (yq Y)) r l) r').length → vI W 270 (180 * r' + i) = ((fup (qR (yq Y)) r l) r').getD i 0
        unfold fup
        by_cases c : r' = r
        · rw [if_pos c, c]; exact ⟨hl, h8⟩
        · rw [if_neg c]
          obtain ⟨c1, c2⟩ := a3 r' hr'
          exact ⟨c1, fun i hi => by rw [h7 (180 * r' + i) (by omega) (by omega)]; exact c2 i hi⟩
    · rcases z with z | z
      · exact gv a i (by omega) (by omega) (m4 a i (by omega))
      · exact gv a i (by omega) (by omega) (m6 a i (by omega))
    · have nes : ∀ b j, b ≠ 269 → vI (st2 (ys Y) 269 r (n : Int)) b j = vI (ys Y) b j := fun b j z => by rw [vI_st2, if_neg (fun e => z e.1)]
      rw [nes 226 t' (by decide)] at q1
      rw [nes 227 t' (by decide)] at q2
      exact ⟨⟨q1, q2⟩, nes 228 t' (by decide), nes 243 t' (by decide), nes 244 t' (by decide)⟩
  have r229 : yv (yw Y, yl Y, st2 (ys Y) 269 r (n : Int), tlQ r l (yq Y)) 229 t = yv Y 229 t := vI_ne (by omega)
  obtain ⟨V', e1, e2, e3⟩ := v_close (how := 1) Y1 ht htn (by rw [r229, hr]; right; omega)
  refine ⟨V', e1, ?_, e3⟩
  unfold tlY
  rw [show (yv Y 229 t).toNat = r by omega]
  exact e2
/-- a lookup is told -/
theorem v_tellLook (h : VY V m al N own sd ps sn pu rf tm Lb oth Z ev tn Y) (ht : t < 44) (htn : tn t < 2000000000) (hr : 0 ≤ yv Y 229 t ∧ yv Y 229 t < 256) (hf : FroV V m t (yl Y t).2.2.1 Ls) : ∃ V', ((l2 229 44 (t : Int) V).bind fun v1 => (s2 269 256 v1 (w32 (V 156 106)) V).bind fun V3 => l_X16_behindLookup_80 (t : Int) v1 0 V3) = some V' ∧ VY V' m al N own sd ps sn pu rf tm Lb oth Z ev (fup tn t (tn t + 1)) (tlY t (frontE m (yl Y t).2.2.1).length (fwE (frontE m (yl Y t).2.2.1)) Y) ∧ KpV V V' := by
  obtain ⟨r, hr1⟩ : ∃ r : Nat, yv Y 229 t = (r : Int) := ⟨(yv Y 229 t).toNat, by omega⟩
  have hr2 : r < 256 := by omega
  have r229 : vI V 229 t = (r : Int) := by rw [h.2.2.2.2.1 229 t (by unfold scA; omega)]; exact hr1
  have hm : m ≤ 20 := by obtain ⟨⟨L, hP, _⟩, _⟩ := h; exact hP.2.2.2.2.2.2.2.2
  have hE := (h.2.2.2.1 t ht).1.2.2.1.1
  have l20 := fro_len hf hm
  have lts := fro_lt hf hE ht
  obtain ⟨F, hF⟩ : ∃ F, F = frontE m (yl Y t).2.2.1 := ⟨_, rfl⟩
  have lF : F.length = Ls.length := by rw [hF, ← hf.2.2.2, List.length_map]
  obtain ⟨V3, hV3⟩ : ∃ V3, V3 = st2 V 269 r (Ls.length : Int) := ⟨_, rfl⟩
  have loop : ∀ d j fu (U : VV), d + j = Ls.length → d < fu → (∀ a i, a ≠ 270 → ¬ (a = 269 ∧ i = r) → U a i = V a i) → vI U 269 r = (Ls.length : Int) → (∀ i, ¬ (180 * r ≤ i ∧ i < 180 * r + 180) → vI U 270 i = vI V 270 i) → (∀ i, i < 6 * j → vI U 270 (180 * r + i) = (fwE (F.take j)).getD i 0) →
      ∃ U', lpN (fun s : Int × VV => b_X16_behindLookup_80 (t : Int) (r : Int) s.1 s.2) fu ((j : Int), U) = j_X16_behindLookup_156 (t : Int) U' ∧ (∀ a i, a ≠ 270 → ¬ (a = 269 ∧ i = r) → U' a i = V a i) ∧ vI U' 269 r = (Ls.length : Int) ∧ (∀ i, ¬ (180 * r ≤ i ∧ i < 180 * r + 180) → vI U' 270 i = vI V 270 i) ∧ ∀ i, i < (fwE F).length → vI U' 270 (180 * r + i) = (fwE F).getD i 0 := by
    intro d
    induction d with
    | zero =>
      intro j fu U hd hfu u1 u2 u3 u4
      have e : j = Ls.length := by omega
      subst e
      rw [List.take_of_length_le (by omega)] at u4
      refine ⟨U, ?_, u1, u2, u3, fun i hi => u4 i (by rw [fw6] at hi; omega)⟩
      refine lpN_end (b := fun s : Int × VV => b_X16_behindLookup_80 (t : Int) (r : Int) s.1 s.2) (by omega) ?_
      dsimp only
      unfold b_X16_behindLookup_80
      have g1 : w32 (U 156 106) = (Ls.length : Int) := by rw [u1 156 106 (by decide) (by omega)]; exact hf.1
      rw [g1, w32_nn (by omega), if_neg (by omega)]
    | succ d ih =>
      intro j fu U hd hfu u1 u2 u3 u4
      obtain ⟨f, rfl⟩ : ∃ f, fu = f + 1 := ⟨fu - 1, by omega⟩
      have uv : ∀ a i, a ≠ 270 → ¬ (a = 269 ∧ i = r) → vI U a i = vI V a i := fun a i z1 z2 => by show w32 _ = w32 _; rw [u1 a i z1 z2]
      have g1 : w32 (U 156 106) = (Ls.length : Int) := by rw [u1 156 106 (by decide) (by omega)]; exact hf.1
      obtain ⟨s, hs⟩ : ∃ s, s = Ls.getD j 0 := ⟨_, rfl⟩
      have s1 : s < 2860 := by rw [hs]; exact lts j (by omega)
      have r240 : vI U 240 j = (s : Int) := by rw [uv 240 j (by decide) (by omega), hs]; exact hf.2.1 j (by omega)
      obtain ⟨U1, hU1⟩ : ∃ U1, U1 = st2 U 270 (180 * r + 6 * j) (vI U 236 s) := ⟨_, rfl⟩
      have r240' : vI U1 240 j = (s : Int) := by rw [hU1, vI_ne (by omega)]; exact r240
      have pu := e_put (V := U1) (e := 270) (n := 46080) (p := 180 * r + 6 * j + 1) (p' := 5 * s) (by unfold mA; decide) (by omega) (by decide) m235 (by omega) (by decide) (Or.inl (by decide))
      obtain ⟨U2, hU2⟩ : ∃ U2, U2 = kput U1 270 (180 * r + 6 * j + 1) 235 (5 * s) := ⟨_, rfl⟩
      rw [← hU2] at pu
      have st : b_X16_behindLookup_80 (t : Int) (r : Int) (j : Int) U = some (.inl (((j + 1 : Nat) : Int), U2)) := by
        unfold b_X16_behindLookup_80
        rw [g1, w32_nn (by omega), w32_nn (by omega), if_pos (by omega), l2_n (by omega) (by omega), r240, Option.bind_some, l2_n s1 (by omega), Option.bind_some, c180m, c6m, cadd, s2_n (by omega) (by omega), Option.bind_some, ← hU1, l2_n (by omega) (by omega), r240', Option.bind_some, cadd1, c5m, show f_X16_put 270 ((180 * r + 6 * j + 1 : Nat) : Int) 235 ((5 * s : Nat) : Int) U1 = _ from pu, Option.bind_some]
        rfl
      have x6 : gE V s = F.getD j ent0 := by rw [hs, hF]; exact fro_get hf (by omega)
      have w1 : ∀ a i, a ≠ 270 → U2 a i = U a i := fun a i z => by
        rw [hU2]
        show (if a = 270 ∧ _ ∧ _ then _ else U1 a i) = U a i
        rw [if_neg (fun q => z q.1), hU1, st2_ne (fun q => z q.1)]
      have w2 : ∀ i, vI U2 270 i = if 180 * r + 6 * j + 1 ≤ i ∧ i < 180 * r + 6 * j + 6 then vI V 235 (5 * s + (i - (180 * r + 6 * j + 1))) else if i = 180 * r + 6 * j then vI V 236 s else vI U 270 i := fun i => by
        rw [hU2, kput_vI]
        by_cases c : 180 * r + 6 * j + 1 ≤ i ∧ i < 180 * r + 6 * j + 6
        · rw [if_pos ⟨rfl, by omega, by omega⟩, if_pos c, hU1, vI_ne (by omega), uv _ _ (by decide) (by omega)]
        · rw [if_neg (fun q => c (by omega)), if_neg c, hU1, vI_st2, uv 236 s (by decide) (by omega), w32_vI]
          by_cases c2 : i = 180 * r + 6 * j
          · rw [if_pos ⟨rfl, c2⟩, if_pos c2]
          · rw [if_neg (fun q => c2 q.2), if_neg c2]
      rw [lpN_cnt (b := fun s : Int × VV => b_X16_behindLookup_80 (t : Int) (r : Int) s.1 s.2) (s := ((j : Int), U)) st]
      refine ih (j + 1) f U2 (by omega) (by omega) (fun a i z1 z2 => by rw [w1 a i z1]; exact u1 a i z1 z2) (by show w32 _ = _; rw [w1 269 r (by decide)]; exact u2) (fun i z => by rw [w2 i, if_neg (by omega), if_neg (by omega)]; exact u3 i z) (fun i hi => ?_)
      have hx : fwE (F.take (j + 1)) = fwE (F.take j) ++ [eAdr (F.getD j ent0), (eKey (F.getD j ent0)).1, (eKey (F.getD j ent0)).2.1, (eKey (F.getD j ent0)).2.2.1, (eKey (F.getD j ent0)).2.2.2.1, (eKey (F.getD j ent0)).2.2.2.2] := flat_take _ ent0 (by omega)
      have l6 : (fwE (F.take j)).length = 6 * j := by rw [fw6, List.length_take]; omega
      rw [hx, getD_app, l6, w2]
      rw [← x6]
      by_cases c : i < 6 * j
      · rw [if_pos c, if_neg (by omega), if_neg (by omega)]; exact u4 i c
      · rw [if_neg c]
        have e : i = 6 * j ∨ i = 6 * j + 1 ∨ i = 6 * j + 2 ∨ i = 6 * j + 3 ∨ i = 6 * j + 4 ∨ i = 6 * j + 5 := by omega
        rcases e with e | e | e | e | e | e <;> subst e
        · rw [if_neg (by omega), if_pos (by omega), show 6 * j - 6 * j = 0 by omega]; rfl
        · rw [if_pos (by omega), show 6 * j + 1 - 6 * j = 1 by omega, show 180 * r + (6 * j + 1) - (180 * r + 6 * j + 1) = 0 by omega]; rfl
        · rw [if_pos (by omega), show 6 * j + 2 - 6 * j = 2 by omega, show 180 * r + (6 * j + 2) - (180 * r + 6 * j + 1) = 1 by omega]; rfl
        · rw [if_pos (by omega), show 6 * j + 3 - 6 * j = 3 by omega, show 180 * r + (6 * j + 3) - (180 * r + 6 * j + 1) = 2 by omega]; rfl
        · rw [if_pos (by omega), show 6 * j + 4 - 6 * j = 4 by omega, show 180 * r + (6 * j + 4) - (180 * r + 6 * j + 1) = 3 by omega]; rfl
        · rw [if_pos (by omega), show 6 * j + 5 - 6 * j = 5 by omega, show 180 * r + (6 * j + 5) - (180 * r + 6 * j + 1) = 4 by omega]; rfl
  obtain ⟨U, a1, a2, a3, a4, a5⟩ := loop Ls.length 0 FU V3 (by omega) (by unfold FU; omega) (fun a i z1 z2 => by rw [hV3]; exact st2_ne z2) (by rw [hV3, vI_eq rfl, w32_nn (by omega)]) (fun i _ => by rw [hV3, vI_ne (by omega)]) (fun i hi => by omega)
  obtain ⟨V', e1, e2, e3⟩ := vy_tell (W := U) (l := fwE F) (n := F.length) h ht htn hr1 hr2 (by rw [fw6]; omega) (by omega) (fun a i z1 z2 _ => a2 a i z1 z2) (by rw [a3, lF]) (fun i _ z => a4 i z) a5
  refine ⟨V', ?_, by rw [← hF]; exact e2, KpV.trans (KpV_ag (fun a i z => a2 a i (by unfold kpA at z; omega) (by unfold kpA at z; omega))) e3⟩
  rw [l2_n ht (by omega), r229, Option.bind_some, s2_n hr2 (by omega), Option.bind_some, show w32 (V 156 106) = (Ls.length : Int) from hf.1, ← hV3]
  unfold l_X16_behindLookup_80
  rw [show (0 : Int) = ((0 : Nat) : Int) from rfl, a1]
  unfold j_X16_behindLookup_156 j_X16_behindLookup_183
  rw [e1]; rfl
end VTELLK
