/-! the reference's works are answered -/
theorem hasE_st {E : List Ent} {key : Ky} {s c : Int} (h : hasE E key = false) : stE key s c E = E ∧ flE key E = E := by
  have n : ∀ x, x ∈ E → eKey x ≠ key := fun x hx e => by
    unfold hasE at h
    rw [List.any_eq_false] at h
    exact h x hx (by simpa using e)
  constructor
  · unfold stE
    rw [List.map_congr_left (g := id) (fun z hz => by show (if eKey z = key then _ else z) = z; rw [if_neg (n z hz)]), List.map_id]
  · unfold flE
    rw [List.map_congr_left (g := id) (fun z hz => by show (if eKey z = key then _ else z) = z; rw [if_neg (n z hz)]), List.map_id]
theorem fl_st {tgt : Ky} {E : List Ent} {x : Ent} (hE : okEs tgt E) (hx : x ∈ E) : flE (eKey x) E = stE (eKey x) 3 (eCnt x) E := by
  have hn := okEs_nodup hE
  unfold flE stE
  refine List.map_congr_left (fun z hz => ?_)
  by_cases c : eKey z = eKey x
  · rw [if_pos c, if_pos c]
    have : z = x := by
      obtain ⟨i, hi, ei⟩ := List.getElem_of_mem hz
      obtain ⟨j, hj, ej⟩ := List.getElem_of_mem hx
      have hij : i = j := (List.getElem_inj (xs := E.map eKey) (h₀ := by rw [List.length_map]; exact hi) (h₁ := by rw [List.length_map]; exact hj) hn).mp (by rw [List.getElem_map, List.getElem_map, ei, ej]; exact c)
      subst hij
      rw [← ei, ← ej]
    rw [this]
  · rw [if_neg c, if_neg c]
section VANSW
variable {V W : VV} {m al N p t oth Z o n s : Nat} {own : Nat → Ky} {sd ps sn pu rf : Nat → Int} {tm : Int} {ev tn : Nat → Nat} {Lb : Nat → List Trm} {Y Y0 : Ys} {l : List Int} {key : Ky} {tg : Nat → Ky} {Es : Nat → List Ent} {lk : Nat → LkA}
theorem ens_frs {P : Nat → Nat → Prop} (h : EnsV V tg Es) (f : FrS P V W) (hP : ∀ a i, a = 232 ∨ (234 ≤ a ∧ a ≤ 238) → ¬ P a i) : EnsV W tg Es := fun t ht => en_ag (h t ht) (f.vI (hP _ _ (by omega))) (gk_ext (fun i _ => f.vI (hP _ _ (by omega)))) (fun j _ => gE_ext (gk_ext (fun i _ => f.vI (hP _ _ (by omega)))) (f.vI (hP _ _ (by omega))) (f.vI (hP _ _ (by omega))) (f.vI (hP _ _ (by omega))))
theorem inV_frs {P : Nat → Nat → Prop} (h : InV V l) (f : FrS P V W) (h1 : ¬ P 156 138) (h2 : ∀ i, ¬ P 271 i) : InV W l := ⟨(f.vI h1).trans h.1, h.2.1, fun i hi => (f.vI (h2 i)).trans (h.2.2 i hi)⟩
theorem ndL_s {l : List Int} {o n : Nat} (hn : l.getD o 0 = (n : Int)) : ndL l o = (List.range n).map (fun i => (kyP l (o + 1 + 21 * i), l.getD (o + 21 + 21 * i) 0)) := by unfold ndL; rw [hn]; rfl
/-- nodes that came are added -/
theorem v_nodesIn (ht : t < 44) (hE : EnsV V tg Es) (hI : InV V l) (hb : isBL l) (hn : l.getD o 0 = (n : Int)) (hn2 : n ≤ 20) (ho : o ≤ 27) (hl : o + 1 + 21 * n ≤ l.length) (ha : ∀ k, k < n → l.getD (o + 1 + 21 * k + 20) 0 < 32) : ∃ U, l_X16_answered_103 (t : Int) (o : Int) (n : Int) 0 V = j_X16_answered_161 (t : Int) U ∧ EnsV U tg (fup Es t ((ndL l o).foldl (fun E x => addE (tg t) E (x.1, x.2, 0, 0)) (Es t))) ∧ FrS (fun a i => PE a i ∨ a = 273) V U := by
  rw [ndL_s hn]
  obtain ⟨g, hg⟩ : ∃ g : List Ent → Ky × Int → List Ent, g = fun E x => addE (tg t) E (x.1, x.2, 0, 0) := ⟨_, rfl⟩
  obtain ⟨nd, hnd⟩ : ∃ nd : Nat → Ky × Int, nd = fun i => (kyP l (o + 1 + 21 * i), l.getD (o + 21 + 21 * i) 0) := ⟨_, rfl⟩
  rw [← hg, ← hnd]
  have loop : ∀ d j fu U, d + j = n → d < fu → EnsV U tg (fup Es t (((List.range j).map nd).foldl g (Es t))) → FrS (fun a i => PE a i ∨ a = 273) V U → ∃ U', lpN (fun s : Int × VV => b_X16_answered_103 (t : Int) (o : Int) (n : Int) s.1 s.2) fu ((j : Int), U) = j_X16_answered_161 (t : Int) U' ∧ EnsV U' tg (fup Es t (((List.range n).map nd).foldl g (Es t))) ∧ FrS (fun a i => PE a i ∨ a = 273) V U' := by
    intro d
    induction d with
    | zero =>
      intro j fu U hj hf h1 h2
      have : j = n := by omega
      subst this
      refine ⟨U, lpN_end (by omega) ?_, h1, h2⟩
      show b_X16_answered_103 (t : Int) (o : Int) (j : Int) (j : Int) U = _
      unfold b_X16_answered_103
      rw [if_neg (show ¬ w32 (j : Int) < w32 (j : Int) from by omega)]
    | succ d ih =>
      intro j fu U hj hf h1 h2
      obtain ⟨fu', rfl⟩ : ∃ f, fu = f + 1 := ⟨fu - 1, by omega⟩
      have hIU : InV U l := inV_frs hI h2 (by unfold PE; omega) (fun i => by unfold PE; omega)
      obtain ⟨U1, e1, e2, e3⟩ := v_keyIn (e := 273) (n := 5) (q := o + 1 + 21 * j) hIU hb m273 (by omega) (by omega) (by omega)
      have hI1 : InV U1 l := inV_frs hIU e3 (by omega) (fun i => by omega)
      have had := ha j (by omega)
      have hab := isBL_get hb (o + 21 + 21 * j)
      have r271 : vI U1 271 (o + 21 + 21 * j) = l.getD (o + 21 + 21 * j) 0 := hI1.2.2 _ (by omega)
      have hE1 : EnsV U1 tg (fup Es t (((List.range j).map nd).foldl g (Es t))) := ens_frs h1 e3 (fun a i z => by omega)
      obtain ⟨U2, f1, f2, f3⟩ := v_addEntry (ad := l.getD (o + 21 + 21 * j) 0) (stt := 0) hE1 ht (e := 273) (n := 5) (q := 0) m273 (by omega) (by omega) (by omega) ⟨hab.1, by rw [show o + 21 + 21 * j = o + 1 + 21 * j + 20 from by omega]; exact had⟩ (by omega)
      rw [fup_eq] at f2
      have ef : fup (fup Es t (((List.range j).map nd).foldl g (Es t))) t (addE (tg t) (((List.range j).map nd).foldl g (Es t)) (gk U1 273 0, l.getD (o + 21 + 21 * j) 0, 0, 0)) = fup Es t (((List.range (j + 1)).map nd).foldl g (Es t)) := by
        rw [List.range_succ, List.map_append, List.foldl_append]
        funext z
        unfold fup
        by_cases c : z = t
        · rw [if_pos c, if_pos c, e2, hg, hnd]; rfl
        · rw [if_neg c, if_neg c, if_neg c]
      rw [ef] at f2
      obtain ⟨U', r1, r2, r3⟩ := ih (j + 1) fu' U2 (by omega) (by omega) f2 ((h2.trans (e3.mono (fun a i z => Or.inr z))).trans (f3.mono (fun a i z => Or.inl z)))
      refine ⟨U', ?_, r2, r3⟩
      rw [lpN_cnt (b := fun s : Int × VV => b_X16_answered_103 (t : Int) (o : Int) (n : Int) s.1 s.2) (s := ((j : Int), U)) (s' := (((j + 1 : Nat) : Int), U2))]
      · exact r1
      · show b_X16_answered_103 (t : Int) (o : Int) (n : Int) (j : Int) U = _
        unfold b_X16_answered_103
        rw [w32_nn (by omega), w32_nn (by omega), if_pos (by omega), show ((o : Int) + 1) + (21 * (j : Int)) = ((o + 1 + 21 * j : Nat) : Int) from by omega]
        have e1 : f_X16_keyAt 273 ((o + 1 + 21 * j : Nat) : Int) U = some U1 := e1
        rw [e1, Option.bind_some, show ((o : Int) + 21) + (21 * (j : Int)) = ((o + 21 + 21 * j : Nat) : Int) from by omega, l2_n (by omega) (by omega), r271, Option.bind_some]
        have f1 : f_X16_addEntry (t : Int) 273 0 (l.getD (o + 21 + 21 * j) 0) 0 U1 = some U2 := f1
        rw [f1]
        rfl
  have := loop n 0 FU V (by omega) (by unfold FU; omega) (by
    rw [show (List.range 0).map nd = [] from rfl]
    show EnsV V tg (fup Es t (Es t))
    have : fup Es t (Es t) = Es := by
      funext z
      unfold fup
      by_cases c : z = t
      · rw [if_pos c, c]
      · rw [if_neg c]
    rw [this]; exact hE) .refl
  exact this
theorem LksV_mk {lk' : Nat → LkA} (hE : EnsV W (fun t => (lk' t).1) (fun t => (lk' t).2.2.1)) (h3 : ∀ t, t < 44 → vI W 233 t = b2i (lk' t).2.1) (h9 : ∀ t, t < 44 → vI W 239 t = (lk' t).2.2.2) (h1 : ∀ t, t < 44 → vI W 231 t = (tn t : Int)) : LksV W lk' tn := fun t ht => ⟨hE t ht, h3 t ht, h9 t ht, h1 t ht⟩
/-- lookups change -/
theorem vy_lk (h : VY V m al N own sd ps sn pu rf tm Lb oth Z ev tn Y) (f : FrS (fun a i => (232 ≤ a ∧ a ≤ 239) ∨ mv a i = 9) V W) (hl : LksV W lk tn) : VY W m al N own sd ps sn pu rf tm Lb oth Z ev tn (yw Y, lk, ys Y, yq Y) := by
  obtain ⟨h1, h2, h3, h4, h5, h6, h7, h8⟩ := id h
  have n9 : ∀ a i, (173 ≤ a ∧ a ≤ 178) ∨ (226 ≤ a ∧ a ≤ 270 ∧ a ≠ 240) ∨ (a = 156 ∧ i = 91) → mv a i ≠ 9 := fun a i z => by
    rcases z with z | z | z
    · unfold mv mvA
      rw [if_neg (by omega), if_neg (by omega), if_neg (by omega), if_neg (by omega), if_pos z]; decide
    · exact mv66 z
    · rw [z.1, z.2]; decide
  refine vy_mk h (fun a i z => f a i (fun y => z (by omega))) hl (fun a i z => (f.vI (fun y => ?_)).trans (h5 a i z)) (QsV_ag h6 (fun a i z => f.vI (fun y => ?_))) (TmV_ag h8 (fun a i z => f.vI (fun y => ?_)) (fun t' _ k1 k2 => ⟨⟨k1, k2⟩, rfl, rfl, rfl⟩))
  · have := n9 a i (by unfold scA at z; omega)
    unfold scA at z
    omega
  · have := n9 a i (by omega)
    omega
  · have := n9 a i (by omega)
    omega
end VANSW
