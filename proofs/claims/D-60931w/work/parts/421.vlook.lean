/-! a lookup goes on -/
abbrev LSt : Type := Wd × List Ent × Int × (Nat → Int)
def tyL (vals : Bool) : Int := if vals = true then 5 else 3
/-- the next one is asked -/
def askN (N : Nat) (own : Nat → Ky) (sd : Nat → Int) (tm : Int) (p t : Nat) (rc : Int) (tgt : Ky) (vals : Bool) (s : LSt) (x : Ent) : LSt :=
  ((askY N own sd tm s.1 p (eAdr x) (tyL vals) (eKey x) (kbs tgt) (some t) none).1, stE (eKey x) (if (askY N own sd tm s.1 p (eAdr x) (tyL vals) (eKey x) (kbs tgt) (some t) none).2 = true then 1 else 3) (eCnt x) s.2.1, (if (askY N own sd tm s.1 p (eAdr x) (tyL vals) (eKey x) (kbs tgt) (some t) none).2 = true then w32 (s.2.2.1 + 1) else s.2.2.1), raU rc s.2.2.2)
/-- asked are those ahead, until so many are asked: whether all have answered -/
def lkOn (m al N : Nat) (own : Nat → Ky) (sd : Nat → Int) (tm : Int) (p t : Nat) (rc : Int) (tgt : Ky) (vals : Bool) : Nat → LSt → Bool × LSt
  | 0, s => (false, s)
  | n + 1, s => if allE (frontE m s.2.1) = true then (true, s) else match nextE (frontE m s.2.1) with
    | none => (false, s)
    | some x => if (al : Int) ≤ s.2.2.1 then (false, s) else lkOn m al N own sd tm p t rc tgt vals n (askN N own sd tm p t rc tgt vals s x)
def nE (E : List Ent) : Nat := (E.filter (fun x => decide (eSt x = 0))).length
section VLOOK
variable {V W : VV} {m al N p t oth Z : Nat} {own : Nat → Ky} {sd ps sn pu rf : Nat → Int} {tm ad ty : Int} {w : Wd} {ev : Nat → Nat} {key tgt : Ky} {E : List Ent} {lk : Nat → LkA} {tn : Nat → Nat} {x : Ent} {s c : Int}
theorem nE_st (hE : okEs tgt E) (hx : x ∈ E) (h0 : eSt x = 0) (hs : s ≠ 0) : nE (stE (eKey x) s c E) + 1 = nE E := by
  have hn := okEs_nodup hE
  unfold nE stE
  have gen : ∀ (l : List Ent), (l.map eKey).Nodup → x ∈ l → ((l.map (fun y => if eKey y = eKey x then (eKey y, eAdr y, s, c) else y)).filter (fun y => decide (eSt y = 0))).length + 1 = (l.filter (fun y => decide (eSt y = 0))).length := by
    intro l
    induction l with
    | nil => intro _ hx; simp at hx
    | cons y l ih =>
      intro hn hx
      rw [List.map_cons, List.nodup_cons] at hn
      rw [List.map_cons]
      by_cases e : eKey y = eKey x
      · have hxy : x = y := by
          rcases List.mem_cons.mp hx with z | z
          · exact z
          · exact absurd (e ▸ List.mem_map.mpr ⟨x, z, rfl⟩) hn.1
        subst hxy
        have same : l.map (fun y => if eKey y = eKey x then (eKey y, eAdr y, s, c) else y) = l := by
          rw [List.map_congr_left (g := id) (fun z hz => ?_), List.map_id]
          show (if eKey z = eKey x then (eKey z, eAdr z, s, c) else z) = z
          rw [if_neg (fun q : eKey z = eKey x => hn.1 (by rw [← q]; exact List.mem_map.mpr ⟨z, hz, rfl⟩))]
        rw [if_pos rfl, same, List.filter_cons_of_neg (by show ¬ (decide (s = 0) = true); simpa using hs), List.filter_cons_of_pos (by simpa using h0), List.length_cons]
      · have hxl : x ∈ l := by
          rcases List.mem_cons.mp hx with z | z
          · exact absurd (by rw [z]) e
          · exact z
        have := ih hn.2 hxl
        rw [if_neg e]
        by_cases f : eSt y = 0
        · rw [List.filter_cons_of_pos (by simpa using f), List.filter_cons_of_pos (by simpa using f), List.length_cons, List.length_cons]; omega
        · rw [List.filter_cons_of_neg (by simpa using f), List.filter_cons_of_neg (by simpa using f)]; exact this
  exact gen E hn hx
theorem next_mem {F : List Ent} (h : nextE F = some x) : x ∈ F ∧ eSt x = 0 := by
  unfold nextE at h
  exact ⟨List.mem_of_find?_eq_some h, by have := List.find?_some h; simpa using this⟩
theorem front_mem {k : Nat} (h : x ∈ frontE k E) : x ∈ E := by
  unfold frontE at h
  exact (List.mem_filter.mp (List.mem_of_mem_take h)).1
/-- an entry's state changes in its slot -/
theorem en_st {i : Nat} (h : EnV V t tgt E) (hi : i < E.length) (hx : gE V (65 * t + i) = x) (hs : 0 ≤ s ∧ s ≤ 3) (hc : 0 ≤ c ∧ c ≤ 65535) (h234 : vI W 234 t = vI V 234 t) (h232 : gk W 232 (5 * t) = gk V 232 (5 * t)) (hg : ∀ j, j < E.length → gE W (65 * t + j) = if j = i then (eKey x, eAdr x, s, c) else gE V (65 * t + j)) : EnV W t tgt (stE (eKey x) s c E) := by
  obtain ⟨h1, h2, h3, h4⟩ := h
  have len : (stE (eKey x) s c E).length = E.length := by unfold stE; rw [List.length_map]
  refine ⟨by rw [h234, len]; exact h1, by rw [h232]; exact h2, okEs_st h3 hs hc, ?_⟩
  rw [len]
  have hn := okEs_nodup h3
  have hn2 : ((rws (fun j => gE V (65 * t + j)) E.length).map eKey).Nodup := (h4.map eKey).nodup_iff.mpr hn
  have e : rws (fun j => gE W (65 * t + j)) E.length = (rws (fun j => gE V (65 * t + j)) E.length).map (fun y => if eKey y = eKey x then (eKey y, eAdr y, s, c) else y) := by
    unfold rws
    rw [List.map_map]
    refine List.map_congr_left (fun j hj => ?_)
    have hj := List.mem_range.mp hj
    show gE W (65 * t + j) = (if eKey (gE V (65 * t + j)) = eKey x then (eKey (gE V (65 * t + j)), eAdr (gE V (65 * t + j)), s, c) else gE V (65 * t + j))
    rw [hg j hj]
    by_cases d : j = i
    · subst d
      rw [if_pos rfl, hx, if_pos rfl]
    · rw [if_neg d, if_neg (fun z => ?_)]
      have hq := List.pairwise_iff_getElem.mp hn2
      have lr : ((rws (fun j => gE V (65 * t + j)) E.length).map eKey).length = E.length := by rw [List.length_map, rws_len]
      rw [← hx] at z
      rcases Nat.lt_or_gt_of_ne d with v | v
      · refine hq j i (by omega) (by omega) v ?_
        simp only [List.getElem_map]
        rw [rws_get, rws_get]; exact z
      · refine hq i j (by omega) (by omega) v ?_
        simp only [List.getElem_map]
        rw [rws_get, rws_get]; exact z.symm
  rw [e]
  exact h4.map _
def PK (a i : Nat) : Prop := PG a i ∨ PB a i ∨ a = 268 ∨ a = 237 ∨ a = 239 ∨ a = 240 ∨ (a = 156 ∧ i = 106)
/-- what a step of lookups leaves -/
def VS (V : VV) (m al N : Nat) (own : Nat → Ky) (sd ps sn pu rf : Nat → Int) (tm : Int) (oth Z : Nat) (ev : Nat → Nat) (lk : Nat → LkA) (tn : Nat → Nat) (t : Nat) (s : LSt) : Prop :=
  VQ V m al N own sd ps sn pu rf tm s.1 oth Z ∧ okW N own tm s.1 ∧ EvI N ev s.1 ∧ LksV V (fup lk t ((lk t).1, (lk t).2.1, s.2.1, s.2.2.1)) tn ∧ RaV V s.2.2.2
theorem kbs_BL (x : Ky) : isBL (kbs x) ∧ (kbs x).length = 20 := ⟨kbs_isBL x, kbs_len x⟩
theorem v_lookStep {rc : Int} {s : LSt} (hB : bdg N ev oth) (hp : p < N) (ht : t < 44) (hrc : rc = -1 ∨ (0 ≤ rc ∧ rc < 256)) (hal : al ≤ 8) (h : VS V m al N own sd ps sn pu rf tm oth Z ev lk tn t s) (h228 : vI V 228 t = (p : Int)) (h229 : vI V 229 t = rc) :
    ∃ V1 Ls, (VS V1 m al N own sd ps sn pu rf tm oth Z ev lk tn t s ∧ (vI V1 156 106 = ((Ls.length : Nat) : Int) ∧ ArrN V1 240 Ls ∧ (∀ r, r ∈ Ls → ∃ i, i < s.2.1.length ∧ r = 65 * t + i) ∧ Ls.map (gE V1) = frontE m s.2.1) ∧ FrS PK V V1 ∧ SK V V1) ∧ (if allE (frontE m s.2.1) = true then b_X16_lookOn_0 (t : Int) V = xit (some (1, V1)) else match nextE (frontE m s.2.1) with
    | none => b_X16_lookOn_0 (t : Int) V = xit (some (0, V1))
    | some x => if (al : Int) ≤ s.2.2.1 then b_X16_lookOn_0 (t : Int) V = xit (some (0, V1)) else ∃ V2, b_X16_lookOn_0 (t : Int) V = some (.inl V2) ∧ VS V2 m al N own sd ps sn pu rf tm oth Z ev lk tn t (askN N own sd tm p t rc (lk t).1 (lk t).2.1 s x) ∧ FrS PK V V2 ∧ SK V V2) := by
  obtain ⟨hq, ho, hE, hk, hra⟩ := h
  obtain ⟨L0, hv, hL0⟩ := id hq
  obtain ⟨tgt, htgt⟩ : ∃ tgt, tgt = (lk t).1 := ⟨_, rfl⟩
  obtain ⟨vals, hvals⟩ : ∃ vals, vals = (lk t).2.1 := ⟨_, rfl⟩
  have hkt := hk t ht
  rw [fup_eq] at hkt
  rw [← htgt, ← hvals] at hkt
  obtain ⟨en, k233, k239, k231⟩ := hkt
  have m1 := hv.2.2.2.2.2.2.2
  obtain ⟨V1, Ls, e1, e2, e3, e4, e5, e6⟩ := v_makeFront en ht hv.2.2.2.2.2.1 m1
  have g1 : ∀ a i, a ≠ 240 → a ≠ 156 → vI V1 a i = vI V a i := fun a i x y => by show w32 _ = w32 _; rw [e2 a i x (fun z => y z.1)]
  have gE1 : ∀ r, gE V1 r = gE V r := fun r => gE_ext (gk_ext (fun i _ => g1 235 _ (by decide) (by decide))) (g1 236 _ (by decide) (by decide)) (g1 237 _ (by decide) (by decide)) (g1 238 _ (by decide) (by decide))
  have e6' : Ls.map (gE V1) = frontE m s.2.1 := by rw [← e6]; exact List.map_congr_left (fun r _ => gE1 r)
  have F1 : FrV m9 V V1 := Fb_9 e2 (fun i => rfl) rfl
  have q1 : VQ V1 m al N own sd ps sn pu rf tm s.1 oth Z := vq_fr F1 (by decide) hq
  have k1 : LksV V1 (fup lk t ((lk t).1, (lk t).2.1, s.2.1, s.2.2.1)) tn := LksV_ag hk (fun a i ha => g1 a i (by omega) (by omega))
  have ra1 : RaV V1 s.2.2.2 := fun i hi => by rw [g1 _ _ (by decide) (by decide)]; exact hra i hi
  have fr1 : FrS PK V V1 := fun a i z => e2 a i (fun y => z (Or.inr (Or.inr (Or.inr (Or.inr (Or.inr (Or.inl y))))))) (fun y => z (Or.inr (Or.inr (Or.inr (Or.inr (Or.inr (Or.inr y)))))))
  have lF : Ls.length ≤ 20 := by
    have : Ls.length = (frontE m s.2.1).length := by rw [← e6, List.length_map]
    rw [this]; unfold frontE; rw [List.length_take]; omega
  have lE := en.2.2.1.1
  obtain ⟨nxt, n1, n2⟩ := v_scan (t := t) e4 lF (fun r hr => by obtain ⟨i, i1, i2⟩ := e5 r hr; omega) e6'
  have head : b_X16_lookOn_0 (t : Int) V = j_X16_lookOn_81 (t : Int) nxt (b2i (allE (frontE m s.2.1))) V1 := by
    unfold b_X16_lookOn_0
    have : w32 (V1 156 106) = ((Ls.length : Nat) : Int) := e3
    rw [e1, Option.bind_some, this]
    exact n1
  have sk1 : SK V V1 := SK_ag (fun r => ⟨g1 197 r (by decide) (by decide), g1 198 r (by decide) (by decide)⟩)
  refine ⟨V1, Ls, ⟨⟨q1, ho, hE, k1, ra1⟩, ⟨e3, e4, e5, e6'⟩, fr1, sk1⟩, ?_⟩
  by_cases all : allE (frontE m s.2.1) = true
  · rw [if_pos all, head, all]
    unfold j_X16_lookOn_81
    rw [if_neg (by decide)]
  · rw [if_neg all]
    have allf : allE (frontE m s.2.1) = false := by simpa using all
    rw [allf] at head
    have k1t := k1 t ht
    rw [fup_eq, ← htgt, ← hvals] at k1t
    have v239 : vI V1 239 t = s.2.2.1 := k1t.2.2.1
    have was : w32 s.2.2.1 = s.2.2.1 := by rw [← v239, w32_vI]
    have v1al : w32 (V1 156 1) = (al : Int) := by
      obtain ⟨L1, w1, _⟩ := q1
      exact w1.2.2.2.2.2.2.1
    rcases n2 with ⟨n2, n3⟩ | ⟨r, r1, r2, r3⟩
    · rw [n2]
      dsimp only
      rw [head, n3]
      unfold j_X16_lookOn_81
      rw [if_pos (by decide), if_pos (by decide)]
      rfl
    · rw [r3]
      dsimp only
      obtain ⟨i, i1, i2⟩ := e5 r r1
      have hr44 : r < 2860 := by omega
      have head2 : b_X16_lookOn_0 (t : Int) V = if s.2.2.1 < (al : Int) then (f_X16_bodyKey 232 (5 * (t : Int)) V1).bind fun V1 => (l2 236 2860 (r : Int) V1).bind fun v2 => (l2 233 44 (t : Int) V1).bind fun v3 => if w32 v3 = 0 then j_X16_lookOn_146 (t : Int) (r : Int) (t : Int) v2 (5 * (r : Int)) 3 V1 else j_X16_lookOn_146 (t : Int) (r : Int) (t : Int) v2 (5 * (r : Int)) 5 V1 else xit (j_X16_lookOn_104 V1) := by
        rw [head, r2]
        unfold j_X16_lookOn_81
        rw [if_pos (show w32 (b2i false) = 0 by decide), w32_nn (by omega), if_neg (by omega), l2_e (w32_nn (by omega)) ht, v239, Option.bind_some, was, v1al, w32_nn (by omega)]
      by_cases ca : (al : Int) ≤ s.2.2.1
      · rw [if_pos ca, head2, if_neg (by omega)]
        rfl
      · rw [if_neg ca]
        obtain ⟨x, hx⟩ : ∃ x, x = gE V1 r := ⟨_, rfl⟩
        have hx0 := next_mem (by rw [r3] : nextE (frontE m s.2.1) = some (gE V1 r))
        rw [← hx] at hx0 ⊢
        have xE : x ∈ s.2.1 := front_mem hx0.1
        have okx := en.2.2.1.2.2 x xE
        obtain ⟨V2, b1, b2, b3, b4⟩ := v_bodyKey (V := V1) (e := 232) (n := 220) (p := 5 * t) m232 (by decide) (by omega) (by decide)
        have f2 := bodyKey_fr b1
        have eb : kby (kV V1 232 (5 * t)) = kbs tgt := by
          rw [kby_ky]
          show kbs (gk V1 232 (5 * t)) = _
          rw [k1t.1.2.1]
        rw [eb] at b2
        have q2 : VQ V2 m al N own sd ps sn pu rf tm s.1 oth Z := vq_fr b3 (by decide) q1
        have x2k : gk V2 235 (5 * r) = eKey x := by
          have : gk V2 235 (5 * r) = gk V1 235 (5 * r) := gk_ext (fun i _ => f2.vI (by unfold PB; omega))
          rw [this, hx]; rfl
        have x2a : vI V2 236 r = eAdr x := by rw [f2.vI (by unfold PB; omega), hx]; rfl
        have v233 : vI V2 233 t = b2i vals := by rw [f2.vI (by unfold PB; omega)]; exact k1t.2.1
        have ht0 : 0 ≤ vI V2 231 0 := by
          rw [f2.vI (by unfold PB; omega), (k1 0 (by decide)).2.2.2]; omega
        have tyr : 1 < tyL vals ∧ tyL vals < 256 := by unfold tyL; split <;> omega
        obtain ⟨V3, c1, c2, c3, c4, c5⟩ := v_askFor (t := t) (ad := eAdr x) (ty := tyL vals) (e := 235) (q := 5 * r) (n := 14300) (bd := kbs tgt) (ra := s.2.2.2) (rc := rc) q2 ho hE hB hp ht (by rw [f2.vI (by unfold PB; omega), g1 _ _ (by decide) (by decide)]; exact h228) (by rw [f2.vI (by unfold PB; omega), g1 _ _ (by decide) (by decide)]; exact h229) hrc (fun i hi => by rw [f2.vI (by unfold PB; omega)]; exact ra1 i hi) okx.2.1 tyr m235 (by omega) (by decide) (fun i => ⟨by show (6 : Nat) ≠ 5; decide, by unfold PO; omega⟩) (by decide) b2 (kbs_BL tgt).1 (by rw [(kbs_BL tgt).2]; decide) ht0
        rw [x2k] at c1 c2
        obtain ⟨R, hR⟩ : ∃ R, R = askY N own sd tm s.1 p (eAdr x) (tyL vals) (eKey x) (kbs tgt) (some t) none := ⟨_, rfl⟩
        rw [← hR] at c1 c2
        have f3 : ∀ a i, (226 ≤ a ∧ a ≤ 239) → vI V3 a i = vI V2 a i := fun a i ha => c4.vI (fun z => by
          rcases z with z | z
          · unfold PG at z
            have m6 : mv a i = 6 := by
              unfold mv mvA
              rw [if_neg (by omega), if_neg (by omega), if_neg (by omega), if_neg (by omega), if_neg (by omega), if_neg (by omega), if_pos (by omega)]
            rcases z with z | z | z
            · omega
            · omega
            · unfold PO at z; omega
          · omega)
        have f3' : ∀ a i, (226 ≤ a ∧ a ≤ 239) → vI V3 a i = vI V1 a i := fun a i ha => by rw [f3 a i ha, f2.vI (by unfold PB; omega)]
        have k3 : LksV V3 (fup lk t ((lk t).1, (lk t).2.1, s.2.1, s.2.2.1)) tn := LksV_ag k1 (fun a i ha => f3' a i (by omega))
        have call : ((f_X16_bodyKey 232 (5 * (t : Int)) V1).bind fun V1 => (l2 236 2860 (r : Int) V1).bind fun v2 => (l2 233 44 (t : Int) V1).bind fun v3 => if w32 v3 = 0 then j_X16_lookOn_146 (t : Int) (r : Int) (t : Int) v2 (5 * (r : Int)) 3 V1 else j_X16_lookOn_146 (t : Int) (r : Int) (t : Int) v2 (5 * (r : Int)) 5 V1) = j_X16_lookOn_146 (t : Int) (r : Int) (t : Int) (eAdr x) (5 * (r : Int)) (tyL vals) V2 := by
          rw [show (5 * (t : Int)) = ((5 * t : Nat) : Int) by omega, show f_X16_bodyKey 232 ((5 * t : Nat) : Int) V1 = some V2 from b1, Option.bind_some, l2_e (w32_nn (by omega)) hr44, x2a, Option.bind_some, l2_e (w32_nn (by omega)) ht, v233, Option.bind_some, w32_b2i]
          unfold tyL
          cases vals with
          | false => rw [if_pos (show b2i false = 0 from rfl), if_neg (by decide)]
          | true => rw [if_neg (show ¬ b2i true = 0 by decide), if_pos rfl]
        rw [head2, if_pos (by omega), call]
        have okA := ok_ask (sd := sd) (p := p) (ad := eAdr x) (ty := tyL vals) (key := eKey x) (bd := kbs tgt) (wk := some t) (pb := none) ho hE hB hp okx.2.1 ⟨by omega, tyr.2⟩ (kbs_BL tgt).1 (by rw [(kbs_BL tgt).2]; decide)
        have evA := ev_ask (own := own) (sd := sd) (tm := tm) (p := p) (ad := eAdr x) (ty := tyL vals) (key := eKey x) (bd := kbs tgt) (wk := some t) (pb := none) hE
        rw [← hR] at okA evA
        have en3 : EnV V3 t tgt s.2.1 := by have := (k3 t ht).1; rw [fup_eq, ← htgt] at this; exact this
        have gx3 : gE V3 (65 * t + i) = x := by
          rw [hx, i2]
          exact gE_ext (gk_ext (fun i _ => f3' 235 _ (by omega))) (f3' 236 _ (by omega)) (f3' 237 _ (by omega)) (f3' 238 _ (by omega))
        -- the entry's state is written
        have wrt : ∀ (sv : Int), 0 ≤ sv ∧ sv ≤ 3 → ∀ (U : VV), (∀ a i, ¬ (a = 237 ∧ i = r) → a ≠ 239 → vI U a i = vI V3 a i) → vI U 237 r = sv → (∀ z, z ≠ t → vI U 239 z = vI V3 239 z) → ∀ as, vI U 239 t = as → LksV U (fup lk t ((lk t).1, (lk t).2.1, stE (eKey x) sv (eCnt x) s.2.1, as)) tn := by
          intro sv hsv U gU u237 u239 as has t' ht'
          have kt' := k3 t' ht'
          by_cases c : t' = t
          · subst c
            rw [fup_eq] at kt' ⊢
            obtain ⟨y1, y2, y3, y4⟩ := kt'
            refine ⟨?_, by rw [gU _ _ (by omega) (by decide)]; exact y2, has, by rw [gU _ _ (by omega) (by decide)]; exact y4⟩
            rw [← htgt]
            refine en_st en3 i1 gx3 hsv okx.2.2.2 (gU _ _ (by omega) (by decide)) (gk_ext (fun i _ => gU _ _ (by omega) (by decide))) (fun j hj => ?_)
            by_cases d : j = i
            · subst d
              rw [if_pos rfl, ← i2]
              have g0 : gE V3 r = x := by rw [i2]; exact gx3
              have e1 : eKey x = gk U 235 (5 * r) := by rw [← g0]; exact (gk_ext (fun i _ => gU 235 _ (by omega) (by decide))).symm
              have e2 : eAdr x = vI U 236 r := by rw [← g0]; exact (gU 236 _ (by omega) (by decide)).symm
              have e4 : eCnt x = (gE U r).2.2.2 := by
                rw [← g0]
                show (if 0 ≤ vI V3 238 r then vI V3 238 r else 0) = (if 0 ≤ vI U 238 r then vI U 238 r else 0)
                rw [gU 238 _ (by omega) (by decide)]
              rw [e1, e2, e4, ← u237]
              rfl
            · rw [if_neg d]
              exact gE_ext (gk_ext (fun i _ => gU 235 _ (by omega) (by decide))) (gU 236 _ (by omega) (by decide)) (gU 237 _ (by omega) (by decide)) (gU 238 _ (by omega) (by decide))
          · rw [fup_ne c] at kt' ⊢
            obtain ⟨y1, y2, y3, y4⟩ := kt'
            refine ⟨en_ag y1 (gU _ _ (by omega) (by decide)) (gk_ext (fun i _ => gU _ _ (by omega) (by decide))) (fun j hj => gE_ext (gk_ext (fun i _ => gU 235 _ (by omega) (by decide))) (gU 236 _ (by omega) (by decide)) (gU 237 _ (by omega) (by decide)) (gU 238 _ (by omega) (by decide))), by rw [gU _ _ (by omega) (by decide)]; exact y2, by rw [u239 t' c]; exact y3, by rw [gU _ _ (by omega) (by decide)]; exact y4⟩
        unfold j_X16_lookOn_146 j_X16_lookOn_179 askN
        rw [← htgt, ← hvals, ← hR, show (5 * (r : Int)) = ((5 * r : Nat) : Int) by omega, show f_X16_askFor (t : Int) (eAdr x) 235 ((5 * r : Nat) : Int) (tyL vals) V2 = _ from c1, Option.bind_some]
        dsimp only
        have frAll : FrS PK V V3 := (fr1.trans (f2.mono (fun a i z => Or.inr (Or.inl z)))).trans (c4.mono (fun a i z => by rcases z with z | z; exact Or.inl z; exact Or.inr (Or.inr (Or.inl z))))
        have sk3 : SK V V3 := (sk1.trans (SK_frs f2 (fun i => ⟨by unfold PB; omega, by unfold PB; omega⟩))).trans c5
        have c39 : vI V3 239 t = s.2.2.1 := by rw [f3' 239 t (by omega)]; exact v239
        cases hok : R.2 with
        | false =>
          rw [if_pos (show w32 (b2i false) = 0 by decide), s2_e (w32_nn (by omega)) hr44, Option.bind_some, if_neg (by decide), if_neg (by decide)]
          refine ⟨st2 V3 237 r 3, rfl, ⟨vq_w6 c2 (fun a i z => ?_), okA, evA, ?_, fun i hi => ?_⟩, frAll.trans (FrS_st (P := PK) (Or.inr (Or.inr (Or.inr (Or.inl rfl))))), sk3.trans (SK_ag (fun r => ⟨vI_ne (by omega), vI_ne (by omega)⟩))⟩
          · unfold st2; rw [if_neg (fun y => z (Or.inl (by omega)))]
          · exact wrt 3 (by omega) _ (fun a i z1 z2 => by rw [vI_st2, if_neg z1]) (by rw [vI_st2, if_pos ⟨rfl, rfl⟩]; decide) (fun z hz => by rw [vI_st2, if_neg (by omega)]) _ (by rw [vI_st2, if_neg (by omega)]; exact c39)
          · rw [vI_st2, if_neg (by omega)]; exact c3 i hi
        | true =>
          rw [if_neg (show ¬ w32 (b2i true) = 0 by decide), s2_e (w32_nn (by omega)) hr44, Option.bind_some, l2_e (w32_nn (by omega)) ht, vI_st2, if_neg (by omega), c39, Option.bind_some, s2_e (w32_nn (by omega)) ht, Option.bind_some, if_pos rfl, if_pos rfl]
          refine ⟨st2 (st2 V3 237 r 1) 239 t (s.2.2.1 + 1), rfl, ⟨vq_w6 c2 (fun a i z => ?_), okA, evA, ?_, fun i hi => ?_⟩, (frAll.trans (FrS_st (P := PK) (Or.inr (Or.inr (Or.inr (Or.inl rfl)))))).trans (FrS_st (P := PK) (Or.inr (Or.inr (Or.inr (Or.inr (Or.inl rfl)))))), sk3.trans (SK_ag (fun r => ⟨by rw [vI_ne (by omega), vI_ne (by omega)], by rw [vI_ne (by omega), vI_ne (by omega)]⟩))⟩
          · unfold st2; rw [if_neg (fun y => z (Or.inl (by omega))), if_neg (fun y => z (Or.inl (by omega)))]
          · exact wrt 1 (by omega) _ (fun a i z1 z2 => by rw [vI_st2, if_neg (by omega), vI_st2, if_neg z1]) (by rw [vI_st2, if_neg (by omega), vI_st2, if_pos ⟨rfl, rfl⟩]; decide) (fun z hz => by rw [vI_st2, if_neg (by omega), vI_st2, if_neg (by omega)]) _ (by rw [vI_st2, if_pos ⟨rfl, rfl⟩])
          · rw [vI_st2, if_neg (by omega), vI_st2, if_neg (by omega)]; exact c3 i hi
theorem lkOn_all {rc : Int} {vals : Bool} {n : Nat} {s : LSt} (h : allE (frontE m s.2.1) = true) : lkOn m al N own sd tm p t rc tgt vals (n + 1) s = (true, s) := by
  show (if allE (frontE m s.2.1) = true then _ else _) = _
  rw [if_pos h]
theorem lkOn_none {rc : Int} {vals : Bool} {n : Nat} {s : LSt} (h : allE (frontE m s.2.1) = false) (h2 : nextE (frontE m s.2.1) = none ∨ (al : Int) ≤ s.2.2.1) : lkOn m al N own sd tm p t rc tgt vals (n + 1) s = (false, s) := by
  show (if allE (frontE m s.2.1) = true then _ else match nextE (frontE m s.2.1) with | none => (false, s) | some x => if (al : Int) ≤ s.2.2.1 then (false, s) else _) = _
  rw [if_neg (by rw [h]; decide)]
  cases hn : nextE (frontE m s.2.1) with
  | none => rfl
  | some x =>
    rcases h2 with z | z
    · rw [hn] at z; cases z
    · dsimp only; rw [if_pos z]
theorem lkOn_ask {rc : Int} {vals : Bool} {n : Nat} {s : LSt} (h : allE (frontE m s.2.1) = false) (h2 : nextE (frontE m s.2.1) = some x) (h3 : ¬ (al : Int) ≤ s.2.2.1) : lkOn m al N own sd tm p t rc tgt vals (n + 1) s = lkOn m al N own sd tm p t rc tgt vals n (askN N own sd tm p t rc tgt vals s x) := by
  show (if allE (frontE m s.2.1) = true then _ else match nextE (frontE m s.2.1) with | none => (false, s) | some x => if (al : Int) ≤ s.2.2.1 then (false, s) else lkOn m al N own sd tm p t rc tgt vals n (askN N own sd tm p t rc tgt vals s x)) = _
  rw [if_neg (by rw [h]; decide), h2]
  dsimp only
  rw [if_neg h3]
theorem v_lookOn {rc : Int} (hB : bdg N ev oth) (hp : p < N) (ht : t < 44) (hrc : rc = -1 ∨ (0 ≤ rc ∧ rc < 256)) (hal : al ≤ 8) : ∀ (k : Nat) (V : VV) (s : LSt) (fu : Nat), nE s.2.1 ≤ k → k < fu → VS V m al N own sd ps sn pu rf tm oth Z ev lk tn t s → vI V 228 t = (p : Int) → vI V 229 t = rc →
    ∃ V' Ls, lpN (fun U : VV => b_X16_lookOn_0 (t : Int) U) fu V = some (b2i (lkOn m al N own sd tm p t rc (lk t).1 (lk t).2.1 (k + 1) s).1, V') ∧ VS V' m al N own sd ps sn pu rf tm oth Z ev lk tn t (lkOn m al N own sd tm p t rc (lk t).1 (lk t).2.1 (k + 1) s).2 ∧ (vI V' 156 106 = ((Ls.length : Nat) : Int) ∧ ArrN V' 240 Ls ∧ (∀ r, r ∈ Ls → ∃ i, i < (lkOn m al N own sd tm p t rc (lk t).1 (lk t).2.1 (k + 1) s).2.2.1.length ∧ r = 65 * t + i) ∧ Ls.map (gE V') = frontE m (lkOn m al N own sd tm p t rc (lk t).1 (lk t).2.1 (k + 1) s).2.2.1) ∧ FrS PK V V' ∧ SK V V' := by
  intro k
  induction k with
  | zero =>
    intro V s fu hk hf h h228 h229
    obtain ⟨V1, Ls, ⟨a1, a2, a3⟩, a4⟩ := v_lookStep hB hp ht hrc hal h h228 h229
    cases all : allE (frontE m s.2.1) with
    | true =>
      rw [if_pos all] at a4
      rw [lkOn_all all]
      exact ⟨V1, Ls, lpN_end (b := fun U : VV => b_X16_lookOn_0 (t : Int) U) (by omega) a4, a1, a2, a3⟩
    | false =>
      rw [if_neg (by rw [all]; decide)] at a4
      cases hn : nextE (frontE m s.2.1) with
      | none =>
        rw [hn] at a4
        rw [lkOn_none all (Or.inl hn)]
        exact ⟨V1, Ls, lpN_end (b := fun U : VV => b_X16_lookOn_0 (t : Int) U) (by omega) a4, a1, a2, a3⟩
      | some x =>
        exfalso
        have hx := next_mem hn
        have : 0 < nE s.2.1 := by
          unfold nE
          exact List.length_pos_of_mem (List.mem_filter.mpr ⟨front_mem hx.1, by simpa using hx.2⟩)
        omega
  | succ k ih =>
    intro V s fu hk hf h h228 h229
    obtain ⟨f, rfl⟩ : ∃ f, fu = f + 1 := ⟨fu - 1, by omega⟩
    obtain ⟨V1, Ls, ⟨a1, a2, a3⟩, a4⟩ := v_lookStep hB hp ht hrc hal h h228 h229
    cases all : allE (frontE m s.2.1) with
    | true =>
      rw [if_pos all] at a4
      rw [lkOn_all all]
      exact ⟨V1, Ls, lpN_end (b := fun U : VV => b_X16_lookOn_0 (t : Int) U) (by omega) a4, a1, a2, a3⟩
    | false =>
      rw [if_neg (by rw [all]; decide)] at a4
      cases hn : nextE (frontE m s.2.1) with
      | none =>
        rw [hn] at a4
        rw [lkOn_none all (Or.inl hn)]
        exact ⟨V1, Ls, lpN_end (b := fun U : VV => b_X16_lookOn_0 (t : Int) U) (by omega) a4, a1, a2, a3⟩
      | some x =>
        rw [hn] at a4
        dsimp only at a4
        by_cases ca : (al : Int) ≤ s.2.2.1
        · rw [if_pos ca] at a4
          rw [lkOn_none all (Or.inr ca)]
          exact ⟨V1, Ls, lpN_end (b := fun U : VV => b_X16_lookOn_0 (t : Int) U) (by omega) a4, a1, a2, a3⟩
        · rw [if_neg ca] at a4
          obtain ⟨V2, c1, c2, c3, c4⟩ := a4
          rw [lkOn_ask all hn ca, lpN_cnt (b := fun U : VV => b_X16_lookOn_0 (t : Int) U) (s := V) c1]
          have hx := next_mem hn
          have hkt := h.2.2.2.1 t ht
          rw [fup_eq] at hkt
          have dec : nE (askN N own sd tm p t rc (lk t).1 (lk t).2.1 s x).2.1 + 1 = nE s.2.1 := nE_st hkt.1.2.2.1 (front_mem hx.1) hx.2 (by split <;> decide)
          have nPK : ∀ a, (a = 228 ∨ a = 229) → ¬ PK a t := fun a ha => by
            unfold PK PG PO PB
            have m6 : mv a t = 6 := by rcases ha with z | z <;> rw [z] <;> rfl
            omega
          obtain ⟨V', Ls', d1, d2, d3, d4, d5⟩ := ih V2 (askN N own sd tm p t rc (lk t).1 (lk t).2.1 s x) f (by omega) (by omega) c2 (by rw [c3.vI (nPK 228 (Or.inl rfl))]; exact h228) (by rw [c3.vI (nPK 229 (Or.inr rfl))]; exact h229)
          exact ⟨V', Ls', d1, d2, d3, c3.trans d4, c4.trans d5⟩
end VLOOK
