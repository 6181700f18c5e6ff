/-- what is answered, and sent -/
def ansZ (m N : Nat) (own : Nat → Ky) (sd : Nat → Int) (tm : Int) (w : Wd) (p : Nat) (ad : Int) (wo : Ky) (l : List Int) : Wd :=
  if (ansW tm w p l).2 = true then sendY N sd tm (ansW tm w p l).1 p ad (ansB m (wst w 9).toNat (own p) (some wo) (wT w p) (wS w p) l) else (ansW tm w p l).1
theorem ansB_7 {m h9 : Nat} {own : Ky} {wo : Option Ky} {T : List Row} {S : List Post} {l : List Int} (h : l.getD 0 0 = 7) : ansB m h9 own wo T S l = hdB (l.getD 0 0 + 1) (wdL l) (kf own) ++ [] := by
  unfold ansB
  rw [if_neg (by omega), if_neg (by omega), if_neg (by omega), if_neg (by omega), if_neg (by omega)]
section VANS3
variable {V W : VV} {m al N p i h9 : Nat} {own : Nat → Ky} {sd ps sn pu rf : Nat → Int} {tm ad : Int} {w : Wd} {L Z : Nat} {l ol : List Int} {wo : Ky}
theorem okP_tl {S : List Post} (h : okSt S) {ps : List Post} (hp : ∀ x, x ∈ ps → x ∈ S) : okTl (ps.map itm) := fun z hz => by
  obtain ⟨x, hx, e⟩ := List.mem_map.mp hz
  have := h.2.2 x (hp x hx)
  obtain ⟨_, a1, a2, a3, _⟩ := this
  rw [← e]
  show (0 ≤ x.2.1 ∧ x.2.1 < 256) ∧ (0 ≤ x.2.2.1 ∧ x.2.2.1 < 256) ∧ (0 ≤ x.2.2.2.1 ∧ x.2.2.2.1 < 256)
  omega
theorem page_ok {S : List Post} (h : okSt S) {key : Ky} {hs skip : Nat} {bs : List Int} : okTl (pageS skip (mtcS hs bs (choS key S))) ∧ (pageS skip (mtcS hs bs (choS key S))).length ≤ 30 := by
  refine ⟨?_, by unfold pageS; rw [List.length_map, List.length_take]; omega⟩
  unfold pageS
  refine okP_tl h (fun x hx => ?_)
  have h1 := List.mem_of_mem_drop (List.mem_of_mem_take hx)
  unfold mtcS choS at h1
  exact (List.mem_filter.mp (List.mem_filter.mp h1).1).1
theorem chk_ok {S : List Post} (h : okSt S) {key : Ky} {cl : List (Int × Int)} : okTl (chkS key cl S) := fun z hz => by
  unfold chkS at hz
  obtain ⟨c, _, e⟩ := List.mem_filterMap.mp hz
  obtain ⟨x, hx, e2⟩ := Option.map_eq_some_iff.mp e
  have := h.2.2 x (List.mem_of_find?_eq_some hx)
  obtain ⟨_, a1, a2, a3, _⟩ := this
  rw [← e2]
  show (0 ≤ x.2.1 ∧ x.2.1 < 256) ∧ (0 ≤ x.2.2.1 ∧ x.2.2.1 < 256) ∧ (0 ≤ x.2.2.2.1 ∧ x.2.2.2.1 < 256)
  omega
theorem va_128 (h : VP V m al N own sd ps sn pu rf tm w L Z) (ho : okW N own tm w) (hp : p < N) (hI : InV V l) (hb : isBL l) (hwl : wellL l = true) (hty : l.getD 0 0 % 2 = 1 ∧ l.getD 0 0 ≠ 15) (ha : 0 ≤ ad ∧ ad < 32) (hL : L + 2 < 2000000000) (h3 : 1 < l.getD 0 0 → gk V 273 0 = kyP l 25) (h2 : gk V 272 0 = wo) :
    ∃ V' L', j_X16_answer_128 (p : Int) ad (l.getD 0 0) V = some V' ∧ VP V' m al N own sd ps sn pu rf tm (sendY N sd tm w p ad (ansB m (wst w 9).toNat (own p) (some wo) (wT w p) (wS w p) l)) L' Z ∧ L ≤ L' ∧ L' ≤ L + 2 ∧ FrV (fun z => z == 1 || z == 5 || z == 9) V V' := by
  have h0 := h
  obtain ⟨v1, v2, v3, v4, v5, v6, v7, v8⟩ := h
  have hN := v2.2.1
  have p32 : p < 32 := by omega
  have len25 := wl_len hwl
  have ty15 := wl_ty hwl
  have h460 := hI.2.1
  have num : f_X16_numberIn V = some (wdL l) := by
    rw [e_numberIn (fun i hi => by rw [(InV_get hI hb (by omega)).1]; exact (InV_get hI hb (by omega)).2)]
    unfold wdL wd4 bV
    rw [(InV_get hI hb (i := 1 + 0) (by omega)).1, (InV_get hI hb (i := 1 + 1) (by omega)).1, (InV_get hI hb (i := 1 + 2) (by omega)).1, (InV_get hI hb (i := 1 + 3) (by omega)).1]
  obtain ⟨V1, a1, a2, a3, a4⟩ := v_head (V := V) (f := p) (ty := l.getD 0 0 + 1) (num := wdL l) p32
  have f1 := head_fr a1
  have hown : gk V 165 (5 * p) = own p := (v2.2.2.1 p p32).1
  obtain ⟨ol, hol⟩ : ∃ ol, ol = hdB (l.getD 0 0 + 1) (wdL l) (kf (own p)) := ⟨_, rfl⟩
  have oll : ol.length = 25 := by rw [hol, hdB_len]
  have a2 : OutV V1 ol := by
    rw [hol, ← hown]
    have : hdB (l.getD 0 0 + 1) (wdL l) (kf (gk V 165 (5 * p))) = hdB (l.getD 0 0 + 1) (wdL l) (kV V 165 (5 * p)) := by
      unfold hdB
      rw [kby_ky (kV V 165 (5 * p))]
      rfl
    rw [this]; exact a2
  -- the end
  have fin : ∀ (U : VV) (bd : List Int), FrV m9 V U → OutV U (ol ++ bd) → ∃ V' L', j_X16_answer_398 (p : Int) ad U = some V' ∧ VP V' m al N own sd ps sn pu rf tm (sendY N sd tm w p ad (ol ++ bd)) L' Z ∧ L ≤ L' ∧ L' ≤ L + 2 ∧ FrV (fun z => z == 1 || z == 5 || z == 9) V V' := by
    intro U bd fU oU
    obtain ⟨V', L', e1, e2, e3, e4, e5, e6⟩ := vp_send (vp_fr fU (by decide) h0) ho hp ha oU hL
    refine ⟨V', L', ?_, e2, e3, e4, fun a i hz => ?_⟩
    · unfold j_X16_answer_398
      rw [e1, Option.bind_some]
    · rw [e5 a i (fun z => by rw [z] at hz; exact absurd hz (by decide)) (fun z => by rw [z, show mv 172 i = 5 from rfl] at hz; exact absurd hz (by decide))]
      refine fU a i ?_
      unfold m9
      by_cases c : mv a i = 9
      · rw [c] at hz; exact absurd hz (by decide)
      · simpa using c
  have F1 : FrV m9 V V1 := m9_of f1 PO_9
  have I1 : InV V1 l := ⟨by rw [f1.vI (by unfold PO; omega)]; exact hI.1, hI.2.1, fun i hi => by rw [f1.vI (by unfold PO; omega)]; exact hI.2.2 i hi⟩
  have T1 : TabV V1 p (own p) (wT w p) Z := tab_m9 F1 (v3.2 p p32)
  have S1 : StV V1 p (wS w p) := st_m9 F1 (v4 p p32)
  have k1 : vI V1 156 0 = (m : Int) := by rw [f1.vI (by unfold PO; omega)]; exact v6
  have g272 : gk V1 272 0 = wo := by rw [← h2]; exact gk_ext (fun i _ => f1.vI (by unfold PO; omega))
  have g273 : 1 < l.getD 0 0 → gk V1 273 0 = kyP l 25 := fun z => by rw [← h3 z]; exact gk_ext (fun i _ => f1.vI (by unfold PO; omega))
  have hta := (ho.2.2.2 p hp).2.2.1
  have st9 := ho.1.2.2.2.2.2.2.2.2.2.1
  have s9 : vI V1 162 9 = (((wst w 9).toNat : Nat) : Int) := by
    rw [f1.vI (by unfold PO; omega), v1.1 9 (by decide)]; omega
  have start : ∀ R, (if w32 (l.getD 0 0) = w32 3 then (f_X16_tellNodes (p : Int) V1).bind fun V13 => j_X16_answer_398 (p : Int) ad V13 else if w32 (l.getD 0 0) = w32 5 then (f_X16_choose (p : Int) 273 0 V1).bind fun V10 => (f_X16_pairOut (w32 (V10 156 72)) V10).bind fun V11 => (f_X16_tellNodes (p : Int) V11).bind fun V12 => j_X16_answer_398 (p : Int) ad V12 else if w32 (l.getD 0 0) = w32 9 then (f_X16_choose (p : Int) 273 0 V1).bind fun V5 => (f_X16_makeFilter V5).bind fun V6 => (f_X16_pairOut (w32 (V6 156 72)) V6).bind fun V7 => (f_X16_byteOut (w32 (V7 156 79)) V7).bind fun V8 => (f_X16_pairOut (w32 (V8 156 78)) V8).bind fun V9 => l_X16_answer_231 (p : Int) ad 0 V9 else if w32 (l.getD 0 0) = w32 11 then (f_X16_takeFilter 47 V1).bind fun V3 => (f_X16_pairAt 45 V3).bind fun v3 => (f_X16_findMatches (p : Int) 273 0 v3 V3).bind fun V4 => if w32 (w32 (V4 156 84)) = 0 then j_X16_answer_301 (p : Int) ad 0 V4 else j_X16_answer_301 (p : Int) ad 1 V4 else if w32 (l.getD 0 0) = w32 13 then (l2 271 460 45 V1).bind fun v2 => (p2 88 v2 V1).bind fun V2 => l_X16_answer_331 (p : Int) ad 0 V2 else j_X16_answer_398 (p : Int) ad V1) = R → j_X16_answer_128 (p : Int) ad (l.getD 0 0) V = R := fun R hR => by
    unfold j_X16_answer_128
    rw [num, Option.bind_some, a1, Option.bind_some]
    exact hR
  have t7 : l.getD 0 0 = 1 ∨ l.getD 0 0 = 3 ∨ l.getD 0 0 = 5 ∨ l.getD 0 0 = 7 ∨ l.getD 0 0 = 9 ∨ l.getD 0 0 = 11 ∨ l.getD 0 0 = 13 := by omega
  have fin2 : ∀ (U : VV) (bd : List Int), ansB m (wst w 9).toNat (own p) (some wo) (wT w p) (wS w p) l = ol ++ bd → FrV m9 V U → OutV U (ol ++ bd) → (∀ R, j_X16_answer_398 (p : Int) ad U = R → j_X16_answer_128 (p : Int) ad (l.getD 0 0) V = R) → ∃ V' L', j_X16_answer_128 (p : Int) ad (l.getD 0 0) V = some V' ∧ VP V' m al N own sd ps sn pu rf tm (sendY N sd tm w p ad (ansB m (wst w 9).toNat (own p) (some wo) (wT w p) (wS w p) l)) L' Z ∧ L ≤ L' ∧ L' ≤ L + 2 ∧ FrV (fun z => z == 1 || z == 5 || z == 9) V V' := by
    intro U bd hA fU oU hR
    obtain ⟨V', L', e1, e2, e3, e4, e5⟩ := fin U bd fU oU
    rw [hA]
    exact ⟨V', L', hR _ e1, e2, e3, e4, e5⟩
  rcases t7 with ht | ht | ht | ht | ht | ht | ht
  · refine fin2 V1 [] ?_ F1 (by rw [List.append_nil]; exact a2) (fun R hR => start R ?_)
    · unfold ansB
      rw [if_neg (by omega), if_neg (by omega), if_neg (by omega), if_neg (by omega), if_neg (by omega), hol]
    · rw [ht, if_neg (by decide), if_neg (by decide), if_neg (by decide), if_neg (by decide), if_neg (by decide)]
      exact hR
  · have l45 := wl_45 hwl (Or.inl ht)
    obtain ⟨U, e1, e2, e3⟩ := va_nodes T1 p32 k1 v8 I1 hb (by omega) a2 (by omega) hta
    rw [g272] at e2
    refine fin2 U _ ?_ (F1.trans e3) e2 (fun R hR => start R ?_)
    · unfold ansB
      rw [if_pos ht, hol]
    · rw [ht, if_pos rfl, e1, Option.bind_some]
      exact hR
  · have l45 := wl_45 hwl (Or.inr (Or.inl ht))
    obtain ⟨U, Ls, e1, e2, e3, e4, e5, e6, e7, e8, e9⟩ := va_choose S1 p32
    rw [g273 (by omega)] at e2 e6
    have oU : OutV U ol := OutV_frs (P := fun a i => a = 216 ∨ (a = 156 ∧ i = 72)) a2 (fun a i z => e9 a i (fun y => z (Or.inl y)) (fun y => z (Or.inr y))) (by omega) (by omega)
    obtain ⟨U2, c1, c2, c3, c4⟩ := v_pairOut (x := (((choS (kyP l 25) (wS w p)).length : Nat) : Int)) oU (by omega)
    have f2 := pairOut_fr c1
    have F2 : FrV m9 V1 U2 := e8.trans (m9_of f2 PO_9)
    obtain ⟨U3, d1, d2, d3⟩ := va_nodes (tab_m9 F2 T1) p32 (by rw [fv F2 (show m9 (mv 156 0) = false from rfl)]; exact k1) v8 (show InV U2 l from ⟨by rw [f2.vI (by unfold PO; omega)]; show w32 _ = _; rw [e9 156 138 (by decide) (by decide)]; exact I1.1, h460, fun i hi => by rw [f2.vI (by unfold PO; omega)]; show w32 _ = _; rw [e9 271 i (by decide) (by omega)]; exact I1.2.2 i hi⟩) hb (by omega) c2 (by rw [List.length_append, be_len]; omega) hta
    have w272 : gk U2 272 0 = wo := by
      rw [← g272]
      exact gk_ext (fun i _ => by rw [f2.vI (by unfold PO; omega)]; show w32 _ = w32 _; rw [e9 272 _ (by decide) (by omega)])
    rw [w272, List.append_assoc] at d2
    refine fin2 U3 _ ?_ ((F1.trans F2).trans d3) d2 (fun R hR => start R ?_)
    · unfold ansB
      rw [if_neg (by omega), if_pos ht, hol]
    · rw [ht, if_neg (by decide), if_pos rfl, e1, Option.bind_some, e2, c1, Option.bind_some, d1, Option.bind_some]
      exact hR
  · refine fin2 V1 [] ?_ F1 (by rw [List.append_nil]; exact a2) (fun R hR => start R ?_)
    · rw [ansB_7 ht, hol]
    · rw [ht, if_neg (by decide), if_neg (by decide), if_neg (by decide), if_neg (by decide), if_neg (by decide)]
      exact hR
  · have l45 := wl_45 hwl (Or.inr (Or.inr ht))
    obtain ⟨U, Ls, e1, e2, e3, e4, e5, e6, e7, e8, e9⟩ := va_choose S1 p32
    rw [g273 (by omega)] at e2 e6
    have oU : OutV U ol := OutV_frs (P := fun a i => a = 216 ∨ (a = 156 ∧ i = 72)) a2 (fun a i z => e9 a i (fun y => z (Or.inl y)) (fun y => z (Or.inr y))) (by omega) (by omega)
    have s9U : vI U 162 9 = (((wst w 9).toNat : Nat) : Int) := by show w32 _ = _; rw [e9 162 9 (by decide) (by decide)]; exact s9
    obtain ⟨U2, c1, c2, c3⟩ := v_makeFilter (h := (wst w 9).toNat) e3 e4 e7 e5 e6 s9U (by omega)
    have o2 : OutV U2 ol := OutV_frs oU c3 (by unfold PFl; omega) (by unfold PFl; omega)
    have h72 : w32 (U2 156 72) = (((choS (kyP l 25) (wS w p)).length : Nat) : Int) := by rw [c3 156 72 (by unfold PFl; omega)]; exact e2
    have lS := S1.2.1.1
    have lc : (choS (kyP l 25) (wS w p)).length ≤ 200 := Nat.le_trans (List.length_filter_le _ _) lS
    obtain ⟨U3, d1, d2, d3, d4⟩ := v_pairOut (x := (((choS (kyP l 25) (wS w p)).length : Nat) : Int)) o2 (by omega)
    have f3 := pairOut_fr d1
    have fl3 := FltV_fr c2 f3 (by unfold PO; omega) (by unfold PO; omega) (fun i => by unfold PO; omega)
    have h79 : w32 (U3 156 79) = (((wst w 9).toNat : Nat) : Int) := fl3.1
    obtain ⟨U4, g1, g2, g3, g4⟩ := v_byteOut (x := (((wst w 9).toNat : Nat) : Int)) (y := (((wst w 9).toNat : Nat) : Int)) d2 (by rw [List.length_append, be_len]; omega) (bd255 (by omega)) (by omega)
    have f4 := byteOut_fr g1
    have fl4 := FltV_fr fl3 f4 (by unfold PO; omega) (by unfold PO; omega) (fun i => by unfold PO; omega)
    have h78 : w32 (U4 156 78) = (((mkF (wst w 9).toNat (choS (kyP l 25) (wS w p))).length : Nat) : Int) := fl4.2.1
    obtain ⟨U5, k1', k2, k3, k4⟩ := v_pairOut (x := (((mkF (wst w 9).toNat (choS (kyP l 25) (wS w p))).length : Nat) : Int)) g2 (by simp only [List.length_append, be_len, List.length_singleton]; omega)
    have f5 := pairOut_fr k1'
    have fl5 := FltV_fr fl4 f5 (by unfold PO; omega) (by unfold PO; omega) (fun i => by unfold PO; omega)
    have lmk := fl5.2.2.1.1
    obtain ⟨U6, y1, y2, y3⟩ := va_bytes fl5 k2 (by simp only [List.length_append, be_len, List.length_singleton]; omega) p ad
    refine fin2 U6 (be (((choS (kyP l 25) (wS w p)).length : Nat) : Int) 2 ++ ((((wst w 9).toNat : Nat) : Int) :: be (((mkF (wst w 9).toNat (choS (kyP l 25) (wS w p))).length : Nat) : Int) 2) ++ mkF (wst w 9).toNat (choS (kyP l 25) (wS w p))) ?_ ?_ ?_ (fun R hR => start R ?_)
    · unfold ansB
      rw [if_neg (by omega), if_neg (by omega), if_pos ht, hol]
    · exact F1.trans (e8.trans ((m9_of c3 PFl_9).trans ((m9_of f3 PO_9).trans ((m9_of f4 PO_9).trans ((m9_of f5 PO_9).trans (m9_of y3 PO_9))))))
    · have e : ol ++ (be (((choS (kyP l 25) (wS w p)).length : Nat) : Int) 2 ++ ((((wst w 9).toNat : Nat) : Int) :: be (((mkF (wst w 9).toNat (choS (kyP l 25) (wS w p))).length : Nat) : Int) 2) ++ mkF (wst w 9).toNat (choS (kyP l 25) (wS w p))) = ol ++ be (((choS (kyP l 25) (wS w p)).length : Nat) : Int) 2 ++ [(((wst w 9).toNat : Nat) : Int)] ++ be (((mkF (wst w 9).toNat (choS (kyP l 25) (wS w p))).length : Nat) : Int) 2 ++ mkF (wst w 9).toNat (choS (kyP l 25) (wS w p)) := by simp
      rw [e]; exact y2
    · rw [ht, if_neg (by decide), if_neg (by decide), if_pos rfl, e1, Option.bind_some, c1, Option.bind_some, h72, d1, Option.bind_some, h79, g1, Option.bind_some, h78, k1', Option.bind_some, y1]
      exact hR
  · obtain ⟨n, w1, w2, w3, w4, w5⟩ := wl_11 hb hwl ht
    obtain ⟨U, e1, e2, e3⟩ := v_takeFilter (p := 47) I1 hb w1 w2 (by omega)
    have oU : OutV U ol := OutV_frs a2 e3 (by omega) (by omega)
    have SU : StV U p (wS w p) := st_m9 (m9_of e3 (fun a i z => by rcases z with z | z; rw [z]; rfl; rw [z.1]; rcases z.2 with y | y <;> rw [y] <;> rfl)) S1
    have FU1 : FrV m9 V1 U := m9_of e3 (fun a i z => by rcases z with z | z; rw [z]; rfl; rw [z.1]; rcases z.2 with y | y <;> rw [y] <;> rfl)
    have iU : ∀ i, i < l.length → vI U 271 i = l.getD i 0 := fun i hi => by rw [e3.vI (by omega)]; exact (InV_get I1 hb hi).1
    have b45 := (InV_get I1 hb (i := 45) (by omega)).2
    have b46 := (InV_get I1 hb (i := 46) (by omega)).2
    have pa : f_X16_pairAt 45 U = some (((l.getD 45 0 * 256 + l.getD 46 0).toNat : Nat) : Int) := by
      rw [e_pairAt (p := 45) (by rfl) (by decide) (by rw [iU 45 (by omega)]; exact b45) (by rw [iU 46 (by omega)]; exact b46), iU 45 (by omega), iU 46 (by omega)]
      have e : l.getD 45 0 * 256 + l.getD 46 0 = (((l.getD 45 0 * 256 + l.getD 46 0).toNat : Nat) : Int) := by omega
      rw [← e]
    have k273 : gk U 273 0 = kyP l 25 := by rw [← g273 (by omega)]; exact gk_ext (fun i _ => e3.vI (by omega))
    obtain ⟨U2, c1, c2, c3, c4⟩ := v_findMatches (e := 273) (q := 0) (n := 5) (skip := (l.getD 45 0 * 256 + l.getD 46 0).toNat) SU p32 m273 (by decide) (by decide) (by decide) e2 (by omega) (by omega)
    rw [k273] at c2 c3
    have o2 : OutV U2 ol := OutV_frs oU c4 (by unfold PM; omega) (by unfold PM; omega)
    obtain ⟨more, hmore⟩ : ∃ more, more = moreS (l.getD 45 0 * 256 + l.getD 46 0).toNat (mtcS (l.getD 47 0).toNat (rdF l 47) (choS (kyP l 25) (wS w p))) := ⟨_, rfl⟩
    obtain ⟨pg, hpg⟩ : ∃ pg, pg = pageS (l.getD 45 0 * 256 + l.getD 46 0).toNat (mtcS (l.getD 47 0).toNat (rdF l 47) (choS (kyP l 25) (wS w p))) := ⟨_, rfl⟩
    have pok := page_ok S1.2.1 (key := kyP l 25) (hs := (l.getD 47 0).toNat) (skip := (l.getD 45 0 * 256 + l.getD 46 0).toNat) (bs := rdF l 47)
    rw [← hpg] at c2 pok
    rw [← hmore] at c3
    obtain ⟨U3, d1, d2, d3, d4⟩ := v_byteOut (x := b2i more) (y := b2i more) o2 (by omega) (bd255 (by cases more <;> decide)) (by cases more <;> decide)
    have f3 := byteOut_fr d1
    have t3 := TellV_fr c2 f3 (by unfold PO; omega) (fun i => by unfold PO; omega) (fun i => by unfold PO; omega) (fun i => by unfold PO; omega)
    obtain ⟨U4, g1, g2, g3⟩ := v_tellPostings d2 t3 (by simp only [List.length_append, List.length_singleton]; omega) pok.1
    refine fin2 U4 (b2i more :: ((pg.length : Nat) : Int) :: pg.flatMap be3) ?_ ?_ ?_ (fun R hR => start R ?_)
    · unfold ansB
      rw [if_neg (by omega), if_neg (by omega), if_neg (by omega), if_pos ht, hol, ← hmore, ← hpg]
    · exact F1.trans (FU1.trans ((m9_of c4 PM_9).trans ((m9_of f3 PO_9).trans (m9_of g3 PO_9))))
    · have e : ol ++ (b2i more :: ((pg.length : Nat) : Int) :: pg.flatMap be3) = ol ++ [b2i more] ++ (((pg.length : Nat) : Int) :: pg.flatMap be3) := by simp
      rw [e]; exact g2
    · have h84 : w32 (U2 156 84) = b2i more := c3
      have r0 : j_X16_answer_301 (p : Int) ad (b2i more) U2 = R := by
        unfold j_X16_answer_301
        rw [d1, Option.bind_some, g1, Option.bind_some]
        exact hR
      rw [ht, if_neg (by decide), if_neg (by decide), if_neg (by decide), if_pos rfl, show f_X16_takeFilter 47 V1 = some U from e1, Option.bind_some, pa, Option.bind_some, show f_X16_findMatches (p : Int) 273 0 _ U = some U2 from c1, Option.bind_some, h84, w32_b2i]
      cases more with
      | false => rw [if_pos (show b2i false = 0 from rfl)]; exact r0
      | true => rw [if_neg (show ¬ b2i true = 0 by decide)]; exact r0
  · obtain ⟨n, w1, w2, w3, w4⟩ := wl_13 hb hwl ht
    have en : (l.getD 45 0).toNat = n := by omega
    have r45 : vI V1 271 45 = (n : Int) := by rw [(InV_get I1 hb (by omega)).1, w1]
    obtain ⟨U0, hU0⟩ : ∃ U0, U0 = st2 V1 156 88 (n : Int) := ⟨_, rfl⟩
    have f0 : FrS (fun a i => a = 156 ∧ i = 88) V1 U0 := by rw [hU0]; exact FrS_st (P := fun a i => a = 156 ∧ i = 88) ⟨rfl, rfl⟩
    have I0 : InV U0 l := ⟨by rw [f0.vI (by omega)]; exact I1.1, h460, fun i hi => by rw [f0.vI (by omega)]; exact I1.2.2 i hi⟩
    obtain ⟨U, e1, e2, e3⟩ := va_checks I0 hb w1 w2.2 (by omega) (by rw [hU0, vI_st2, if_pos ⟨rfl, rfl⟩, w32_nn (by omega)]) p ad
    have FU1 : FrV m9 V1 U := (m9_of f0 (fun a i z => by rw [z.1, z.2]; rfl)).trans (m9_of e3 (fun a i z => by rcases z with z | z <;> rw [z] <;> rfl))
    have SU := st_m9 FU1 S1
    have k273 : gk U 273 0 = kyP l 25 := by rw [← g273 (by omega)]; exact gk_ext (fun i _ => by rw [e3.vI (by omega), f0.vI (by omega)])
    have oU : OutV U ol := OutV_frs (OutV_frs a2 f0 (by omega) (by omega)) e3 (by omega) (by omega)
    obtain ⟨U2, c1, c2, c3⟩ := v_findChecked (e := 273) (q := 0) (n := 5) SU p32 m273 (by decide) (by decide) (fun i => by unfold PT; omega) e2
    rw [k273] at c2
    have o2 : OutV U2 ol := OutV_frs oU c3 (by unfold PT; omega) (by unfold PT; omega)
    have cl := chk_len (key := kyP l 25) (S := wS w p) (cl := rdC l 46 n)
    rw [rdC_len] at cl
    obtain ⟨U3, g1, g2, g3⟩ := v_tellPostings o2 c2 (by omega) (chk_ok S1.2.1)
    refine fin2 U3 _ ?_ (F1.trans (FU1.trans ((m9_of c3 PT_9).trans (m9_of g3 PO_9)))) g2 (fun R hR => start R ?_)
    · unfold ansB
      rw [if_neg (by omega), if_neg (by omega), if_neg (by omega), if_neg (by omega), if_pos ht, hol, en]
    · rw [ht, if_neg (by decide), if_neg (by decide), if_neg (by decide), if_neg (by decide), if_pos rfl, l2_e (j := 45) (by decide) (by decide), r45, Option.bind_some, p2_e, Option.bind_some, ← hU0, e1]
      unfold j_X16_answer_384
      rw [show f_X16_findChecked (p : Int) 273 0 U = some U2 from c1, Option.bind_some, g1, Option.bind_some]
      exact hR
/-- the answer to a request -/
theorem vp_answer (h : VP V m al N own sd ps sn pu rf tm w L Z) (ho : okW N own tm w) (ho2 : okW N own tm (ansW tm w p l).1) (hp : p < N) (hI : InV V l) (hb : isBL l) (hwl : wellL l = true) (hty : l.getD 0 0 % 2 = 1 ∧ l.getD 0 0 ≠ 15) (ha : 0 ≤ ad ∧ ad < 32) (hL : L + 2 < 2000000000) (h2 : gk V 272 0 = wo) :
    ∃ V' L', f_X16_answer (p : Int) ad V = some V' ∧ VP V' m al N own sd ps sn pu rf tm (ansZ m N own sd tm w p ad wo l) L' Z ∧ L ≤ L' ∧ L' ≤ L + 2 ∧ FrV (fun z => z == 1 || z == 3 || z == 5 || z == 9) V V' := by
  have h0 := h
  have hN := h.2.1.2.1
  have len25 := wl_len hwl
  have ty15 := wl_ty hwl
  have h460 := hI.2.1
  have r0 : vI V 271 0 = l.getD 0 0 := (InV_get hI hb (by omega)).1
  have wt : w32 (l.getD 0 0) = l.getD 0 0 := w32_id (by omega) (by omega)
  -- the key that is asked for
  have hV1 : ∃ V1, (if w32 1 < w32 (l.getD 0 0) then (f_X16_keyAt 273 25 V).bind fun V1 => j_X16_answer_22 (p : Int) ad (l.getD 0 0) V1 else j_X16_answer_22 (p : Int) ad (l.getD 0 0) V) = j_X16_answer_22 (p : Int) ad (l.getD 0 0) V1 ∧ FrS (fun a _ => a = 273) V V1 ∧ (1 < l.getD 0 0 → gk V1 273 0 = kyP l 25) := by
    by_cases c : 1 < l.getD 0 0
    · have l45 : 45 ≤ l.length := by
        have t6 : l.getD 0 0 = 3 ∨ l.getD 0 0 = 5 ∨ l.getD 0 0 = 7 ∨ l.getD 0 0 = 9 ∨ l.getD 0 0 = 11 ∨ l.getD 0 0 = 13 := by omega
        rcases t6 with z | z | z | z | z | z
        · have := wl_45 hwl (Or.inl z); omega
        · have := wl_45 hwl (Or.inr (Or.inl z)); omega
        · obtain ⟨n, _, _, e, _⟩ := wl_7 hb hwl z; omega
        · have := wl_45 hwl (Or.inr (Or.inr z)); omega
        · obtain ⟨n, _, _, e, _⟩ := wl_11 hb hwl z; omega
        · obtain ⟨n, _, _, e, _⟩ := wl_13 hb hwl z; omega
      obtain ⟨V1, e1, e2, e3⟩ := v_keyIn (e := 273) (n := 5) (q := 25) hI hb m273 (by decide) (by decide) (by omega)
      refine ⟨V1, ?_, e3, fun _ => e2⟩
      rw [if_pos (by rw [wt, show w32 1 = 1 by decide]; exact c), show f_X16_keyAt 273 25 V = some V1 from e1, Option.bind_some]
    · exact ⟨V, by rw [if_neg (by rw [wt, show w32 1 = 1 by decide]; exact c)], FrS.refl, fun z => absurd z c⟩
  obtain ⟨V1, s1, s2, s3⟩ := hV1
  have F1 : FrV m9 V V1 := m9_of s2 (fun a i z => by rw [z]; rfl)
  have P1 := vp_fr F1 (by decide) h0
  have I1 : InV V1 l := ⟨by rw [s2.vI (by omega)]; exact hI.1, h460, fun i hi => by rw [s2.vI (by omega)]; exact hI.2.2 i hi⟩
  have g272 : gk V1 272 0 = wo := by rw [← h2]; exact gk_ext (fun i _ => s2.vI (by omega))
  unfold f_X16_answer
  rw [l2_e (j := 0) (by decide) (by decide), r0, Option.bind_some, s1]
  unfold j_X16_answer_22
  by_cases t7 : l.getD 0 0 = 7
  · obtain ⟨n, w1, w2, w3, w4⟩ := wl_7 hb hwl t7
    have en : (l.getD 45 0).toNat = n := by omega
    have r45 : vI V1 271 45 = (n : Int) := by rw [(InV_get I1 hb (by omega)).1, w1]
    rw [t7, if_pos rfl, l2_e (j := 45) (by decide) (by decide), r45, Option.bind_some, p2_e, Option.bind_some]
    obtain ⟨U0, hU0⟩ : ∃ U0, U0 = st2 V1 156 74 (n : Int) := ⟨_, rfl⟩
    rw [← hU0]
    have f0 : FrS (fun a i => a = 156 ∧ i = 74) V1 U0 := by rw [hU0]; exact FrS_st (P := fun a i => a = 156 ∧ i = 74) ⟨rfl, rfl⟩
    have I0 : InV U0 l := ⟨by rw [f0.vI (by omega)]; exact I1.1, h460, fun i hi => by rw [f0.vI (by omega)]; exact I1.2.2 i hi⟩
    obtain ⟨U, e1, e2, e3⟩ := va_stores I0 hb w2.2 (by omega) (by rw [hU0, vI_st2, if_pos ⟨rfl, rfl⟩, w32_nn (by omega)]) p ad 7
    have e39 : ∀ a i : Nat, (217 ≤ a ∧ a ≤ 219) → mv a i = 9 := fun a i z => by
      have : a = 217 ∨ a = 218 ∨ a = 219 := by omega
      rcases this with z | z | z <;> rw [z] <;> rfl
    have FU1 : FrV m9 V1 U := (m9_of f0 (fun a i z => by rw [z.1, z.2]; rfl)).trans (m9_of e3 e39)
    have PU := vp_fr FU1 (by decide) P1
    have k273 : gk U 273 0 = kyP l 25 := by rw [← s3 (by omega)]; exact gk_ext (fun i _ => by rw [e3.vI (by omega), f0.vI (by omega)])
    have k272 : gk U 272 0 = wo := by rw [← g272]; exact gk_ext (fun i _ => by rw [e3.vI (by omega), f0.vI (by omega)])
    have IU : InV U l := ⟨by rw [e3.vI (by omega)]; exact I0.1, h460, fun i hi => by rw [e3.vI (by omega)]; exact I0.2.2 i hi⟩
    obtain ⟨v1, v2, v3, v4, v5, v6, v7, v8⟩ := id PU
    have st7 := ho.1.2.2.2.2.2.2.2.1
    have htm := ho.2.1
    have key := v_keep (e := 273) (q := 0) (n := 5) (tm := tm) (s7 := wst w 7) v4 (show p < 32 by omega) m273 (by decide) (by decide) (fun i => rfl) e2 w4 v1.2.1 (v1.1 7 (by decide))
    rw [k273, w32_id (by omega) (by omega)] at key
    rw [e1]
    unfold j_X16_answer_114 ansZ
    cases hks : keepS (kyP l 25) (rdI l 46 n) (tm + wst w 7) (wS w p) with
    | none =>
      rw [hks] at key
      have eW : ansW tm w p l = (setL w (tlU (wtl w) (5 * p + 2)), false) := by unfold ansW; rw [if_pos t7, en, hks]
      rw [eW]
      dsimp only at key ⊢
      have e172 := v2.2.2.2 (5 * p + 2) (by omega)
      refine ⟨st2 U 172 (5 * p + 2) (vI U 172 (5 * p + 2) + 1), L, ?_, ?_, Nat.le_refl _, by omega, ?_⟩
      · rw [show f_X16_keep (p : Int) 273 0 U = _ from key, Option.bind_some, if_pos (show w32 0 = 0 by decide)]
      · rw [if_neg (by decide)]
        have f : FrV (fun z => z == 5) U (st2 U 172 (5 * p + 2) (vI U 172 (5 * p + 2) + 1)) := FrV_st rfl
        exact ⟨VNet_fr f (by decide) v1, PV_tl v2, tabs_frV f (by decide) v3, sts_frV f (by decide) v4, rqs_ag v5 (fun a i z => by rw [vI_st2, if_neg (by omega)]), by rw [vI_st2, if_neg (by omega)]; exact v6, by rw [vI_st2, if_neg (by omega)]; exact v7, v8⟩
      · exact ((F1.trans FU1).mono (fun z hz => by unfold m9 at hz; revert hz; simp only [Bool.or_eq_true, beq_iff_eq]; omega)).trans (FrV_st rfl)
    | some S' =>
      rw [hks] at key
      have eW : ansW tm w p l = (setS w (fup (wS w) p S'), true) := by unfold ansW; rw [if_pos t7, en, hks]
      rw [eW] at ho2 ⊢
      dsimp only at key ho2 ⊢
      obtain ⟨U2, k1, k2, k3⟩ := key
      have P2 : VP U2 m al N own sd ps sn pu rf tm (setS w (fup (wS w) p S')) L Z := ⟨VNet_fr k3 (by decide) v1, PV_frV k3 (by decide) v2, tabs_frV k3 (by decide) v3, k2, rqs_frV k3 ⟨by decide, by decide⟩ v5, by rw [fv k3 (show m3 (mv 156 0) = false from rfl)]; exact v6, by rw [fv k3 (show m3 (mv 156 1) = false from rfl)]; exact v7, v8⟩
      have I2 : InV U2 l := ⟨by rw [fv k3 (show m3 (mv 156 138) = false from rfl)]; exact IU.1, h460, fun i hi => by rw [fv k3 (show m3 (mv 271 i) = false from rfl)]; exact IU.2.2 i hi⟩
      obtain ⟨V', L', y1, y2, y3, y4, y5⟩ := va_128 (wo := wo) P2 ho2 hp I2 hb hwl hty ha hL (fun _ => by rw [← k273]; exact gk_ext (fun i _ => fv k3 rfl)) (by rw [← k272]; exact gk_ext (fun i _ => fv k3 rfl))
      refine ⟨V', L', ?_, ?_, y3, y4, ?_⟩
      · rw [show f_X16_keep (p : Int) 273 0 U = _ from k1, Option.bind_some, if_neg (show ¬ w32 1 = 0 by decide)]
        rw [t7] at y1
        exact y1
      · rw [if_pos rfl]
        rw [ansB_7 t7] at y2 ⊢
        exact y2
      · exact (((F1.trans FU1).mono (fun z hz => by unfold m9 at hz; revert hz; simp only [Bool.or_eq_true, beq_iff_eq]; omega)).trans (k3.mono (fun z hz => by unfold m3 at hz; revert hz; simp only [Bool.or_eq_true, beq_iff_eq]; omega))).trans (y5.mono (fun z hz => by revert hz; simp only [Bool.or_eq_true, beq_iff_eq]; omega))
  · have eW : ansW tm w p l = (w, true) := by unfold ansW; rw [if_neg t7]
    obtain ⟨V', L', y1, y2, y3, y4, y5⟩ := va_128 (wo := wo) P1 ho hp I1 hb hwl hty ha hL s3 g272
    refine ⟨V', L', ?_, ?_, y3, y4, ?_⟩
    · rw [if_neg (by rw [wt, show w32 7 = 7 by decide]; exact t7)]
      exact y1
    · unfold ansZ
      rw [eW, if_pos rfl]
      exact y2
    · exact (F1.mono (fun z hz => by unfold m9 at hz; revert hz; simp only [Bool.or_eq_true, beq_iff_eq]; omega)).trans (y5.mono (fun z hz => by revert hz; simp only [Bool.or_eq_true, beq_iff_eq]; omega))
end VANS3
