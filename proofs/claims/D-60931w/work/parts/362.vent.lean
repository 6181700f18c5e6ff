/-! what a lookup knows: key, address, state, count; the nearest first -/
abbrev Ent : Type := Ky × Int × Int × Int
def eKey (x : Ent) : Ky := x.1
def eAdr (x : Ent) : Int := x.2.1
def eSt (x : Ent) : Int := x.2.2.1
def eCnt (x : Ent) : Int := x.2.2.2
def gE (V : VV) (r : Nat) : Ent := (gk V 235 (5 * r), vI V 236 r, vI V 237 r, if 0 ≤ vI V 238 r then vI V 238 r else 0)
def okE (x : Ent) : Prop := kyo (eKey x) ∧ (0 ≤ eAdr x ∧ eAdr x < 32) ∧ (0 ≤ eSt x ∧ eSt x ≤ 3) ∧ (0 ≤ eCnt x ∧ eCnt x ≤ 65535)
def dE (tgt : Ky) (x : Ent) : Nat := kdi (eKey x) tgt
def okEs (tgt : Ky) (E : List Ent) : Prop := E.length ≤ 64 ∧ SrtM (dE tgt) E ∧ ∀ x, x ∈ E → okE x
def EnV (V : VV) (t : Nat) (tgt : Ky) (E : List Ent) : Prop := vI V 234 t = (E.length : Int) ∧ gk V 232 (5 * t) = tgt ∧ okEs tgt E ∧ (rws (fun i => gE V (65 * t + i)) E.length).Perm E
def EnsV (V : VV) (tg : Nat → Ky) (Es : Nat → List Ent) : Prop := ∀ t, t < 44 → EnV V t (tg t) (Es t)
def hasE (E : List Ent) (key : Ky) : Bool := E.any (fun x => decide (eKey x = key))
def addE (tgt : Ky) (E : List Ent) (x : Ent) : List Ent := if hasE E (eKey x) = true then E else (insM (dE tgt) x E).take 64
theorem m235 : mA 235 14300 := by refine ⟨?_, ?_, ?_, ?_, ?_⟩ <;> decide
theorem m232 : mA 232 220 := by refine ⟨?_, ?_, ?_, ?_, ?_⟩ <;> decide
theorem gE_ext {V W : VV} {r r' : Nat} (h0 : gk W 235 (5 * r') = gk V 235 (5 * r)) (h1 : vI W 236 r' = vI V 236 r) (h2 : vI W 237 r' = vI V 237 r) (h3 : vI W 238 r' = vI V 238 r) : gE W r' = gE V r := by
  unfold gE
  rw [h0, h1, h2, h3]
theorem dE_inj {tgt : Ky} {x y : Ent} (hx : okE x) (hy : okE y) (h : dE tgt x = dE tgt y) : eKey x = eKey y := kdi_inj hx.1 hy.1 h
theorem okEs_nodup {tgt : Ky} {E : List Ent} (h : okEs tgt E) : (E.map eKey).Nodup := by
  rw [List.Nodup, List.pairwise_map]
  refine List.Pairwise.imp_of_mem (fun {a b} ha hb hab z => ?_) h.2.1
  unfold dE at hab
  rw [z] at hab
  exact Nat.lt_irrefl _ hab
theorem hasE_iff {E : List Ent} {key : Ky} : hasE E key = true ↔ ∃ x, x ∈ E ∧ eKey x = key := by simp [hasE]
theorem hasE_no {E : List Ent} {key : Ky} : hasE E key = false ↔ ∀ x, x ∈ E → eKey x ≠ key := by
  rw [← Bool.not_eq_true, hasE_iff]
  constructor
  · intro h y hy q; exact h ⟨y, hy, q⟩
  · rintro h ⟨y, hy, q⟩; exact h y hy q
theorem okEs_add {tgt : Ky} {E : List Ent} {x : Ent} (h : okEs tgt E) (hx : okE x) : okEs tgt (addE tgt E x) := by
  unfold addE
  split
  · exact h
  · next c =>
    have hn := hasE_no.mp (by simpa using c)
    have hs : SrtM (dE tgt) (insM (dE tgt) x E) := insM_srt _ x E h.2.1 (fun y hy z => hn y hy (dE_inj (h.2.2 y hy) hx z))
    refine ⟨by rw [List.length_take]; omega, hs.sublist (List.take_sublist _ _), fun y hy => ?_⟩
    rcases insM_mem.mp (List.mem_of_mem_take hy) with rfl | hy
    · exact hx
    · exact h.2.2 y hy
section VENT
variable {V W : VV} {t i : Nat} {tgt : Ky} {E E' : List Ent} {x : Ent} {e n q : Nat} {tg : Nat → Ky} {Es : Nat → List Ent}
theorem en_slot (h : EnV V t tgt E) (hi : i < E.length) : gE V (65 * t + i) ∈ E := by
  have hm : gE V (65 * t + i) ∈ rws (fun i => gE V (65 * t + i)) E.length := rws_mem.mpr ⟨i, hi, rfl⟩
  rwa [h.2.2.2.mem_iff] at hm
theorem en_row (h : EnV V t tgt E) (hx : x ∈ E) : ∃ i, i < E.length ∧ gE V (65 * t + i) = x := by
  rw [← h.2.2.2.mem_iff] at hx
  exact rws_mem.mp hx
theorem en_ag (h : EnV V t tgt E) (h234 : vI W 234 t = vI V 234 t) (h232 : gk W 232 (5 * t) = gk V 232 (5 * t)) (hg : ∀ j, j < 65 → gE W (65 * t + j) = gE V (65 * t + j)) : EnV W t tgt E := by
  obtain ⟨h1, h2, h3, h4⟩ := id h
  refine ⟨by rw [h234, h1], by rw [h232, h2], h3, ?_⟩
  rw [rws_congr (g := fun j => gE V (65 * t + j)) (fun j hj => hg j (by have := h3.1; omega))]
  exact h4
theorem v_entryWith (h : EnV V t tgt E) (ht : t < 44) (he : mA e n) (hq : q + 5 ≤ n) (hn : n ≤ 1000000) : (∃ i, i < E.length ∧ f_X16_entryWith (t : Int) (e : Int) (q : Int) V = some ((65 * t + i : Nat) : Int) ∧ eKey (gE V (65 * t + i)) = gk V e q) ∨ (f_X16_entryWith (t : Int) (e : Int) (q : Int) V = some (-1) ∧ hasE E (gk V e q) = false) := by
  have h234 := h.1
  have hl := h.2.2.1.1
  have hs := fun i (hi : i < E.length) => v_same (V := V) (p := 5 * (65 * t + i)) m235 (by omega) (by decide) he hq hn
  have r := lp_find (b := fun s : Int => b_X16_entryWith_6 (t : Int) (e : Int) (q : Int) s V) (fun i => ((65 * t + i : Nat) : Int)) E.length (fun i => decide (eKey (gE V (65 * t + i)) = gk V e q)) (fun i => some ((65 * t + i : Nat) : Int)) (some (-1))
    (fun i hi => by
      show b_X16_entryWith_6 (t : Int) (e : Int) (q : Int) ((65 * t + i : Nat) : Int) V = _
      have e1 : (235 : Int) = ((235 : Nat) : Int) := rfl
      have e2 : eKey (gE V (65 * t + i)) = gk V 235 (5 * (65 * t + i)) := rfl
      unfold b_X16_entryWith_6
      simp (disch := omega) only [l2_n, w32_nn, c65m, c5m, cadd, cadd1, clt, h234, Option.bind_some, if_pos (show 65 * t + i < 65 * t + E.length by omega), e1, hs i hi, w32_b2i, b2i_0, e2, decide_eq_true_eq, decide_eq_false_iff_not]
      grind)
    (by
      show b_X16_entryWith_6 (t : Int) (e : Int) (q : Int) ((65 * t + E.length : Nat) : Int) V = _
      unfold b_X16_entryWith_6
      simp (disch := omega) only [l2_n, w32_nn, clt, h234, c65m, cadd, Option.bind_some, Nat.lt_irrefl, if_false]) FU (by unfold FU; omega)
  have e0 : ((65 * t + 0 : Nat) : Int) = 65 * (t : Int) := by omega
  rw [e0] at r
  rcases r with ⟨i, hi, hc, -, e⟩ | ⟨hc, e⟩
  · exact Or.inl ⟨i, hi, e, by simpa using hc⟩
  · refine Or.inr ⟨e, hasE_no.mpr (fun y hy => ?_)⟩
    obtain ⟨i, hi, rfl⟩ := en_row h hy
    simpa using hc i hi
theorem ens_upd (h : EnsV V tg Es) (hp : EnV W t (tg t) E') (ho : ∀ z, z ≠ t → z < 44 → vI W 234 z = vI V 234 z ∧ gk W 232 (5 * z) = gk V 232 (5 * z) ∧ ∀ j, j < 65 → gE W (65 * z + j) = gE V (65 * z + j)) : EnsV W tg (fup Es t E') := by
  intro z hz
  unfold fup
  by_cases c : z = t
  · rw [if_pos c, c]; exact hp
  · rw [if_neg c]
    exact en_ag (h z hz) (ho z c hz).1 (ho z c hz).2.1 (ho z c hz).2.2
def PE (a i : Nat) : Prop := 234 ≤ a ∧ a ≤ 238
/-- a slot more -/
theorem v_addE1 {n0 : Nat} {ad stt : Int} (h234 : vI V 234 t = (n0 : Int)) (hn0 : n0 ≤ 64) (ht : t < 44) (he : mA e n) (hq : q + 5 ≤ n) (hn : n ≤ 1000000) (hem : e < 234 ∨ 238 < e) (had : w32 ad = ad) (hst : w32 stt = stt) : ∃ U, ((l2 234 44 (t : Int) V).bind fun v2 => (l2 234 44 (t : Int) V).bind fun v3 => (s2 234 44 (t : Int) (v3 + 1) V).bind fun V1 => (f_X16_put 235 (5 * ((65 * (t : Int)) + v2)) (e : Int) (q : Int) V1).bind fun V2 => (s2 236 2860 ((65 * (t : Int)) + v2) ad V2).bind fun V3 => (s2 237 2860 ((65 * (t : Int)) + v2) stt V3).bind fun V4 => (s2 238 2860 ((65 * (t : Int)) + v2) (-1) V4).bind fun V5 => (l2 234 44 (t : Int) V5).bind fun v4 => if w32 v4 < w32 65 then some V5 else l_X16_addEntry_97 (t : Int) ((65 * (t : Int)) + v2) (65 * (t : Int)) (65 * (t : Int)) V5) = (if n0 + 1 < 65 then some U else l_X16_addEntry_97 (t : Int) ((65 * t + n0 : Nat) : Int) ((65 * t : Nat) : Int) ((65 * t : Nat) : Int) U) ∧ gE U (65 * t + n0) = (gk V e q, ad, stt, 0) ∧ (∀ j, j ≠ 65 * t + n0 → gE U j = gE V j) ∧ (∀ z, vI U 234 z = if z = t then ((n0 + 1 : Nat) : Int) else vI V 234 z) ∧ FrS PE V U := by
  obtain ⟨X, hX⟩ : ∃ X, X = 65 * t + n0 := ⟨_, rfl⟩
  obtain ⟨V1, hV1⟩ : ∃ V1, V1 = st2 V 234 t ((n0 + 1 : Nat) : Int) := ⟨_, rfl⟩
  have pu := e_put (V := V1) (p := 5 * X) (p' := q) m235 (by omega) (by decide) he hq hn (Or.inl (by omega))
  obtain ⟨V2, hV2⟩ : ∃ V2, V2 = kput V1 235 (5 * X) e q := ⟨_, rfl⟩
  have e1 : (235 : Int) = ((235 : Nat) : Int) := rfl
  have r2 : ∀ a j, a ≠ 235 → a ≠ 234 → vI V2 a j = vI V a j := fun a j h1 h2 => by rw [hV2, vI_kput h1, hV1, vI_ne (by omega)]
  have v234 : ∀ z, vI V2 234 z = if z = t then ((n0 + 1 : Nat) : Int) else vI V 234 z := fun z => by
    rw [hV2, vI_kput (by decide), hV1, vI_st2, w32_nn (by omega)]
    simp
  have g2 : ∀ j, gk V2 235 (5 * j) = if j = X then gk V e q else gk V 235 (5 * j) := fun j => by
    by_cases c : j = X
    · rw [if_pos c, c, hV2, gk_kput3, hV1, gk_st2 (by omega)]
    · rw [if_neg c, hV2, gk_kput2 (by omega), hV1, gk_st2 (by decide)]
  refine ⟨st2 (st2 (st2 V2 236 X ad) 237 X stt) 238 X (-1), ?_, ?_, fun j hj => ?_, fun z => ?_, ?_⟩
  · simp (disch := omega) only [l2_n, s2_n, Option.bind_some, h234, c65m, cadd, cadd1, c5m]
    rw [← hX, ← hV1, e1, pu, Option.bind_some, ← hV2]
    simp (disch := omega) only [l2_n, s2_n, Option.bind_some, vI_ne, v234, if_true]
    rw [w32_nn (by omega), show w32 65 = 65 by decide]
    by_cases c : n0 + 1 < 65
    · rw [if_pos c, if_pos (by omega)]
    · rw [if_neg c, if_neg (by omega)]
  · rw [← hX]
    unfold gE
    rw [gk_st2 (by decide), gk_st2 (by decide), gk_st2 (by decide), g2, if_pos rfl]
    simp (disch := omega) only [vI_ne, vI_eq, had, hst, w32_m1]
    rfl
  · rw [← hX] at hj
    refine gE_ext ?_ ?_ ?_ ?_
    · rw [gk_st2 (by decide), gk_st2 (by decide), gk_st2 (by decide), g2, if_neg hj]
    all_goals simp (disch := omega) only [vI_ne, r2]
  · simp (disch := omega) only [vI_ne, v234]
  · rw [hV2, hV1]
    have k : ∀ U : VV, FrS PE U (kput U 235 (5 * X) e q) := fun U a i h => by
      unfold kput
      rw [if_neg (fun z => h (by unfold PE; omega))]
    have w : ∀ (U : VV) (a i : Nat) (v : Int), PE a i → FrS PE U (st2 U a i v) := fun U a i v h => FrS_st h
    exact ((((w _ _ _ _ (by unfold PE; omega)).trans (k _)).trans (w _ _ _ _ (by unfold PE; omega))).trans (w _ _ _ _ (by unfold PE; omega))).trans (w _ _ _ _ (by unfold PE; omega))
/-- of one too many the farthest goes -/
theorem v_addE2 (h234 : vI V 234 t = 65) (ht : t < 44) (hk : ∀ i j, i < 65 → j < 65 → i ≠ j → dE tgt (gE V (65 * t + i)) ≠ dE tgt (gE V (65 * t + j))) (htg : gk V 232 (5 * t) = tgt) : ∃ V' f, f < 65 ∧ l_X16_addEntry_97 (t : Int) ((65 * t + 64 : Nat) : Int) ((65 * t : Nat) : Int) ((65 * t : Nat) : Int) V = some V' ∧ (∀ j, j < 65 → j ≠ f → dE tgt (gE V (65 * t + j)) < dE tgt (gE V (65 * t + f))) ∧ (∀ j, gE V' j = if j = 65 * t + f then gE V (65 * t + 64) else gE V j) ∧ (∀ z, vI V' 234 z = if z = t then 64 else vI V 234 z) ∧ FrS PE V V' := by
  obtain ⟨⟨b, z⟩, n2, hn2, ⟨rfl, f, hf1, hf2, hf3⟩, q2⟩ := lp_inv (b := fun s : Int × Int => b_X16_addEntry_97 (t : Int) ((65 * t + 64 : Nat) : Int) s.1 s.2 V) (fun k s => s.2 = ((65 * t + k : Nat) : Int) ∧ ∃ f, f ≤ k - 1 ∧ s.1 = ((65 * t + f : Nat) : Int) ∧ ∀ j, j < k → j ≠ f → dE tgt (gE V (65 * t + j)) < dE tgt (gE V (65 * t + f))) 65
    (by
      rintro k ⟨b, z⟩ hk2 ⟨rfl, f, hf1, rfl, hf3⟩
      dsimp only at hf3 ⊢
      have nr := v_nearer (V := V) (p := 5 * (65 * t + f)) (p' := 5 * (65 * t + k)) (p'' := 5 * t) m235 (by omega) (by decide) m235 (by omega) (by decide) m232 (by omega) (by decide)
      rw [htg] at nr
      have nr : f_X16_nearer ((235 : Nat) : Int) ((5 * (65 * t + f) : Nat) : Int) ((235 : Nat) : Int) ((5 * (65 * t + k) : Nat) : Int) ((232 : Nat) : Int) ((5 * t : Nat) : Int) V = some (b2i (decide (dE tgt (gE V (65 * t + f)) < dE tgt (gE V (65 * t + k))))) := nr
      unfold b_X16_addEntry_97 j_X16_addEntry_140
      rw [w32_nn (by omega), w32_nn (by omega), if_neg (by omega), c5m, c5m, c5m, show f_X16_nearer 235 ((5 * (65 * t + f) : Nat) : Int) 235 ((5 * (65 * t + k) : Nat) : Int) 232 ((5 * t : Nat) : Int) V = _ from nr, Option.bind_some, w32_b2i]
      by_cases c : dE tgt (gE V (65 * t + f)) < dE tgt (gE V (65 * t + k))
      · rw [if_neg (by rw [b2i_0]; simpa using c)]
        refine ⟨_, rfl, by dsimp only; omega, k, by omega, rfl, fun j hj hne => ?_⟩
        by_cases q : j = f
        · rw [q]; exact c
        · exact Nat.lt_trans (hf3 j (by omega) q) c
      · rw [if_pos (by rw [b2i_0]; simpa using c)]
        refine ⟨_, rfl, by dsimp only; omega, f, by omega, rfl, fun j hj hne => ?_⟩
        by_cases q : j = k
        · have := hk j f (by omega) (by omega) hne
          rw [q] at this ⊢
          omega
        · exact hf3 j (by omega) hne) FU 0 (((65 * t : Nat) : Int), ((65 * t : Nat) : Int)) (by omega) (by unfold FU; omega) ⟨rfl, 0, by omega, rfl, fun j hj => by omega⟩
  have hf2 : b = ((65 * t + f : Nat) : Int) := hf2
  subst hf2
  obtain ⟨F, hF⟩ : ∃ F, F = 65 * t + f := ⟨_, rfl⟩
  obtain ⟨Lx, hLx⟩ : ∃ Lx, Lx = 65 * t + 64 := ⟨_, rfl⟩
  obtain ⟨V1, hV1⟩ : ∃ V1, V1 = st2 V 234 t 64 := ⟨_, rfl⟩
  have pu := e_put (V := V1) (p := 5 * F) (p' := 5 * Lx) m235 (by omega) (by decide) m235 (by omega) (by decide) (by omega)
  obtain ⟨V2, hV2⟩ : ∃ V2, V2 = kput V1 235 (5 * F) 235 (5 * Lx) := ⟨_, rfl⟩
  have e1 : (235 : Int) = ((235 : Nat) : Int) := rfl
  have r2 : ∀ a j, a ≠ 235 → a ≠ 234 → vI V2 a j = vI V a j := fun a j h1 h2 => by rw [hV2, vI_kput h1, hV1, vI_ne (by omega)]
  have g2 : ∀ j, gk V2 235 (5 * j) = if j = F then gk V 235 (5 * Lx) else gk V 235 (5 * j) := fun j => by
    by_cases c : j = F
    · rw [if_pos c, c, hV2, gk_kput3, hV1, gk_st2 (by decide)]
    · rw [if_neg c, hV2, gk_kput2 (by omega), hV1, gk_st2 (by decide)]
  refine ⟨st2 (st2 (st2 V2 236 F (vI V 236 Lx)) 237 F (vI V 237 Lx)) 238 F (vI V 238 Lx), f, by omega, ?_, fun j hj hne => hf3 j (by omega) hne, fun j => ?_, fun z => ?_, ?_⟩
  · unfold l_X16_addEntry_97
    refine q2.trans ?_
    refine lpN_end (b := fun s : Int × Int => b_X16_addEntry_97 (t : Int) ((65 * t + 64 : Nat) : Int) s.1 s.2 V) hn2 ?_
    dsimp only
    unfold b_X16_addEntry_97 j_X16_addEntry_148
    rw [w32_nn (by omega), w32_nn (by omega), if_pos (by omega), l2_n (by omega) (by decide), Option.bind_some, h234, s2_n (by omega) (by decide), Option.bind_some, c5m, c5m, ← hF, ← hLx, show (65 : Int) - 1 = 64 by decide, ← hV1, e1, pu, Option.bind_some, ← hV2]
    simp (disch := omega) only [l2_n, s2_n, Option.bind_some, vI_ne, r2]
  · rw [← hF, ← hLx]
    by_cases c : j = F
    · rw [if_pos c, c]
      refine gE_ext ?_ ?_ ?_ ?_
      · rw [gk_st2 (by decide), gk_st2 (by decide), gk_st2 (by decide), g2, if_pos rfl]
      all_goals simp (disch := omega) only [vI_ne, vI_eq, w32_vI]
    · rw [if_neg c]
      refine gE_ext ?_ ?_ ?_ ?_
      · rw [gk_st2 (by decide), gk_st2 (by decide), gk_st2 (by decide), g2, if_neg c]
      all_goals simp (disch := omega) only [vI_ne, r2]
  · have : vI V2 234 z = if z = t then 64 else vI V 234 z := by
      rw [hV2, vI_kput (by decide), hV1, vI_st2]
      by_cases c : z = t
      · rw [if_pos ⟨rfl, c⟩, if_pos c]; rfl
      · rw [if_neg (fun w => c w.2), if_neg c]
    simp (disch := omega) only [vI_ne, this]
  · rw [hV2, hV1]
    have k : ∀ U : VV, FrS PE U (kput U 235 (5 * F) 235 (5 * Lx)) := fun U a i h => by
      unfold kput
      rw [if_neg (fun z => h (by unfold PE; omega))]
    have w : ∀ (U : VV) (a i : Nat) (v : Int), PE a i → FrS PE U (st2 U a i v) := fun U a i v h => FrS_st h
    exact ((((w _ _ _ _ (by unfold PE; omega)).trans (k _)).trans (w _ _ _ _ (by unfold PE; omega))).trans (w _ _ _ _ (by unfold PE; omega))).trans (w _ _ _ _ (by unfold PE; omega))
end VENT
