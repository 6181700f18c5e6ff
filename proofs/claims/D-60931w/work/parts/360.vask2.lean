section VASK2
variable {V W : VV} {p s : Nat} {R : List Rq} {x y : Rq} {N : Nat} {own : Nat → Ky} {sd ps sn pu rf tl : Nat → Int} {st : Nat → Int} {tm lo : Int} {fl : List Dg} {L : Nat} {l bd : List Int} {nx : Nat → Nat} {Rs : Nat → List Rq} {ad ty tk pb : Int} {e q n : Nat}
/-- the bytes of a request -/
def askB (ty : Int) (n : Nat) (o : Ky) (bd : List Int) : List Int := hdB ty (n : Int) (kf o) ++ if ty = 1 then [] else bd
def wkO (tk : Int) : Option Nat := if 0 ≤ tk then some tk.toNat else none
def pbO (pb : Int) : Option Int := if 0 ≤ pb then some pb else none
def newQ (n : Nat) (ad ty ddl : Int) (key : Ky) (bt : List Int) (tk pb : Int) : Rq := ((n : Int), ad, ty, ddl, 1, key, bt, wkO tk, pbO pb)
theorem upQ_app {q0 : Rq} (h : ∀ z, z ∈ R → qNum z < qNum q0) {ddl : Int} : upQ (R ++ [q0]) (goQ q0 ddl) = R ++ [goQ q0 ddl] := by
  unfold upQ
  rw [List.map_append]
  have e1 : qNum (goQ q0 ddl) = qNum q0 := rfl
  rw [e1]
  congr 1
  · refine Eq.trans (List.map_congr_left (g := id) (fun z hz => ?_)) (List.map_id _)
    rw [if_neg (by have := h z hz; omega)]; rfl
  · simp
theorem askM_r {a i nx0 : Nat} {ser : Int} (h : ¬ (a = 171 ∧ i = p)) (h2 : a ≠ 200) (h3 : (a < 197 ∨ 206 < a) ∨ a = 202 ∨ i ≠ s) : vI (askM V p s e q nx0 ad ty tk pb ser) a i = vI V a i := by
  unfold askM
  rw [vI_ne (by omega), vI_ne (by omega), vI_ne (by omega), vI_ne (by omega), vI_ne (by omega), vI_kput (by omega), vI_ne (by omega), vI_ne (by omega), vI_ne (by omega), vI_ne (by omega)]
theorem askM_gk {r nx0 : Nat} {ser : Int} (he5 : e < 197 ∨ 208 < e) (he171 : e ≠ 171) : gk (askM V p s e q nx0 ad ty tk pb ser) 200 (5 * r) = if r = s then gk V e q else gk V 200 (5 * r) := by
  unfold askM
  rw [gk_st2 (by decide), gk_st2 (by decide), gk_st2 (by decide), gk_st2 (by decide), gk_st2 (by decide)]
  by_cases c : r = s
  · rw [if_pos c, c, gk_kput3, gk_st2 (by omega), gk_st2 (by omega), gk_st2 (by omega), gk_st2 (by omega)]
  · rw [if_neg c, gk_kput2 (by omega), gk_st2 (by decide), gk_st2 (by decide), gk_st2 (by decide), gk_st2 (by decide)]
theorem askM_fr {nx0 : Nat} {ser : Int} : FrS (fun a i => mv a i = 5) V (askM V p s e q nx0 ad ty tk pb ser) := by
  unfold askM
  have k : ∀ U : VV, FrS (fun a i => mv a i = 5) U (kput U 200 (5 * s) e q) := fun U a i h => by
    unfold kput
    rw [if_neg (fun z => h (by rw [z.1]; rfl))]
  have w : ∀ (U : VV) (a i : Nat) (v : Int), mv a i = 5 → FrS (fun a i => mv a i = 5) U (st2 U a i v) := fun U a i v h => FrS_st h
  exact ((((((((((w _ _ _ _ rfl).trans (w _ _ _ _ rfl)).trans (w _ _ _ _ rfl)).trans (w _ _ _ _ rfl)).trans (k _)).trans (w _ _ _ _ rfl)).trans (w _ _ _ _ rfl)).trans (w _ _ _ _ rfl)).trans (w _ _ _ _ rfl)).trans (w _ _ _ _ rfl))
theorem be_isBL (v : Int) : ∀ n, isBL (be v n)
  | 0 => fun b hb => by simp [be] at hb
  | n + 1 => fun b hb => by
    rcases List.mem_cons.mp hb with rfl | hb
    · omega
    · exact be_isBL v n b hb
theorem isBL_app {a b : List Int} (h1 : isBL a) (h2 : isBL b) : isBL (a ++ b) := fun z hz => by
  rcases List.mem_append.mp hz with h | h
  · exact h1 z h
  · exact h2 z h
theorem kbs_isBL (x : Ky) : isBL (kbs x) := by
  show isBL (kbN (kf x) 5)
  generalize 5 = m
  induction m with
  | zero => exact fun b hb => by simp [kbN] at hb
  | succ m ih => exact isBL_app ih (be_isBL _ 4)
theorem hdB_isBL (ty num : Int) (x : Ky) : isBL (hdB ty num (kf x)) := isBL_app (isBL_app (be_isBL _ 1) (be_isBL _ 4)) (kbs_isBL x)
theorem v_ask (h : RqsV V Rs nx) (hp : p < 32) (hN : VNet V st tm lo fl L) (hP : PV V N own sd ps sn pu rf tl) (hst : stOK st) (htm : 0 ≤ tm ∧ tm ≤ 1000000) (hL : L + 2 < 2000000000) (had : 0 ≤ ad ∧ ad < 32) (hty : 0 ≤ ty ∧ ty < 256) (he : mA e n) (hq : q + 5 ≤ n) (hn : n ≤ 1000000) (hem : ∀ i, mv e i ≠ 5 ∧ ¬ PO e i) (hnx : 0 < nx p ∧ nx p < 2000000000) (htk : tk = -1 ∨ (0 ≤ tk ∧ tk < 44)) (hpb : pb = -1 ∨ (0 ≤ pb ∧ pb < 160)) (hb : ty = 1 ∨ BodyV V bd) (hbl : isBL bd) (hbd : bd.length ≤ 325) (htn : 0 ≤ vI V 231 0) :
    if (Rs p).length = 40 then f_X16_ask (p : Int) ad (e : Int) (q : Int) ty tk pb V = some (0, V)
    else ∃ V' L', f_X16_ask (p : Int) ad (e : Int) (q : Int) ty tk pb V = some (1, V') ∧ RqsV V' (fup Rs p (Rs p ++ [newQ (nx p) ad ty (tm + st 4) (gk V e q) (askB ty (nx p) (own p) bd) tk pb])) (fup nx p (nx p + 1)) ∧ VNet V' (sndS st tm lo fl (apS N sd p ad) p ad (askB ty (nx p) (own p) bd)).1 tm (sndS st tm lo fl (apS N sd p ad) p ad (askB ty (nx p) (own p) bd)).2.1 (sndS st tm lo fl (apS N sd p ad) p ad (askB ty (nx p) (own p) bd)).2.2 L' ∧ L ≤ L' ∧ L' ≤ L + 2 ∧ PV V' N own sd ps sn pu rf (tlU tl (5 * p + 3)) ∧ FrS PG V V' ∧ SK V V' := by
  have hR := h p hp
  have he5 : e < 197 ∨ 208 < e := by
    by_cases c : 197 ≤ e ∧ e ≤ 208
    · exact absurd (mv5_i (i := 0) (Or.inr c)) (hem 0).1
    · omega
  have he171 : e ≠ 171 := fun z => (hem 0).1 (by rw [z]; rfl)
  have fnd0 := lp_find (b := fun s' : Int => b_X16_ask_6 (p : Int) ad (e : Int) (q : Int) ty tk pb s' V) (fun i => ((40 * p + i : Nat) : Int)) 40 (fun i => decide (vI V 197 (40 * p + i) = 0)) (fun i => j_X16_ask_46 (p : Int) ad (e : Int) (q : Int) ty tk pb ((40 * p + i : Nat) : Int) V) (j_X16_ask_46 (p : Int) ad (e : Int) (q : Int) ty tk pb ((40 * p + 40 : Nat) : Int) V)
    (fun i hi => by
      show b_X16_ask_6 (p : Int) ad (e : Int) (q : Int) ty tk pb ((40 * p + i : Nat) : Int) V = _
      unfold b_X16_ask_6 j_X16_ask_36
      rw [c40m, cadd40, w32_nn (by omega), w32_nn (by omega), if_pos (by omega), show w32 1280 = 1280 by decide, if_pos (by omega), l2_n (by omega) (by decide), Option.bind_some, w32_vI]
      by_cases c : vI V 197 (40 * p + i) = 0
      · rw [if_pos c, if_pos (by simpa using c)]
      · rw [if_neg c, if_neg (by simpa using c)]
        rfl)
    (by
      show b_X16_ask_6 (p : Int) ad (e : Int) (q : Int) ty tk pb ((40 * p + 40 : Nat) : Int) V = _
      unfold b_X16_ask_6
      rw [c40m, cadd40, if_neg (by omega)]) FU (by unfold FU; omega)
  have hf0 : f_X16_ask (p : Int) ad (e : Int) (q : Int) ty tk pb V = lpN (fun s' : Int => b_X16_ask_6 (p : Int) ad (e : Int) (q : Int) ty tk pb s' V) FU ((40 * p + 0 : Nat) : Int) := by
    unfold f_X16_ask l_X16_ask_6
    rw [c40m]
    rfl
  have hfull : (Rs p).length = 40 ↔ ∀ i, i < 40 → vI V 197 (40 * p + i) ≠ 0 := by
    rw [← rq_len hR]
    unfold slQ
    constructor
    · intro hl i hi
      have := (List.length_filter_eq_length_iff (l := rws (fun i => 40 * p + i) 40) (p := fun r => decide (vI V 197 r ≠ 0))).mp (by rw [hl, rws_len])
      have := this (40 * p + i) (rws_mem.mpr ⟨i, hi, rfl⟩)
      simpa using this
    · intro ha
      have := (List.length_filter_eq_length_iff (l := rws (fun i => 40 * p + i) 40) (p := fun r => decide (vI V 197 r ≠ 0))).mpr (fun r hr => by
        obtain ⟨i, hi, rfl⟩ := rws_mem.mp hr
        simpa using ha i hi)
      rw [this, rws_len]
  rcases fnd0 with ⟨i, hi, hc, -, ef⟩ | ⟨hc, ef⟩
  · have hc0 : vI V 197 (40 * p + i) = 0 := by simpa using hc
    rw [if_neg (fun z => hfull.mp z i hi hc0), hf0, ef]
    clear hf0 ef hfull
    obtain ⟨s, hs⟩ : ∃ s, s = 40 * p + i := ⟨_, rfl⟩
    rw [← hs] at hc0 ⊢
    have hsr : 40 * p ≤ s ∧ s < 40 * p + 40 := by omega
    rw [v_ask46 hsr hp he hq hn (fun i => (hem i).1) hR.1 hnx.2 htk]
    obtain ⟨ser, hser⟩ : ∃ ser, ser = (if tk < 0 then 0 else vI V 231 tk.toNat) := ⟨_, rfl⟩
    rw [← hser]
    generalize hA : askM V p s e q (nx p) ad ty tk pb ser = A
    have rA : ∀ a j, ¬ (a = 171 ∧ j = p) → a ≠ 200 → ((a < 197 ∨ 206 < a) ∨ a = 202 ∨ j ≠ s) → vI A a j = vI V a j := fun a j h1 h2 h3 => by rw [← hA]; exact askM_r h1 h2 h3
    have fA : FrS (fun a i => mv a i = 5) V A := by rw [← hA]; exact askM_fr
    have hk165 : kV A 165 (5 * p) = kV V 165 (5 * p) := by funext i; exact rA 165 _ (by omega) (by decide) (by omega)
    obtain ⟨V4, b1, b2, -, -⟩ := v_head (V := A) (ty := ty) (num := (nx p : Int)) hp
    have f4 := head_fr b1
    rw [b1, Option.bind_some]
    have hB4 : ty = 1 ∨ BodyV V4 bd := by
      rcases hb with z | z
      · exact Or.inl z
      · refine Or.inr ⟨?_, z.2.1, fun i hi => ?_⟩
        · rw [f4.vI (by unfold PO; omega), rA _ _ (by omega) (by decide) (by omega)]; exact z.1
        · rw [f4.vI (by unfold PO; omega), rA _ _ (by omega) (by decide) (by omega)]; exact z.2.2 i hi
    have hown : hdB ty (nx p : Int) (kV V 165 (5 * p)) = hdB ty (nx p : Int) (kf (own p)) := by
      rw [← (hP.2.2.1 p hp).1]
      rfl
    rw [hk165, hown] at b2
    obtain ⟨V5, c1, c2, c3⟩ := v_ask197 (p := p) (s := s) (bd := bd) (ty := ty) b2 hB4 hbl (by rw [hdB_len]; omega) (w32_id (by omega) (by omega))
    rw [c1]
    have hbt : hdB ty (nx p : Int) (kf (own p)) ++ (if ty = 1 then [] else bd) = askB ty (nx p) (own p) bd := rfl
    rw [hbt] at c2
    generalize hBt : askB ty (nx p) (own p) bd = bt at c2
    have hbtl : 25 ≤ bt.length ∧ bt.length ≤ 350 := by
      rw [← hBt]
      unfold askB
      rw [List.length_append, hdB_len]
      split <;> simp <;> omega
    have hbtb : isBL bt := by
      rw [← hBt]
      refine isBL_app (hdB_isBL _ _ _) ?_
      split
      · exact fun b hb => by simp at hb
      · exact hbl
    obtain ⟨U, d1, d2, d3, d4⟩ := v_ask229 (p := p) (s := s) c2 hbtl.2 (by omega)
    rw [d1]
    -- words of U
    have fU : ∀ a j, ¬ PO a j → ¬ ((a = 207 ∧ j = s) ∨ (a = 208 ∧ 350 * s ≤ j ∧ j < 350 * s + 350)) → vI U a j = vI A a j := fun a j h1 h2 => by rw [d4.vI h2, c3.vI h1, f4.vI h1]
    have uV : ∀ a j, ¬ PO a j → ¬ ((a = 207 ∧ j = s) ∨ (a = 208 ∧ 350 * s ≤ j ∧ j < 350 * s + 350)) → ¬ (a = 171 ∧ j = p) → a ≠ 200 → ((a < 197 ∨ 206 < a) ∨ a = 202 ∨ j ≠ s) → vI U a j = vI V a j := fun a j h1 h2 h3 h4 h5 => by rw [fU a j h1 h2, rA a j h3 h4 h5]
    have uS : ∀ a (v : Int), vI A a s = v → 197 ≤ a → a ≤ 206 → a ≠ 200 → vI U a s = v := fun a v hv h1 h2 h3 => by rw [fU a s (by unfold PO; omega) (by omega)]; exact hv
    have hwad : w32 ad = ad := w32_id (by omega) (by omega)
    have hwty : w32 ty = ty := w32_id (by omega) (by omega)
    have hwtk : w32 tk = tk := w32_id (by omega) (by omega)
    have hwpb : w32 pb = pb := w32_id (by omega) (by omega)
    have hwser : w32 ser = ser := by rw [hser]; split; rfl; exact w32_vI
    have a197 : vI A 197 s = 1 := by rw [← hA]; unfold askM; simp (disch := omega) only [vI_ne, vI_eq, vI_kput, w32_1]
    have a198 : vI A 198 s = (nx p : Int) := by rw [← hA]; unfold askM; simp (disch := omega) only [vI_ne, vI_eq, vI_kput, w32_nn]
    have a199 : vI A 199 s = ad := by rw [← hA]; unfold askM; simp (disch := omega) only [vI_ne, vI_eq, vI_kput, hwad]
    have a201 : vI A 201 s = ty := by rw [← hA]; unfold askM; simp (disch := omega) only [vI_ne, vI_eq, hwty]
    have a203 : vI A 203 s = 0 := by rw [← hA]; unfold askM; simp (disch := omega) only [vI_ne, vI_eq, w32_0]
    have a204 : vI A 204 s = tk := by rw [← hA]; unfold askM; simp (disch := omega) only [vI_ne, vI_eq, hwtk]
    have a205 : vI A 205 s = ser := by rw [← hA]; unfold askM; simp (disch := omega) only [vI_ne, vI_eq, hwser]
    have a206 : vI A 206 s = pb := by rw [← hA]; unfold askM; simp (disch := omega) only [vI_ne, vI_eq, hwpb]
    have a171 : ∀ z, vI A 171 z = if z = p then ((nx p + 1 : Nat) : Int) else vI V 171 z := fun z => by
      by_cases c : z = p
      · rw [if_pos c, c, ← hA]; unfold askM; simp (disch := omega) only [vI_ne, vI_eq, vI_kput, w32_nn]
      · rw [if_neg c]; exact rA _ _ (by omega) (by decide) (by omega)
    have u231 : ∀ t, vI U 231 t = vI V 231 t := fun t => uV _ _ (by unfold PO; omega) (by omega) (by omega) (by decide) (by omega)
    have ugk : ∀ r, gk U 200 (5 * r) = if r = s then gk V e q else gk V 200 (5 * r) := fun r => by
      rw [gk_ext (V := A) (fun i _ => fU _ _ (by unfold PO; omega) (by omega)), ← hA]
      exact askM_gk he5 he171
    have gs : gQ U s = ((nx p : Int), ad, ty, vI V 202 s, 0, gk V e q, bt, wkO tk, pbO pb) := by
      unfold gQ
      rw [uS 198 _ a198 (by omega) (by omega) (by omega), uS 199 _ a199 (by omega) (by omega) (by omega), uS 201 _ a201 (by omega) (by omega) (by omega), uV 202 s (by unfold PO; omega) (by omega) (by omega) (by decide) (by omega), uS 203 _ a203 (by omega) (by omega) (by omega), uS 204 _ a204 (by omega) (by omega) (by omega), uS 205 _ a205 (by omega) (by omega) (by omega), uS 206 _ a206 (by omega) (by omega) (by omega), ugk, if_pos rfl, d2, Int.toNat_natCast, SrtM_rws (l := bt) (fun i hi => by rw [d3 i hi]; grind), u231]
      have ew : (if 0 ≤ tk ∧ ser = vI V 231 tk.toNat then some tk.toNat else none) = wkO tk := by
        unfold wkO
        by_cases c : 0 ≤ tk
        · rw [if_pos c, if_pos ⟨c, by rw [hser, if_neg (by omega)]⟩]
        · rw [if_neg c, if_neg (fun z => c z.1)]
      rw [ew]
      rfl
    have zz : ∀ r, r ≠ s → ∀ a, 197 ≤ a → a ≤ 207 → a ≠ 200 → vI U a r = vI V a r := fun r hr a h1 h2 h3 => uV a r (by unfold PO; omega) (by omega) (by omega) h3 (by omega)
    have go : ∀ z r, z < 32 → r ∈ slQ V z → r ≠ s → gQ U r = gQ V r := fun z r hz hr hrs => by
      have hRz := h z hz
      have hm := slQ_mem.mp hr
      have hl1 := (hRz.2.2.2.2 r hr).1
      have hl2 := (hRz.2.2.2.1 _ (rq_slot hRz hr)).2.2.2.2.1.2
      exact gQ_ext (fun a h1 h2 h3 => zz r hrs a (by omega) (by omega) h3) (by rw [ugk, if_neg hrs]) (fun i hi => uV 208 _ (by unfold PO; omega) (by omega) (by omega) (by decide) (by omega)) u231
    have okq : okQ ((nx p : Int), ad, ty, vI V 202 s, 0, gk V e q, bt, wkO tk, pbO pb) := ⟨had, hty, hbtl, hbtb, by show (0 : Int) ≤ 0 ∧ (0 : Int) ≤ 4; decide⟩
    have u171 : ∀ z, vI U 171 z = if z = p then ((nx p + 1 : Nat) : Int) else vI V 171 z := fun z => by rw [fU _ _ (by unfold PO; omega) (by omega)]; exact a171 z
    have hRU : RqsV U (fup Rs p (Rs p ++ [((nx p : Int), ad, ty, vI V 202 s, 0, gk V e q, bt, wkO tk, pbO pb)])) (fup nx p (nx p + 1)) := by
      intro z hz
      by_cases c : z = p
      · subst c
        rw [fup_eq, fup_eq]
        refine rq_add hR hsr hc0 (by rw [uS 197 _ a197 (by omega) (by omega) (by omega)]; decide) hnx.1 gs rfl okq d2 ⟨?_, ?_⟩ (by rw [u171, if_pos rfl]) (fun r h1 h2 h3 => ⟨zz r h3 197 (by omega) (by omega) (by decide), fun h4 => ⟨go z r hz (slQ_mem.mpr ⟨⟨h1, h2⟩, h4⟩) h3, zz r h3 207 (by omega) (by omega) (by decide), zz r h3 204 (by omega) (by omega) (by decide), zz r h3 205 (by omega) (by omega) (by decide)⟩⟩) (fun t _ => u231 t)
        · rw [uS 204 _ a204 (by omega) (by omega) (by omega)]; omega
        · rw [uS 205 _ a205 (by omega) (by omega) (by omega), uS 204 _ a204 (by omega) (by omega) (by omega), u231, hser]
          split
          · rw [show tk.toNat = 0 by omega]; exact htn
          · exact Int.le_refl _
      · rw [fup_ne c, fup_ne c]
        exact rq_ag (h z hz) (by rw [u171, if_neg c]) (fun r h1 h2 => ⟨zz r (by omega) 197 (by omega) (by omega) (by decide), fun h4 => ⟨go z r hz (slQ_mem.mpr ⟨⟨h1, h2⟩, h4⟩) (by omega), zz r (by omega) 207 (by omega) (by omega) (by decide), zz r (by omega) 204 (by omega) (by omega) (by decide), zz r (by omega) 205 (by omega) (by omega) (by decide)⟩⟩) (fun t _ => u231 t)
    have hsU : s ∈ slQ U p := slQ_mem.mpr ⟨hsr, by rw [uS 197 _ a197 (by omega) (by omega) (by omega)]; decide⟩
    have fV0 : ∀ a j, mv a j ≠ 5 → ¬ PO a j → U a j = V a j := fun a j h5 hPO => by
      rw [d4 a j (fun z => h5 (by rcases z with z | z <;> (rw [z.1]; rfl))), c3 a j hPO, f4 a j hPO, fA a j h5]
    have fVU : FrS PG V U := fun a j hq => fV0 a j (fun z => hq (Or.inr (Or.inl z))) (fun z => hq (Or.inr (Or.inr z)))
    have hNU : VNet U st tm lo fl L := by
      refine VNet_fr (S := fun m => m == 5 || m == 9) (fun a i hq => fV0 a i (fun z => ?_) (fun z => ?_)) rfl hN
      · rw [z] at hq; exact absurd hq (by decide)
      · rcases z with z | z
        · rw [z] at hq; exact absurd hq (by show ¬ ((true : Bool) = false); decide)
        · rw [z.1, z.2] at hq; exact absurd hq (by decide)
    have hPU : PV U N own sd ps sn pu rf tl := PV_ag hP (fun a i hq => uV a i (by unfold PO; omega) (by omega) (by omega) (by omega) (by omega))
    obtain ⟨V', L', r1, r2, r3, r4, r5, r6, r7, r8⟩ := v_go hRU hsU hp hNU hPU hst htm hL (by rw [gs]; show (0 : Int) < 4; decide)
    rw [gs, fup_eq, fup_fup] at r2
    rw [gs] at r3
    rw [upQ_app (fun z hz => by show qNum z < (nx p : Int); exact (hR.2.2.2.1 z hz).2.1)] at r2
    refine ⟨V', L', ?_, r2, r3, r4, r5, r6, fVU.trans r7, SK.trans (fun r hr => ⟨zz r (fun e => hr (by rw [e]; exact hc0)) 197 (by omega) (by omega) (by decide), zz r (fun e => hr (by rw [e]; exact hc0)) 198 (by omega) (by omega) (by decide)⟩) r8⟩
    unfold j_X16_ask_279
    rw [r1]
    rfl
  · have ha : ∀ i, i < 40 → vI V 197 (40 * p + i) ≠ 0 := fun i hi => by simpa using hc i hi
    rw [if_pos (hfull.mpr ha), hf0, ef]
    unfold j_X16_ask_46
    rw [c40m, cadd40, if_pos rfl]
end VASK2
