section VGO2
variable {V W : VV} {p s : Nat} {R : List Rq} {x y : Rq} {N : Nat} {own : Nat → Ky} {sd ps sn pu rf tl : Nat → Int} {st : Nat → Int} {tm lo : Int} {fl : List Dg} {L : Nat} {l : List Int} {nx : Nat → Nat} {Rs : Nat → List Rq}
/-- one more that was sent -/
def tlU (tl : Nat → Int) (i : Nat) : Nat → Int := fup tl i (w32 (tl i + 1))
def apS (N : Nat) (sd : Nat → Int) (p : Nat) (t : Int) : Bool := decide (sdO N sd (p : Int) ≠ sdO N sd t)
theorem PV_tl (h : PV V N own sd ps sn pu rf tl) {i : Nat} : PV (st2 V 172 i (vI V 172 i + 1)) N own sd ps sn pu rf (tlU tl i) := by
  obtain ⟨h1, h2, h3, h4⟩ := id h
  refine ⟨by rw [vI_ne (by omega)]; exact h1, h2, fun p hp => ?_, fun j hj => ?_⟩
  · rw [vI_ne (by omega), vI_ne (by omega), vI_ne (by omega), vI_ne (by omega), vI_ne (by omega), gk_st2 (by decide)]
    exact h3 p hp
  · unfold tlU fup
    rw [vI_st2]
    by_cases c : j = i
    · rw [if_pos ⟨rfl, c⟩, if_pos c, ← c, h4 j hj]
    · rw [if_neg (fun z => c z.2), if_neg c]; exact h4 j hj
theorem v_sendP {t : Int} (hN : VNet V st tm lo fl L) (hP : PV V N own sd ps sn pu rf tl) (hst : stOK st) (htm : 0 ≤ tm ∧ tm ≤ 1000000) (hp : p < 32) (ht : w32 t = t) (hL : L + 2 < 2000000000) (ho : OutV V l) :
    ∃ V' L', f_X16_send (p : Int) t V = some V' ∧ VNet V' (sndS st tm lo fl (apS N sd p t) p t l).1 tm (sndS st tm lo fl (apS N sd p t) p t l).2.1 (sndS st tm lo fl (apS N sd p t) p t l).2.2 L' ∧ L ≤ L' ∧ L' ≤ L + 2 ∧ PV V' N own sd ps sn pu rf (tlU tl (5 * p + 3)) ∧ (∀ a i, mv a i ≠ 1 → a ≠ 172 → V' a i = V a i) ∧ OutV V' l := by
  have hP2 := PV_tl (i := 5 * p + 3) hP
  have hsd : ∀ t, w32 (sdO N sd t) = sdO N sd t := by
    intro t
    unfold sdO
    split
    · next c =>
      have := (hP.2.2.1 t.toNat (by have := hP.2.1; omega)).2.1
      rw [← this, w32_vI]
    · rfl
  obtain ⟨V', L', s1, s2', s3, s4, s5⟩ := v_send (l := l) hN hst htm hp ht hL ho (v_sideOf hP2 (w32_nn (by omega))) (v_sideOf hP2 ht)
  rw [hsd, hsd] at s2'
  have fr : ∀ a i, mv a i ≠ 1 → a ≠ 172 → V' a i = V a i := by
    intro a i h1 h2
    rw [s5 a i (by unfold m1; simpa using h1)]
    exact st2_ne (fun q => h2 q.1)
  refine ⟨V', L', s1, s2', s3, s4, ?_, fr, ?_⟩
  · refine PV_ag hP2 (fun a i h => ?_)
    have : mv a i = 5 := by
      rcases h with h | h
      · exact mv5_i (by omega)
      · rw [h.1, h.2]; rfl
    show w32 _ = w32 _
    rw [s5 a i (by unfold m1; rw [this]; rfl)]
  · refine ⟨?_, ho.2.1, fun i hi => ?_⟩
    · have : vI V' 156 41 = vI V 156 41 := by show w32 _ = w32 _; rw [fr 156 41 (by decide) (by decide)]
      rw [this]; exact ho.1
    · have : vI V' 188 i = vI V 188 i := by show w32 _ = w32 _; rw [fr 188 i (by show (9 : Nat) ≠ 1; decide) (by decide)]
      rw [this]; exact ho.2.2 i hi
/-- a request as it is sent once more -/
def goQ (y : Rq) (ddl : Int) : Rq := (qNum y, qAdr y, qTyp y, ddl, qSnt y + 1, qKey y, qByt y, qWrk y, qPrb y)
theorem v_goL (h : RqV V p R (nx p)) (hs : s ∈ slQ V p) (hp : p < 32) : ∃ U, f_X16_go (p : Int) (s : Int) V = j_X16_go_44 (p : Int) (s : Int) U ∧ OutV U (qByt (gQ V s)) ∧ FrS PO V U := by
  have hm := slQ_mem.mp hs
  have hlen := (h.2.2.2.2 s hs).1
  have hok := (h.2.2.2.1 _ (rq_slot h hs)).2.2
  obtain ⟨n, hn⟩ : ∃ n, n = (qByt (gQ V s)).length := ⟨_, rfl⟩
  have hn2 : n ≤ 350 := by rw [hn]; exact hok.2.2.1.2
  rw [← hn] at hlen
  have hbl := hok.2.2.2.1
  have hbt : ∀ i, i < n → (qByt (gQ V s)).getD i 0 = vI V 208 (350 * s + i) := fun i hi => by
    show (rws _ _).getD i 0 = _
    rw [hlen, Int.toNat_natCast, rws_getD hi]
  let V1 := st2 V 156 41 (n : Int)
  obtain ⟨⟨z, U⟩, n2, hn2', ⟨rfl, g1, g2⟩, q2⟩ := lp_inv (b := fun s' : Int × VV => b_X16_go_12 (p : Int) (s : Int) s'.1 s'.2) (fun k s' => s'.1 = (k : Int) ∧ (∀ i, i < k → vI s'.2 188 i = vI V 208 (350 * s + i)) ∧ FrS (fun a _ => a = 188) V1 s'.2) n
    (by
      rintro k ⟨z, U⟩ hk ⟨rfl, g1, g2⟩
      dsimp only at g1 g2 ⊢
      have u41 : vI U 156 41 = (n : Int) := by
        rw [g2.vI (by omega)]
        show vI (st2 _ 156 41 _) 156 41 = _
        rw [vI_eq rfl, w32_nn (by omega)]
      have u208 : vI U 208 (350 * s + k) = vI V 208 (350 * s + k) := by
        rw [g2.vI (by omega)]
        show vI (st2 _ _ _ _) _ _ = _
        rw [vI_ne (by omega)]
      refine ⟨(((k : Nat) : Int) + 1, st2 U 188 k (vI V 208 (350 * s + k))), ?_, rfl, fun i hi => ?_, g2.trans (FrS_st rfl)⟩
      · unfold b_X16_go_12
        rw [show w32 (U 156 41) = (n : Int) from u41, w32_nn (by omega), w32_nn (by omega), if_pos (by omega), c350m, cadd, l2_n (by omega) (by decide), Option.bind_some, u208, s2_n (by omega) (by decide)]
        rfl
      · dsimp only
        rw [vI_st2]
        by_cases c : i = k
        · rw [if_pos ⟨rfl, c⟩, c, w32_vI]
        · rw [if_neg (fun z => c z.2)]; exact g1 i (by omega)) FU 0 (0, V1) (by omega) (by unfold FU; omega) ⟨rfl, fun i hi => by omega, FrS.refl⟩
  dsimp only at g1 g2
  have u41 : vI U 156 41 = (n : Int) := by
    rw [g2.vI (by omega)]
    show vI (st2 _ 156 41 _) 156 41 = _
    rw [vI_eq rfl, w32_nn (by omega)]
  refine ⟨U, ?_, ⟨by rw [← hn]; exact u41, by rw [← hn]; omega, fun i hi => ?_⟩, (FrS_st (Or.inr ⟨rfl, rfl⟩)).trans (g2.mono (fun a i q => Or.inl q))⟩
  · unfold f_X16_go
    rw [l2_n (by omega) (by decide), Option.bind_some, hlen, p2_e, Option.bind_some]
    unfold l_X16_go_12
    refine q2.trans ?_
    refine lpN_end (b := fun s' : Int × VV => b_X16_go_12 (p : Int) (s : Int) s'.1 s'.2) hn2' ?_
    dsimp only
    unfold b_X16_go_12
    rw [show w32 (U 156 41) = (n : Int) from u41, if_neg (by omega)]
  · rw [← hn] at hi
    rw [hbt i hi]; exact g1 i hi
theorem v_go (h : RqsV V Rs nx) (hs : s ∈ slQ V p) (hp : p < 32) (hN : VNet V st tm lo fl L) (hP : PV V N own sd ps sn pu rf tl) (hst : stOK st) (htm : 0 ≤ tm ∧ tm ≤ 1000000) (hL : L + 2 < 2000000000) (hsn : qSnt (gQ V s) < 4) :
    ∃ V' L', f_X16_go (p : Int) (s : Int) V = some V' ∧ RqsV V' (fup Rs p (upQ (Rs p) (goQ (gQ V s) (tm + st 4)))) nx ∧ VNet V' (sndS st tm lo fl (apS N sd p (qAdr (gQ V s))) p (qAdr (gQ V s)) (qByt (gQ V s))).1 tm (sndS st tm lo fl (apS N sd p (qAdr (gQ V s))) p (qAdr (gQ V s)) (qByt (gQ V s))).2.1 (sndS st tm lo fl (apS N sd p (qAdr (gQ V s))) p (qAdr (gQ V s)) (qByt (gQ V s))).2.2 L' ∧ L ≤ L' ∧ L' ≤ L + 2 ∧ PV V' N own sd ps sn pu rf (tlU tl (5 * p + 3)) ∧ FrS PG V V' ∧ SK V V' := by
  have hR := h p hp
  have hm := slQ_mem.mp hs
  have hok := (hR.2.2.2.1 _ (rq_slot hR hs)).2.2
  have hsl := hR.2.2.2.2 s hs
  obtain ⟨U, a1, a2, a3⟩ := v_goL hR hs hp
  obtain ⟨y, hy⟩ : ∃ y, y = gQ V s := ⟨_, rfl⟩
  rw [← hy] at hsn hok hsl a2 ⊢
  have y203 : vI V 203 s = qSnt y := by rw [hy]; rfl
  have y199 : vI V 199 s = qAdr y := by rw [hy]; rfl
  have r1 : ∀ a i, a ≠ 188 → ¬ (a = 156 ∧ i = 41) → vI U a i = vI V a i := fun a i h1 h2 => a3.vI (by unfold PO; omega)
  have st4 : 1 ≤ st 4 ∧ st 4 ≤ 500 := by
    obtain ⟨-, -, -, -, h4, -⟩ := hst
    exact h4
  let U2 := st2 (st2 U 203 s (qSnt y + 1)) 202 s (tm + st 4)
  have r2 : ∀ a i, a ≠ 188 → ¬ (a = 156 ∧ i = 41) → ¬ (a = 203 ∧ i = s) → ¬ (a = 202 ∧ i = s) → vI U2 a i = vI V a i := fun a i h1 h2 h3 h4 => by
    show vI (st2 (st2 U _ _ _) _ _ _) _ _ = _
    rw [vI_ne h4, vI_ne h3, r1 a i h1 h2]
  have hN2 : VNet U2 st tm lo fl L := by
    refine VNet_fr (S := fun m => m == 5 || m == 9) (fun a i hq => ?_) rfl hN
    show st2 (st2 U 203 s _) 202 s _ a i = _
    have e1 : ¬ PO a i := fun z => by
      rcases z with z | z
      · rw [z] at hq; exact absurd hq (by show ¬ ((true : Bool) = false); decide)
      · rw [z.1, z.2] at hq; exact absurd hq (by decide)
    rw [st2_ne (fun z => by rw [z.1] at hq; exact absurd hq (by show ¬ ((true : Bool) = false); decide)), st2_ne (fun z => by rw [z.1] at hq; exact absurd hq (by show ¬ ((true : Bool) = false); decide))]
    exact a3 a i e1
  have hP2 : PV U2 N own sd ps sn pu rf tl := PV_ag hP (fun a i hq => r2 a i (by omega) (by omega) (by omega) (by omega))
  have ho2 : OutV U2 (qByt y) := by
    refine ⟨?_, a2.2.1, fun i hi => ?_⟩
    · show vI (st2 (st2 U _ _ _) _ _ _) _ _ = _
      rw [vI_ne (by omega), vI_ne (by omega)]; exact a2.1
    · show vI (st2 (st2 U _ _ _) _ _ _) _ _ = _
      rw [vI_ne (by omega), vI_ne (by omega)]; exact a2.2.2 i hi
  have hwa : w32 (qAdr y) = qAdr y := by rw [← y199, w32_vI]
  obtain ⟨V', L', s1, s2', s3, s4, s5, s6, s7⟩ := v_sendP (t := qAdr y) hN2 hP2 hst htm hp hwa hL ho2
  have fr : ∀ a i, mv a i ≠ 1 → a ≠ 172 → a ≠ 188 → ¬ (a = 156 ∧ i = 41) → ¬ (a = 203 ∧ i = s) → ¬ (a = 202 ∧ i = s) → vI V' a i = vI V a i := fun a i h1 h2 h3 h4 h5 h6 => by
    have : vI V' a i = vI U2 a i := by show w32 _ = w32 _; rw [s6 a i h1 h2]
    rw [this, r2 a i h3 h4 h5 h6]
  have n5 : ∀ a i, (165 ≤ a ∧ a ≤ 172) ∨ (197 ≤ a ∧ a ≤ 208) → mv a i ≠ 1 := fun a i hq => by rw [mv5_i hq]; decide
  have f231 : ∀ t, vI V' 231 t = vI V 231 t := fun t => fr 231 t (by show (6 : Nat) ≠ 1; decide) (by decide) (by decide) (by omega) (by omega) (by omega)
  have fo : ∀ r, r ≠ s → gQ V' r = gQ V r ∧ ∀ a, 197 ≤ a → a ≤ 207 → vI V' a r = vI V a r := fun r hr => by
    have q : ∀ a, 197 ≤ a → a ≤ 207 → vI V' a r = vI V a r := fun a h1 h2 => fr a r (n5 a r (by omega)) (by omega) (by omega) (by omega) (by omega) (by omega)
    exact ⟨gQ_ext (fun a h1 h2 _ => q a (by omega) (by omega)) (gk_ext (fun i _ => fr 200 _ (n5 _ _ (by omega)) (by omega) (by omega) (by omega) (by omega) (by omega))) (fun i _ => fr 208 _ (n5 _ _ (by omega)) (by omega) (by omega) (by omega) (by omega) (by omega)) f231, q⟩
  have fs : ∀ a, 197 ≤ a → a ≤ 207 → a ≠ 203 → a ≠ 202 → vI V' a s = vI V a s := fun a h1 h2 h3 h4 => fr a s (n5 a s (by omega)) (by omega) (by omega) (by omega) (by omega) (by omega)
  have v203 : vI V' 203 s = qSnt y + 1 := by
    have : vI V' 203 s = vI U2 203 s := by show w32 _ = w32 _; rw [s6 203 s (n5 _ _ (by omega)) (by decide)]
    rw [this]
    show vI (st2 (st2 U _ _ _) _ _ _) _ _ = _
    rw [vI_ne (by omega), vI_eq rfl, w32_id (by have := hok.2.2.2.2; omega) (by omega)]
  have v202 : vI V' 202 s = tm + st 4 := by
    have : vI V' 202 s = vI U2 202 s := by show w32 _ = w32 _; rw [s6 202 s (n5 _ _ (by omega)) (by decide)]
    rw [this]
    show vI (st2 (st2 U _ _ _) _ _ _) _ _ = _
    rw [vI_eq rfl, w32_id (by omega) (by omega)]
  have gs : gQ V' s = goQ y (tm + st 4) := by
    unfold gQ goQ
    rw [fs 198 (by omega) (by omega) (by omega) (by omega), fs 199 (by omega) (by omega) (by omega) (by omega), fs 201 (by omega) (by omega) (by omega) (by omega), v202, v203, fs 204 (by omega) (by omega) (by omega) (by omega), fs 205 (by omega) (by omega) (by omega) (by omega), fs 206 (by omega) (by omega) (by omega) (by omega), fs 207 (by omega) (by omega) (by omega) (by omega), gk_ext (fun i _ => fr 200 _ (n5 _ _ (by omega)) (by omega) (by omega) (by omega) (by omega) (by omega)), rws_congr (g := fun i => vI V 208 (350 * s + i)) (fun i _ => fr 208 _ (n5 _ _ (by omega)) (by omega) (by omega) (by omega) (by omega) (by omega)), f231, hy]
    rfl
  have f171 : ∀ z, vI V' 171 z = vI V 171 z := fun z => fr 171 z (n5 _ _ (by omega)) (by omega) (by omega) (by omega) (by omega) (by omega)
  refine ⟨V', L', ?_, fun q hq => ?_, s2', s3, s4, s5, ?_, fun r _ => ⟨fr 197 r (n5 _ _ (by omega)) (by omega) (by omega) (by omega) (by omega) (by omega), fr 198 r (n5 _ _ (by omega)) (by omega) (by omega) (by omega) (by omega) (by omega)⟩⟩
  · rw [a1]
    unfold j_X16_go_44
    have e4 : (4 : Int) = ((4 : Nat) : Int) := rfl
    have u203 : vI U 203 s = qSnt y := by rw [r1 _ _ (by omega) (by omega)]; exact y203
    have u162 : vI (st2 U 203 s (qSnt y + 1)) 162 4 = st 4 := by rw [vI_ne (by omega), r1 _ _ (by omega) (by omega)]; exact hN.1 4 (by decide)
    have u11 : vI (st2 U 203 s (qSnt y + 1)) 156 11 = tm := by rw [vI_ne (by omega), r1 _ _ (by omega) (by omega)]; exact hN.2.1
    rw [l2_n (by omega) (by decide), Option.bind_some, u203, s2_n (by omega) (by decide), Option.bind_some, e4, l2_n (by omega) (by decide), Option.bind_some, u162, show w32 (st2 U 203 s (qSnt y + 1) 156 11) = tm from u11, s2_n (by omega) (by decide), Option.bind_some, l2_n (by omega) (by decide), Option.bind_some]
    rw [show vI (st2 (st2 U 203 s (qSnt y + 1)) 202 s (tm + st 4)) 199 s = qAdr y by rw [vI_ne (by omega), vI_ne (by omega), r1 _ _ (by omega) (by omega)]; exact y199]
    show (f_X16_send (p : Int) (qAdr y) U2).bind _ = _
    rw [s1]
    rfl
  · by_cases c : q = p
    · subst c
      rw [fup_eq]
      refine rq_upd hR hs gs (by rw [← hy]; rfl) ⟨hok.1, hok.2.1, hok.2.2.1, hok.2.2.2.1, ?_⟩ ?_ ⟨fs 204 (by omega) (by omega) (by omega) (by omega), fs 205 (by omega) (by omega) (by omega) (by omega)⟩ (f171 q) (fun r h1 h2 => ⟨fr 197 r (n5 _ _ (by omega)) (by omega) (by omega) (by omega) (by omega) (by omega), fun hr => ?_⟩) (fun t _ => f231 t)
      · show 0 ≤ qSnt y + 1 ∧ qSnt y + 1 ≤ 4
        have := hok.2.2.2.2
        omega
      · rw [fs 207 (by omega) (by omega) (by omega) (by omega), hsl.1]; rfl
      · obtain ⟨b1, b2⟩ := fo r hr
        exact ⟨b1, b2 207 (by omega) (by omega), b2 204 (by omega) (by omega), b2 205 (by omega) (by omega)⟩
    · rw [fup_ne c]
      refine rq_ag (h q hq) (f171 q) (fun r h1 h2 => ?_) (fun t _ => f231 t)
      obtain ⟨b1, b2⟩ := fo r (by omega)
      exact ⟨b2 197 (by omega) (by omega), fun _ => ⟨b1, b2 207 (by omega) (by omega), b2 204 (by omega) (by omega), b2 205 (by omega) (by omega)⟩⟩
  · intro a i hq
    have h1 : mv a i ≠ 1 := fun z => hq (Or.inl z)
    have h5 : mv a i ≠ 5 := fun z => hq (Or.inr (Or.inl z))
    have hPO : ¬ PO a i := fun z => hq (Or.inr (Or.inr z))
    rw [s6 a i h1 (fun z => h5 (by rw [z]; rfl))]
    show st2 (st2 U 203 s _) 202 s _ a i = _
    rw [st2_ne (fun z => h5 (by rw [z.1]; rfl)), st2_ne (fun z => h5 (by rw [z.1]; rfl))]
    exact a3 a i hPO
end VGO2
