/-! the peers' part of the reference, by the same state; L datagrams launched, Z stamps given -/
def VP (V : VV) (m al N : Nat) (own : Nat → Ky) (sd ps sn pu rf : Nat → Int) (tm : Int) (w : Wd) (L Z : Nat) : Prop :=
  VNet V (wst w) tm (wlo w) (wfl w) L ∧ PV V N own sd ps sn pu rf (wtl w) ∧ TabsV V own (wT w) Z ∧ StsV V (wS w) ∧ RqsV V (wQ w) (wnx w) ∧ vI V 156 0 = (m : Int) ∧ vI V 156 1 = (al : Int) ∧ 1 ≤ m ∧ m ≤ 20
section VPS
variable {V W : VV} {S : Nat → Bool} {m al N p : Nat} {own : Nat → Ky} {sd ps sn pu rf : Nat → Int} {tm : Int} {w : Wd} {L Z : Nat} {Ts : Nat → List Row} {Ss : Nat → List Post} {Rs : Nat → List Rq} {nx : Nat → Nat}
theorem tabs_frV (f : FrV S V W) (hs : S 2 = false) (h : TabsV V own Ts Z) : TabsV W own Ts Z := by
  have g : ∀ a i, (189 ≤ a ∧ a ≤ 194) → vI W a i = vI V a i := fun a i ha => fv f (by
    have : mv a i = 2 := by unfold mv mvA; rw [if_neg (by omega), if_neg (by omega), if_pos ha]
    rw [this]; exact hs)
  refine ⟨by rw [fv f (show S (mv 156 42) = false from hs)]; exact h.1, fun p hp => ?_⟩
  obtain ⟨h1, h2, TS, t1, t2, t3, t4⟩ := h.2 p hp
  refine ⟨by rw [g 189 p (by omega)]; exact h1, h2, TS, t1, t2, t3, ?_⟩
  have : rowsV W p (Ts p).length = rowsV V p (Ts p).length := rws_congr (fun i _ => by
    unfold gR
    rw [g 191 _ (by omega), g 192 _ (by omega), g 193 _ (by omega), g 194 _ (by omega), gk_ext (fun i _ => g 190 _ (by omega))])
  rw [this]; exact t4
theorem sts_frV (f : FrV S V W) (hs : S 3 = false) (h : StsV V Ss) : StsV W Ss := fun p hp => by
  have g : ∀ a i, (210 ≤ a ∧ a ≤ 215) → vI W a i = vI V a i := fun a i ha => fv f (by
    have : mv a i = 3 := by unfold mv mvA; rw [if_neg (by omega), if_neg (by omega), if_neg (by omega), if_pos ha]
    rw [this]; exact hs)
  exact st_ag (h p hp) (g 210 p (by omega)) (fun j _ => gP_ext (gk_ext (fun i _ => g 211 _ (by omega))) (g 212 _ (by omega)) (g 213 _ (by omega)) (g 214 _ (by omega)) (g 215 _ (by omega)))
theorem rqs_ag (h : RqsV V Rs nx) (g : ∀ a i, a = 171 ∨ (197 ≤ a ∧ a ≤ 208) ∨ a = 231 → vI W a i = vI V a i) : RqsV W Rs nx := fun p hp => by
  refine rq_ag (h p hp) (g 171 p (by omega)) (fun r r1 r2 => ⟨g 197 r (by omega), fun _ => ⟨gQ_ext (fun a a1 a2 _ => g a r (by omega)) (gk_ext (fun i _ => g 200 _ (by omega))) (fun i _ => g 208 _ (by omega)) (fun t => g 231 t (by omega)), g 207 r (by omega), g 204 r (by omega), g 205 r (by omega)⟩⟩) (fun t _ => g 231 t (by omega))
theorem rqs_frV (f : FrV S V W) (hs : S 5 = false ∧ S 6 = false) (h : RqsV V Rs nx) : RqsV W Rs nx := rqs_ag h (fun a i ha => fv f (by
  have : mv a i = 5 ∨ mv a i = 6 := by
    by_cases c : a = 231
    · right; rw [c]; rfl
    · left; exact mv5_i (by omega)
  rcases this with e | e <;> rw [e]
  · exact hs.1
  · exact hs.2))
theorem PV_frV {tl : Nat → Int} (f : FrV S V W) (hs : S 5 = false) (h : PV V N own sd ps sn pu rf tl) : PV W N own sd ps sn pu rf tl := PV_ag h (fun a i ha => fv f (by
  have : mv a i = 5 := by
    rcases ha with e | e
    · exact mv5_i (by omega)
    · rw [e.1, e.2]; rfl
  rw [this]; exact hs))
/-- steps that write scratch alone -/
theorem vp_fr (f : FrV S V W) (hs : S 1 = false ∧ S 2 = false ∧ S 3 = false ∧ S 5 = false ∧ S 6 = false ∧ S 8 = false) (h : VP V m al N own sd ps sn pu rf tm w L Z) : VP W m al N own sd ps sn pu rf tm w L Z := by
  obtain ⟨h1, h2, h3, h4, h5, h6, h7, h8⟩ := h
  exact ⟨VNet_fr f hs.1 h1, PV_frV f hs.2.2.2.1 h2, tabs_frV f hs.2.1 h3, sts_frV f hs.2.2.1 h4, rqs_frV f ⟨hs.2.2.2.1, hs.2.2.2.2.1⟩ h5, by rw [fv f (show S (mv 156 0) = false from hs.2.2.2.2.2)]; exact h6, by rw [fv f (show S (mv 156 1) = false from hs.2.2.2.2.2)]; exact h7, h8⟩
/-- the same by cells -/
theorem FrS_V {P : Nat → Nat → Prop} (f : FrS P V W) (hs : ∀ a i, P a i → S (mv a i) = true) : FrV S V W := f.fr hs
theorem vp_send {ad : Int} {l : List Int} (h : VP V m al N own sd ps sn pu rf tm w L Z) (ho : okW N own tm w) (hp : p < N) (ha : 0 ≤ ad ∧ ad < 32) (hl : OutV V l) (hL : L + 2 < 2000000000) : ∃ V' L', f_X16_send (p : Int) ad V = some V' ∧ VP V' m al N own sd ps sn pu rf tm (sendY N sd tm w p ad l) L' Z ∧ L ≤ L' ∧ L' ≤ L + 2 ∧ (∀ a i, mv a i ≠ 1 → a ≠ 172 → V' a i = V a i) ∧ OutV V' l := by
  obtain ⟨h1, h2, h3, h4, h5, h6, h7, h8⟩ := h
  have hN := h2.2.1
  obtain ⟨V', L', e1, e2, e3, e4, e5, e6, e7⟩ := v_sendP (t := ad) (p := p) h1 h2 ho.1 ho.2.1 (by omega) (w32_id (by omega) (by omega)) hL hl
  have g : ∀ a i, mv a i ≠ 1 → a ≠ 172 → vI V' a i = vI V a i := fun a i a1 a2 => by show w32 _ = w32 _; rw [e6 a i a1 a2]
  have f : FrV (fun z => z == 1 || z == 5) V V' := fun a i ha => e6 a i (fun z => by rw [z] at ha; exact absurd ha (by decide)) (fun z => by rw [z, show mv 172 i = 5 from rfl] at ha; exact absurd ha (by decide))
  refine ⟨V', L', e1, ⟨e2, e5, tabs_frV f (by decide) h3, sts_frV f (by decide) h4, rqs_ag h5 (fun a i ha => g a i (fun z => ?_) (by omega)), by rw [g _ _ (by decide) (by decide)]; exact h6, by rw [g _ _ (by decide) (by decide)]; exact h7, h8⟩, e3, e4, e6, e7⟩
  rcases mv1_w z with q | q | q <;> omega
theorem newQ_Y {n : Nat} {ad ty ddl : Int} {key : Ky} {bt : List Int} {tk pb : Int} : newQ n ad ty ddl key bt tk pb = newY n ad ty ddl key bt (wkO tk) (pbO pb) := rfl
theorem vp_ask {ad ty tk pb : Int} {bd : List Int} {e q n : Nat} (h : VP V m al N own sd ps sn pu rf tm w L Z) (ho : okW N own tm w) (hp : p < N) (ha : 0 ≤ ad ∧ ad < 32) (hL : L + 2 < 2000000000) (hty : 0 ≤ ty ∧ ty < 256) (he : mA e n) (hq : q + 5 ≤ n) (hn : n ≤ 1000000) (hem : ∀ i, mv e i ≠ 5 ∧ ¬ PO e i) (hnx : 0 < wnx w p) (htk : tk = -1 ∨ (0 ≤ tk ∧ tk < 44)) (hpb : pb = -1 ∨ (0 ≤ pb ∧ pb < 160)) (hb : (ty = 1 ∧ bd = []) ∨ (ty ≠ 1 ∧ BodyV V bd)) (hbl : isBL bd) (hbd : bd.length ≤ 325) (htn : 0 ≤ vI V 231 0) :
    ∃ V' L', f_X16_ask (p : Int) ad (e : Int) (q : Int) ty tk pb V = some (b2i (askY N own sd tm w p ad ty (gk V e q) bd (wkO tk) (pbO pb)).2, V') ∧ VP V' m al N own sd ps sn pu rf tm (askY N own sd tm w p ad ty (gk V e q) bd (wkO tk) (pbO pb)).1 L' Z ∧ L ≤ L' ∧ L' ≤ L + (if (askY N own sd tm w p ad ty (gk V e q) bd (wkO tk) (pbO pb)).2 = true then 2 else 0) ∧ FrS PG V V' ∧ SK V V' := by
  have h0 := h
  obtain ⟨h1, h2, h3, h4, h5, h6, h7, h8⟩ := h
  have hN := h2.2.1
  have key := v_ask (bd := bd) h5 (show p < 32 by omega) h1 h2 ho.1 ho.2.1 hL ha hty he hq hn hem ⟨hnx, (ho.2.2.2 p hp).2.2.2.1⟩ htk hpb (by rcases hb with z | z; exact Or.inl z.1; exact Or.inr z.2) hbl hbd htn
  have ebt : askB ty (wnx w p) (own p) bd = hdB ty (wnx w p : Int) (kf (own p)) ++ bd := by
    unfold askB
    rcases hb with z | z
    · rw [if_pos z.1, z.2]
    · rw [if_neg z.1]
  unfold askY
  by_cases c : (wQ w p).length = 40
  · rw [if_pos c] at key ⊢
    exact ⟨V, L, key, h0, Nat.le_refl _, by omega, FrS.refl, SK.refl⟩
  · rw [if_neg c] at key ⊢
    obtain ⟨V', L', e1, e2, e3, e4, e5, e6, e7, e8⟩ := key
    rw [ebt] at e2 e3
    have f : FrV (fun z => z == 1 || z == 5 || z == 9) V V' := e7.fr (fun a i ha => by
      rcases ha with z | z | z
      · rw [z]; decide
      · rw [z]; decide
      · unfold PO at z
        rcases z with z | z
        · rw [z]; rfl
        · rw [z.1, z.2]; rfl)
    exact ⟨V', L', e1, ⟨e3, e6, tabs_frV f (by decide) h3, sts_frV f (by decide) h4, e2, by rw [fv f (show (fun z => z == 1 || z == 5 || z == 9) (mv 156 0) = false from rfl)]; exact h6, by rw [fv f (show (fun z => z == 1 || z == 5 || z == 9) (mv 156 1) = false from rfl)]; exact h7, h8⟩, e4, by rw [if_pos rfl]; exact e5, e7, e8⟩
/-- a peer sees a key at an address -/
theorem vp_see {ad : Int} {e q n : Nat} (h : VP V m al N own sd ps sn pu rf tm w L Z) (ho : okW N own tm w) (ho2 : okW N own tm (setT w (fup (wT w) p (seeT m (own p) (gk V e q) ad (wT w p)).1))) (hp : p < N) (ha : 0 ≤ ad ∧ ad < 32) (hL : L + 2 < 2000000000) (hZ : Z + 1 < 2147483647) (he : mA e n) (hq : q + 5 ≤ n) (hn : n ≤ 1000000) (hem : ∀ i, mv e i = 5 ∨ mv e i = 9 ∨ mv e i = 6) (hnx : 0 < wnx w p) (htn : 0 ≤ vI V 231 0) :
    ∃ V' L' Z', f_X16_see (p : Int) (e : Int) (q : Int) ad V = some V' ∧ VP V' m al N own sd ps sn pu rf tm (seeY m N own sd tm w p (gk V e q) ad) L' Z' ∧ L ≤ L' ∧ L' ≤ L + 2 ∧ Z ≤ Z' ∧ Z' ≤ Z + 1 ∧ FrS (fun a i => mv a i = 2 ∨ PG a i) V V' ∧ SK V V' := by
  have h0 := h
  obtain ⟨h1, h2, h3, h4, h5, h6, h7, h8⟩ := h
  have hN := h2.2.1
  have kyo1 := (ho.2.2.2 p hp).1
  have l100 := (ho.2.2.2 p hp).2.1
  have hown : gk V 165 (5 * p) = own p := (h2.2.2.1 p (by omega)).1
  obtain ⟨key, hkey⟩ : ∃ key, key = gk V e q := ⟨_, rfl⟩
  have hkok : kyo key := by rw [hkey]; exact gk_ok V e q
  rw [← hkey] at ho2 ⊢
  have hkl := kc_lo key (own p)
  have hkh := kc_hi key (own p)
  by_cases ko : key = own p
  · have es : seeT m (own p) key ad (wT w p) = (wT w p, false) := by unfold seeT; rw [if_pos ko]
    have ey : seeY m N own sd tm w p key ad = w := by
      unfold seeY
      rw [es, if_neg (by simp)]
      show setT w (fup (wT w) p (wT w p)) = w
      rw [fup_self]; rfl
    rw [ey]
    refine ⟨V, L, Z, ?_, h0, Nat.le_refl _, by omega, Nat.le_refl _, by omega, FrS.refl, SK.refl⟩
    have k160 : kc key (own p) = 160 := (kc_160 hkok kyo1).mpr ko
    have hcm : f_X16_common (e : Int) (q : Int) 165 (5 * (p : Int)) V = some 160 := by
      have := v_common (V := V) he hq hn m165 (show 5 * p + 5 ≤ 160 by omega) (by decide)
      rw [← k160, hkey, ← hown, c5m]
      exact this
    unfold f_X16_see f_X16_seen
    rw [hcm, Option.bind_some, if_pos rfl, Option.bind_some, if_pos (show w32 (-1) < 0 by decide)]
    rfl
  · have k160 : kc key (own p) ≠ 160 := fun z => ko ((kc_160 hkok kyo1).mp z)
    obtain ⟨C, hC⟩ : ∃ C : Nat, kc key (own p) = ((C : Nat) : Int) := ⟨(kc key (own p)).toNat, by omega⟩
    have hprb : ∀ W', FrV m2 V W' → f_X16_probes (p : Int) (kc (gk V e q) (own p)) W' = some (b2i (prF (wQ w) p C)) := fun W' f => by
      rw [← hkey, v_probes (rqs_frV f ⟨by decide, by decide⟩ h5 p (by omega)) (by omega) (by omega), hC]
      rfl
    obtain ⟨V1, res, Z1, e1, e2, e3, e4, e5, e6⟩ := v_seen (ad := ad) (k := m) (pb := prF (wQ w) p C) h3 (show p < 32 by omega) h6 ⟨h8.1, h8.2⟩ hown he hq hn (fun i => by rcases hem i with z | z | z <;> rw [z] <;> decide) (w32_id (by omega) (by omega)) (by omega) hZ hprb
    rw [← hkey] at e2 e6
    obtain ⟨w1, hw1⟩ : ∃ w1, w1 = setT w (fup (wT w) p (seeT m (own p) key ad (wT w p)).1) := ⟨_, rfl⟩
    have VP1 : VP V1 m al N own sd ps sn pu rf tm w1 L Z1 := by
      rw [hw1]
      exact ⟨VNet_fr e5 (by decide) h1, PV_frV e5 (by decide) h2, e2, sts_frV e5 (by decide) h4, rqs_frV e5 ⟨by decide, by decide⟩ h5, by rw [fv e5 (show m2 (mv 156 0) = false from rfl)]; exact h6, by rw [fv e5 (show m2 (mv 156 1) = false from rfl)]; exact h7, h8⟩
    have F1 : FrS (fun a i => mv a i = 2 ∨ PG a i) V V1 := fun a i ha => e5 a i (by
      unfold m2
      have : mv a i ≠ 2 := fun z => ha (Or.inl z)
      simpa using this)
    have K1 : SK V V1 := SK_ag (fun r => ⟨fv e5 (show m2 (mv 197 r) = false from rfl), fv e5 (show m2 (mv 198 r) = false from rfl)⟩)
    rw [← hw1] at ho2
    unfold f_X16_see
    rw [e1, Option.bind_some]
    dsimp only
    unfold seeY
    rw [← hw1]
    have eC : (kc key (own p)).toNat = C := by omega
    rw [eC]
    by_cases full : (seeT m (own p) key ad (wT w p)).2 = true
    · rw [if_pos full] at e6
      unfold SeenV at e6
      by_cases pf : prF (wQ w) p C = true
      · rw [if_pos pf] at e6
        rw [if_neg (show ¬ ((seeT m (own p) key ad (wT w p)).2 = true ∧ prF (wQ w) p C = false) by rw [pf]; simp), e6, if_pos (show w32 (-1) < 0 by decide)]
        exact ⟨V1, L, Z1, rfl, VP1, Nat.le_refl _, by omega, e3, e4, F1, K1⟩
      · rw [if_neg pf] at e6
        obtain ⟨i, x, s, i1, i2, i3, i4, i5⟩ := e6
        have pf : prF (wQ w) p C = false := by simpa using pf
        rw [if_pos (show (seeT m (own p) key ad (wT w p)).2 = true ∧ prF (wQ w) p C = false from ⟨full, pf⟩), i5]
        dsimp only
        have xT : x ∈ wT w1 p := by rw [hw1]; show x ∈ fup (wT w) p _ p; rw [fup_eq]; exact i4
        have xad := (ho2.2.2.2 p hp).2.2.1 x xT
        have i100 : i < 100 := by
          have := (ho2.2.2.2 p hp).2.1
          rw [hw1] at this
          have e : wT (setT w (fup (wT w) p (seeT m (own p) key ad (wT w p)).1)) p = (seeT m (own p) key ad (wT w p)).1 := fup_eq
          rw [e] at this
          omega
        have rC : vI V1 192 (1100 * p + i) = ((C : Nat) : Int) := by
          have e : (gR V1 (1100 * p + i)).2.2.1 = kc x.1 (own p) := by rw [i3]; rfl
          have hx := (List.mem_filter.mp (List.mem_of_mem_head? (by rw [i5]; rfl))).2
          unfold pr at hx
          simp only [Bool.and_eq_true, decide_eq_true_eq] at hx
          rw [← hC, ← hx.1]; exact e
        have rP : vI V1 191 (1100 * p + i) = x.2.1 := by
          have e : (gR V1 (1100 * p + i)).2.1 = x.2.1 := by rw [i3]; rfl
          exact e
        have rK : gk V1 190 (5 * (1100 * p + i)) = x.1 := by
          have e : (gR V1 (1100 * p + i)).1 = x.1 := by rw [i3]; rfl
          exact e
        have nx1 : 0 < wnx w1 p := by rw [hw1]; exact hnx
        obtain ⟨V2, L2, a1, a2, a3, a4, a5, a6⟩ := vp_ask (ad := x.2.1) (ty := 1) (tk := -1) (pb := ((C : Nat) : Int)) (bd := []) (e := 190) (q := 5 * (1100 * p + i)) (n := 176000) VP1 ho2 hp xad hL (by omega) m190 (by omega) (by decide) (fun j => ⟨by show (2 : Nat) ≠ 5; decide, by unfold PO; omega⟩) nx1 (Or.inl rfl) (Or.inr (by omega)) (Or.inl ⟨rfl, rfl⟩) (fun b hb => by simp at hb) (by decide) (by rw [fv e5 (show m2 (mv 231 0) = false from rfl)]; exact htn)
        rw [rK, show wkO (-1) = none from rfl, show pbO ((C : Nat) : Int) = some ((C : Nat) : Int) from by unfold pbO; rw [if_pos (by omega)]] at a1 a2 a4
        refine ⟨V2, L2, Z1, ?_, by rw [hC]; exact a2, a3, by split at a4 <;> omega, e3, e4, F1.trans (a5.mono (fun a i z => Or.inr z)), K1.trans a6⟩
        rw [i2, if_neg (show ¬ w32 ((1100 * p + i : Nat) : Int) < 0 by rw [w32_nn (by omega)]; omega), l2_e (w32_nn (by omega)) (by omega), rC, Option.bind_some, l2_e (w32_nn (by omega)) (by omega), rP, Option.bind_some, show (5 * ((1100 * p + i : Nat) : Int)) = ((5 * (1100 * p + i) : Nat) : Int) by omega]
        rw [show f_X16_ask (p : Int) x.2.1 190 ((5 * (1100 * p + i) : Nat) : Int) 1 (-1) ((C : Nat) : Int) V1 = _ from a1, Option.bind_some]
        rfl
    · rw [if_neg full] at e6
      rw [if_neg (show ¬ ((seeT m (own p) key ad (wT w p)).2 = true ∧ prF (wQ w) p C = false) from fun z => full z.1), e6, if_pos (show w32 (-1) < 0 by decide)]
      exact ⟨V1, L, Z1, rfl, VP1, Nat.le_refl _, by omega, e3, e4, F1, K1⟩
end VPS
