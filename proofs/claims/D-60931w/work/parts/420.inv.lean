/-! counts that stay small: requests asked by events (ev), datagrams sent otherwise (oth) -/
def EvI (N : Nat) (ev : Nat → Nat) (w : Wd) : Prop := ∀ p, p < N → 0 < wnx w p ∧ wnx w p ≤ 1 + (wQ w p).length + ev p ∧ (wQ w p).length ≤ 40
def bdg (N : Nat) (ev : Nat → Nat) (oth : Nat) : Prop := sumN ev N + oth ≤ 400000000 ∧ N ≤ 32
def VQ (V : VV) (m al N : Nat) (own : Nat → Ky) (sd ps sn pu rf : Nat → Int) (tm : Int) (w : Wd) (oth Z : Nat) : Prop := ∃ L, VP V m al N own sd ps sn pu rf tm w L Z ∧ L ≤ 2 * (sumN (wnx w) N + oth)
section INV
variable {V W : VV} {m al N p t oth Z L : Nat} {own : Nat → Ky} {sd ps sn pu rf : Nat → Int} {tm ad ty : Int} {w : Wd} {ev : Nat → Nat} {key : Ky} {bd : List Int} {wk : Option Nat} {pb : Option Int}
theorem ev_nx (h : EvI N ev w) (hB : bdg N ev oth) (hp : p < N) : wnx w p < 2000000000 := by
  have := h p hp
  have := sumN_get (f := ev) (p := p) N hp
  have := hB.1
  omega
theorem ev_sum (h : EvI N ev w) (hB : bdg N ev oth) : sumN (wnx w) N + oth ≤ 400002000 := by
  have : ∀ n, n ≤ N → sumN (wnx w) n ≤ 41 * n + sumN ev n := by
    intro n
    induction n with
    | zero => intro _; exact Nat.zero_le _
    | succ n ih =>
      intro hn
      have := ih (by omega)
      have := h n (by omega)
      show sumN (wnx w) n + wnx w n ≤ 41 * (n + 1) + (sumN ev n + ev n)
      omega
  have := this N (Nat.le_refl _)
  have := hB.1
  have := hB.2
  omega
theorem ev_ask (h : EvI N ev w) : EvI N ev (askY N own sd tm w p ad ty key bd wk pb).1 := fun q hq => by
  unfold askY
  by_cases c : (wQ w p).length = 40
  · rw [if_pos c]; exact h q hq
  · rw [if_neg c]
    show 0 < fup (wnx w) p (wnx w p + 1) q ∧ fup (wnx w) p (wnx w p + 1) q ≤ 1 + (fup (wQ w) p _ q).length + ev q ∧ (fup (wQ w) p _ q).length ≤ 40
    have := h q hq
    by_cases e : q = p
    · subst e
      rw [fup_eq, fup_eq, List.length_append, List.length_singleton]
      omega
    · rw [fup_ne e, fup_ne e]; exact this
theorem snd_ok {st : Nat → Int} {lo f d : Int} {fl : List Dg} {ap : Bool} {l : List Int} (h : stOK st) : stOK (sndS st tm lo fl ap f d l).1 ∧ ∀ i, i < 10 → (sndS st tm lo fl ap f d l).1 i = st i := by
  have hd : ∀ s : Nat → Int, ∀ i, i < 10 → dS s i = s i := fun s i hi => fup_ne (by omega)
  have h1 := dS_ok h
  have h3 := dS_ok (dS_ok h1)
  have h4 := dS_ok h3
  unfold sndS
  split
  · exact ⟨h, fun i _ => rfl⟩
  · split
    · exact ⟨h1, fun i hi => hd _ i hi⟩
    · split
      · split
        · exact ⟨h3, fun i hi => by show dS (dS (dS st)) i = st i; rw [hd _ i hi, hd _ i hi, hd _ i hi]⟩
        · exact ⟨h4, fun i hi => by show dS (dS (dS (dS st))) i = st i; rw [hd _ i hi, hd _ i hi, hd _ i hi, hd _ i hi]⟩
      · exact ⟨h3, fun i hi => by show dS (dS (dS st)) i = st i; rw [hd _ i hi, hd _ i hi, hd _ i hi]⟩
theorem ok_send {l : List Int} (h : okW N own tm w) : okW N own tm (sendY N sd tm w p ad l) := by
  obtain ⟨h1, h2, h3, h4⟩ := h
  exact ⟨(snd_ok h1).1, h2, h3, h4⟩
theorem ok_ask (h : okW N own tm w) (hE : EvI N ev w) (hB : bdg N ev oth) (hp : p < N) (ha : 0 ≤ ad ∧ ad < 32) (hty : 0 ≤ ty ∧ ty < 256) (hbl : isBL bd) (hbd : bd.length ≤ 325) : okW N own tm (askY N own sd tm w p ad ty key bd wk pb).1 := by
  have hE' := ev_ask (own := own) (sd := sd) (tm := tm) (p := p) (ad := ad) (ty := ty) (key := key) (bd := bd) (wk := wk) (pb := pb) hE
  obtain ⟨h1, h2, h3, h4⟩ := h
  have nx' : ∀ q, q < N → wnx (askY N own sd tm w p ad ty key bd wk pb).1 q < 2000000000 := fun q hq => ev_nx hE' hB hq
  unfold askY at nx' ⊢
  by_cases c : (wQ w p).length = 40
  · rw [if_pos c]; exact ⟨h1, h2, h3, h4⟩
  · rw [if_neg c] at nx' ⊢
    refine ⟨(snd_ok h1).1, h2, h3, fun q hq => ?_⟩
    obtain ⟨a1, a2, a3, a4, a5, a6⟩ := h4 q hq
    refine ⟨a1, a2, a3, nx' q hq, ?_, ?_⟩
    · show (fup (wQ w) p _ q).Pairwise _
      by_cases e : q = p
      · subst e
        rw [fup_eq, List.pairwise_append]
        refine ⟨a5, List.pairwise_singleton _ _, fun a ha b hb => ?_⟩
        have : b = newY (wnx w q) ad ty (tm + wst w 4) key (hdB ty (wnx w q : Int) (kf (own q)) ++ bd) wk pb := by simpa using hb
        rw [this]
        exact (a6 a ha).1
      · rw [fup_ne e]; exact a5
    · intro y hy
      show qNum y < ((fup (wnx w) p (wnx w p + 1) q : Nat) : Int) ∧ okQ y
      have hy : y ∈ fup (wQ w) p (wQ w p ++ [newY (wnx w p) ad ty (tm + wst w 4) key (hdB ty (wnx w p : Int) (kf (own p)) ++ bd) wk pb]) q := hy
      by_cases e : q = p
      · subst e
        rw [fup_eq] at hy ⊢
        rcases List.mem_append.mp hy with z | z
        · have := a6 y z
          exact ⟨by omega, this.2⟩
        · have : y = newY (wnx w q) ad ty (tm + wst w 4) key (hdB ty (wnx w q : Int) (kf (own q)) ++ bd) wk pb := by simpa using z
          rw [this]
          refine ⟨by show ((wnx w q : Nat) : Int) < _; omega, ha, hty, ?_, isBL_app (hdB_isBL _ _ _) hbl, by show (0 : Int) ≤ 1 ∧ (1 : Int) ≤ 4; omega⟩
          show 25 ≤ (hdB ty (wnx w q : Int) (kf (own q)) ++ bd).length ∧ (hdB ty (wnx w q : Int) (kf (own q)) ++ bd).length ≤ 350
          rw [List.length_append, hdB_len]
          omega
      · rw [fup_ne e] at hy ⊢
        exact a6 y hy
theorem sum_nx : sumN (fup (wnx w) p (wnx w p + 1)) N = if p < N then sumN (wnx w) N + 1 else sumN (wnx w) N := by
  by_cases c : p < N
  · rw [if_pos c]
    have := sumN_fup (f := wnx w) (p := p) (v := wnx w p + 1) N c
    omega
  · rw [if_neg c]
    exact sumN_congr N (fun i hi => fup_ne (by omega))
/-- the reference asks -/
theorem vq_ask {tk pb : Int} {e q n : Nat} (h : VQ V m al N own sd ps sn pu rf tm w oth Z) (ho : okW N own tm w) (hE : EvI N ev w) (hB : bdg N ev oth) (hp : p < N) (ha : 0 ≤ ad ∧ ad < 32) (hty : 0 ≤ ty ∧ ty < 256) (he : mA e n) (hq : q + 5 ≤ n) (hn : n ≤ 1000000) (hem : ∀ i, mv e i ≠ 5 ∧ ¬ PO e i) (htk : tk = -1 ∨ (0 ≤ tk ∧ tk < 44)) (hpb : pb = -1 ∨ (0 ≤ pb ∧ pb < 160)) (hb : (ty = 1 ∧ bd = []) ∨ (ty ≠ 1 ∧ BodyV V bd)) (hbl : isBL bd) (hbd : bd.length ≤ 325) (htn : 0 ≤ vI V 231 0) :
    ∃ V', f_X16_ask (p : Int) ad (e : Int) (q : Int) ty tk pb V = some (b2i (askY N own sd tm w p ad ty (gk V e q) bd (wkO tk) (pbO pb)).2, V') ∧ VQ V' m al N own sd ps sn pu rf tm (askY N own sd tm w p ad ty (gk V e q) bd (wkO tk) (pbO pb)).1 oth Z ∧ FrS PG V V' ∧ SK V V' := by
  obtain ⟨L, hv, hL⟩ := h
  have hs := ev_sum hE hB
  obtain ⟨V', L', e1, e2, e3, e4, e5, e6⟩ := vp_ask hv ho hp ha (show L + 2 < 2000000000 by omega) hty he hq hn hem (hE p hp).1 htk hpb hb hbl hbd htn
  refine ⟨V', e1, ⟨L', e2, ?_⟩, e5, e6⟩
  unfold askY at e4 ⊢
  by_cases c : (wQ w p).length = 40
  · rw [if_pos c] at e4 ⊢
    have e4 : L' ≤ L + 0 := e4
    show L' ≤ 2 * (sumN (wnx w) N + oth)
    omega
  · rw [if_neg c] at e4 ⊢
    rw [if_pos rfl] at e4
    show L' ≤ 2 * (sumN (fup (wnx w) p (wnx w p + 1)) N + oth)
    rw [sum_nx, if_pos hp]
    omega
theorem vq_fr {S : Nat → Bool} (f : FrV S V W) (hs : S 1 = false ∧ S 2 = false ∧ S 3 = false ∧ S 5 = false ∧ S 6 = false ∧ S 8 = false) (h : VQ V m al N own sd ps sn pu rf tm w oth Z) : VQ W m al N own sd ps sn pu rf tm w oth Z := by
  obtain ⟨L, h1, h2⟩ := h
  exact ⟨L, vp_fr f hs h1, h2⟩
theorem vq_w6 (h : VQ V m al N own sd ps sn pu rf tm w oth Z) (g : ∀ a i, ¬ ((226 ≤ a ∧ a ≤ 270 ∧ a ≠ 231) ∨ mv a i = 9) → W a i = V a i) : VQ W m al N own sd ps sn pu rf tm w oth Z := by
  obtain ⟨L, h1, h2⟩ := h
  exact ⟨L, vp_w6 h1 g, h2⟩
/-- for a work: one more that it asked -/
def raU (rc : Int) (ra : Nat → Int) : Nat → Int := if 0 ≤ rc then fup ra rc.toNat (w32 (ra rc.toNat + 1)) else ra
def RaV (V : VV) (ra : Nat → Int) : Prop := ∀ i, i < 256 → vI V 268 i = ra i
theorem v_askFor {rc : Int} {ra : Nat → Int} {e q n : Nat} (h : VQ V m al N own sd ps sn pu rf tm w oth Z) (ho : okW N own tm w) (hE : EvI N ev w) (hB : bdg N ev oth) (hp : p < N) (ht : t < 44) (h228 : vI V 228 t = (p : Int)) (h229 : vI V 229 t = rc) (hrc : rc = -1 ∨ (0 ≤ rc ∧ rc < 256)) (hra : RaV V ra) (ha : 0 ≤ ad ∧ ad < 32) (hty : 1 < ty ∧ ty < 256) (he : mA e n) (hq : q + 5 ≤ n) (hn : n ≤ 1000000) (hem : ∀ i, mv e i ≠ 5 ∧ ¬ PO e i) (he2 : e ≠ 268) (hb : BodyV V bd) (hbl : isBL bd) (hbd : bd.length ≤ 325) (htn : 0 ≤ vI V 231 0) :
    ∃ V', f_X16_askFor (t : Int) ad (e : Int) (q : Int) ty V = some (b2i (askY N own sd tm w p ad ty (gk V e q) bd (some t) none).2, V') ∧ VQ V' m al N own sd ps sn pu rf tm (askY N own sd tm w p ad ty (gk V e q) bd (some t) none).1 oth Z ∧ RaV V' (raU rc ra) ∧ FrS (fun a i => PG a i ∨ a = 268) V V' ∧ SK V V' := by
  have wrc : w32 rc = rc := by rw [← h229, w32_vI]
  have core : ∀ (U : VV), FrS (fun a _ => a = 268) V U → RaV U (raU rc ra) → ∃ V', j_X16_askFor_24 (t : Int) ad (e : Int) (q : Int) ty U = some (b2i (askY N own sd tm w p ad ty (gk V e q) bd (some t) none).2, V') ∧ VQ V' m al N own sd ps sn pu rf tm (askY N own sd tm w p ad ty (gk V e q) bd (some t) none).1 oth Z ∧ RaV V' (raU rc ra) ∧ FrS (fun a i => PG a i ∨ a = 268) V V' ∧ SK V V' := by
    intro U fU rU
    have ek : gk U e q = gk V e q := gk_ext (fun i _ => fU.vI he2)
    have vU : VQ U m al N own sd ps sn pu rf tm w oth Z := vq_w6 h (fun a i z => fU a i (fun y => z (Or.inl (by omega))))
    obtain ⟨V', e1, e2, e3, e4⟩ := vq_ask (tk := (t : Int)) (pb := -1) (bd := bd) vU ho hE hB hp ha ⟨by omega, hty.2⟩ he hq hn hem (Or.inr (by omega)) (Or.inl rfl) (Or.inr ⟨by omega, ⟨by rw [fU.vI (by decide)]; exact hb.1, hb.2.1, fun i hi => by rw [fU.vI (by decide)]; exact hb.2.2 i hi⟩⟩) hbl hbd (by rw [fU.vI (by decide)]; exact htn)
    rw [ek, show wkO (t : Int) = some t by unfold wkO; rw [if_pos (by omega)]; rfl, show pbO (-1) = none from rfl] at e1 e2
    refine ⟨V', ?_, e2, fun i hi => ?_, ?_, SK.trans (SK_frs fU (fun i => ⟨by decide, by decide⟩)) e4⟩
    · unfold j_X16_askFor_24
      rw [l2_e (w32_nn (by omega)) ht, fU.vI (by decide), h228, Option.bind_some, e1, Option.bind_some]
      exact bz_e (b2i_01 _)
    · rw [e3.vI (show ¬ PG 268 i by unfold PG PO; simp [mv, mvA])]
      exact rU i hi
    · exact (fU.mono (fun a i z => Or.inr z)).trans (e3.mono (fun a i z => Or.inl z))
  unfold f_X16_askFor
  rw [l2_e (w32_nn (by omega)) ht, h229, Option.bind_some, wrc]
  by_cases c : rc < 0
  · rw [if_pos c]
    refine core V FrS.refl ?_
    unfold raU
    rw [if_neg (by omega)]
    exact hra
  · obtain ⟨r, rfl⟩ : ∃ r : Nat, rc = (r : Int) := ⟨rc.toNat, by omega⟩
    rw [if_neg c, Option.bind_some, l2_e (j := r) wrc (by omega), hra r (by omega), Option.bind_some, s2_e (j := r) wrc (by omega), Option.bind_some]
    refine core _ (FrS_st (P := fun a _ => a = 268) rfl) (fun i hi => ?_)
    unfold raU
    rw [if_pos (by omega), Int.toNat_natCast, vI_st2]
    by_cases d : i = r
    · rw [if_pos ⟨rfl, d⟩, d, fup_eq]
    · rw [if_neg (fun z => d z.2), fup_ne d]; exact hra i hi
end INV
