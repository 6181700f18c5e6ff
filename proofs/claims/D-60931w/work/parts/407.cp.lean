/-! the peers' part of the class, by one state: settings, lost ones, flying, tallies, next numbers, requests, tables, stores -/
abbrev Wd : Type := (Nat → Int) × Int × List Dg × (Nat → Int) × (Nat → Nat) × (Nat → List Rq) × (Nat → List Row) × (Nat → List Post)
abbrev wst (w : Wd) : Nat → Int := w.1
abbrev wlo (w : Wd) : Int := w.2.1
abbrev wfl (w : Wd) : List Dg := w.2.2.1
abbrev wtl (w : Wd) : Nat → Int := w.2.2.2.1
abbrev wnx (w : Wd) : Nat → Nat := w.2.2.2.2.1
abbrev wQ (w : Wd) : Nat → List Rq := w.2.2.2.2.2.1
abbrev wT (w : Wd) : Nat → List Row := w.2.2.2.2.2.2.1
abbrev wS (w : Wd) : Nat → List Post := w.2.2.2.2.2.2.2
/-- a datagram is sent by a peer -/
def sendY (N : Nat) (sd : Nat → Int) (tm : Int) (w : Wd) (p : Nat) (ad : Int) (l : List Int) : Wd :=
  ((sndS (wst w) tm (wlo w) (wfl w) (apS N sd p ad) p ad l).1, (sndS (wst w) tm (wlo w) (wfl w) (apS N sd p ad) p ad l).2.1, (sndS (wst w) tm (wlo w) (wfl w) (apS N sd p ad) p ad l).2.2, tlU (wtl w) (5 * p + 3), wnx w, wQ w, wT w, wS w)
/-- a request is asked: whether there was a place for it -/
def askY (N : Nat) (own : Nat → Ky) (sd : Nat → Int) (tm : Int) (w : Wd) (p : Nat) (ad ty : Int) (key : Ky) (bd : List Int) (wk : Option Nat) (pb : Option Int) : Wd × Bool :=
  if (wQ w p).length = 40 then (w, false) else
  (((sendY N sd tm w p ad (hdB ty (wnx w p : Int) (kf (own p)) ++ bd)).1, (sendY N sd tm w p ad (hdB ty (wnx w p : Int) (kf (own p)) ++ bd)).2.1, (sendY N sd tm w p ad (hdB ty (wnx w p : Int) (kf (own p)) ++ bd)).2.2.1, tlU (wtl w) (5 * p + 3), fup (wnx w) p (wnx w p + 1), fup (wQ w) p (wQ w p ++ [newY (wnx w p) ad ty (tm + wst w 4) key (hdB ty (wnx w p : Int) (kf (own p)) ++ bd) wk pb]), wT w, wS w), true)
def setT (w : Wd) (T : Nat → List Row) : Wd := (wst w, wlo w, wfl w, wtl w, wnx w, wQ w, T, wS w)
def setQ (w : Wd) (Q : Nat → List Rq) : Wd := (wst w, wlo w, wfl w, wtl w, wnx w, Q, wT w, wS w)
def setS (w : Wd) (S : Nat → List Post) : Wd := (wst w, wlo w, wfl w, wtl w, wnx w, wQ w, wT w, S)
def setL (w : Wd) (tl : Nat → Int) : Wd := (wst w, wlo w, wfl w, tl, wnx w, wQ w, wT w, wS w)
/-- a peer sees a key at an address; the first one of a full bucket may be asked -/
def seeY (m N : Nat) (own : Nat → Ky) (sd : Nat → Int) (tm : Int) (w : Wd) (p : Nat) (key : Ky) (ad : Int) : Wd :=
  if (seeT m (own p) key ad (wT w p)).2 = true ∧ prF (wQ w) p (kc key (own p)).toNat = false then
    match ((seeT m (own p) key ad (wT w p)).1.filter (pr (own p) (kc key (own p)) false)).head? with
    | some x => (askY N own sd tm (setT w (fup (wT w) p (seeT m (own p) key ad (wT w p)).1)) p x.2.1 1 x.1 [] none (some (kc key (own p)))).1
    | none => setT w (fup (wT w) p (seeT m (own p) key ad (wT w p)).1)
  else setT w (fup (wT w) p (seeT m (own p) key ad (wT w p)).1)
def loseY (own : Nat → Ky) (w : Wd) (p : Nat) (key : Ky) (ad : Int) : Wd := setT w (fup (wT w) p (loseT (own p) key ad (wT w p)))
/-- what is made besides: datagrams, tables, postings, requests -/
abbrev Gh : Type := Nat × TG × (Nat → Nat) × (Nat → Nat → Nat) × RG
def cpCl (N : Nat) (w : Wd) (h : Gh) : Nat := 3 * h.1 + tbN N (wT w) h.2.1 + 3 * sumN h.2.2.1 N + 5 * sumN (fun q => (h.2.2.2.2 q).1) N
def cpWd (N m : Nat) (w : Wd) (h : Gh) : Nat := 466 * h.1 + tbU N m (wT w) h.2.1 + 11 * sumN h.2.2.1 N + 479 * sumN (fun q => (h.2.2.2.2 q).1) N
/-- the class's words for it; b: cells and words of all else -/
def CPs (M : MM) (m al N : Nat) (pa : Nat → Nat) (own : Nat → Ky) (sd ps sn pu rf : Nat → Int) (tm : Int) (lf : Nat → Nat) (b : Nat × Nat) (w : Wd) (h : Gh) : Prop :=
  BoC M m al N pa ∧ NetRep M (wst w) tm (wlo w) (wfl w) h.1 ∧ TbsC M m N pa own (wT w) (prF (wQ w)) h.2.1 ∧ StsC M N pa h.2.2.1 h.2.2.2.1 (wS w) ∧ PeC M N pa own sd ps sn pu rf (wtl w) (wnx w) ∧ RqsC M N pa (fun q => (h.2.1.2.2.2.2 q).2.2.1) lf (wQ w) h.2.2.2.2 ∧ Lk N (wQ w) (fun q => (h.2.1.2.2.2.2 q).1) ∧ (nN M ≤ b.1 + cpCl N w h ∧ nU M ≤ b.2 + cpWd N m w h) ∧ h.2.1.2.2.2.1.length + sumN (fun q => (wT w q).length) N ≤ 5000
/-- what a state of the peers' part is always like -/
def okW (N : Nat) (own : Nat → Ky) (tm : Int) (w : Wd) : Prop := stOK (wst w) ∧ (0 ≤ tm ∧ tm ≤ 1000000) ∧ N ≤ 32 ∧ ∀ p, p < N → kyo (own p) ∧ (wT w p).length ≤ 100 ∧ (∀ x, x ∈ wT w p → 0 ≤ x.2.1 ∧ x.2.1 < 32) ∧ wnx w p < 2000000000 ∧ (wQ w p).Pairwise (fun a b => qNum a < qNum b) ∧ ∀ y, y ∈ wQ w p → qNum y < (wnx w p : Int) ∧ okQ y
/-- modules of the peers' part -/
def P5 : Nat → Bool := fun z => z == 1 || z == 2 || z == 3 || z == 5 || z == 7
theorem seeT_full {k : Nat} {own key : Ky} {ad : Int} {T : List Row} (hT : okT own T) (h : (seeT k own key ad T).2 = true) : k ≤ ((seeT k own key ad T).1.filter (pr own (kc key own) false)).length ∧ key ≠ own := by
  have hrm : ∀ (y z : Row), y ∈ T → y.2.2 = true → z.2.2 = true → (rmT T y.1 ++ [z]).filter (pr own (kc key own) false) = T.filter (pr own (kc key own) false) := by
    intro y z hy hyr hzr
    have e1 : [z].filter (pr own (kc key own) false) = [] := by
      rw [List.filter_eq_nil_iff]
      intro a ha hq
      have : a = z := by simpa using ha
      subst this
      unfold pr at hq
      rw [hzr] at hq
      simp at hq
    rw [List.filter_append, e1, List.append_nil]
    unfold rmT
    rw [List.filter_filter]
    refine List.filter_congr (fun a ha => ?_)
    by_cases c : a.1 = y.1
    · have : a = y := by
        have f1 := fnd_some hT.2.1 ha
        have f2 := fnd_some hT.2.1 hy
        rw [c, f2] at f1
        exact (Option.some.inj f1).symm
      subst this
      unfold pr
      rw [hyr]
      simp
    · simp [c]
  have hz : ∀ (z : Row), z.2.2 = true → (T ++ [z]).filter (pr own (kc key own) false) = T.filter (pr own (kc key own) false) := by
    intro z hzr
    have e1 : [z].filter (pr own (kc key own) false) = [] := by
      rw [List.filter_eq_nil_iff]
      intro a ha hq
      have : a = z := by simpa using ha
      subst this
      unfold pr at hq
      rw [hzr] at hq
      simp at hq
    rw [List.filter_append, e1, List.append_nil]
  unfold seeT at h ⊢
  by_cases c0 : key = own
  · rw [if_pos c0] at h; simp at h
  rw [if_neg c0] at h ⊢
  refine ⟨?_, c0⟩
  cases hf : fnd T key with
  | some x =>
    rw [hf] at h
    dsimp only at h ⊢
    have hx : x ∈ T := List.mem_of_find?_eq_some hf
    have hxk : x.1 = key := by have := List.find?_some hf; simpa using this
    by_cases c1 : x.2.2 = false
    · rw [if_pos c1] at h; simp at h
    · rw [if_neg c1] at h ⊢
      have c1 : x.2.2 = true := by simpa using c1
      by_cases c2 : (T.filter (pr own (kc key own) false)).length < k
      · rw [if_pos c2] at h; simp at h
      · rw [if_neg c2]
        dsimp only
        by_cases c3 : x.2.1 = ad
        · rw [if_pos c3]
          have := hrm x x hx c1 c1
          rw [hxk] at this
          rw [this]; omega
        · rw [if_neg c3]; omega
  | none =>
    rw [hf] at h
    dsimp only at h ⊢
    by_cases c2 : (T.filter (pr own (kc key own) false)).length < k
    · rw [if_pos c2] at h; simp at h
    · rw [if_neg c2]
      dsimp only
      by_cases c3 : (T.filter (pr own (kc key own) true)).length = k
      · rw [if_pos c3]
        cases hh : (T.filter (pr own (kc key own) true)).head? with
        | none => dsimp only; rw [hz _ rfl]; omega
        | some y =>
          dsimp only
          have hy := List.mem_filter.mp (List.mem_of_mem_head? (by rw [hh]; rfl))
          have hyr : y.2.2 = true := by
            have := hy.2
            unfold pr at this
            simp only [Bool.and_eq_true, beq_iff_eq] at this
            exact this.2
          rw [hrm y (key, ad, true) hy.1 hyr rfl]; omega
      · rw [if_neg c3, hz _ rfl]; omega
section CPL
variable {M M1 : MM} {m al N p kx x i : Nat} {pa : Nat → Nat} {own : Nat → Ky} {sd ps sn pu rf : Nat → Int} {tm ad ty : Int} {lf : Nat → Nat} {b : Nat × Nat} {w : Wd} {h : Gh} {l bd : List Int}
theorem P5_of {S : Nat → Bool} (hs : ∀ z, S z = true → P5 z = true) {M M1 : MM} (h : FK S M M1) : FK P5 M M1 := h.mono hs
/-- a datagram is begun -/
theorem cp_begin (hc : CPs M m al N pa own sd ps sn pu rf tm lf b w h) (hp : p < N) : ∃ M', f_X17_begin ((pa p : Nat) : Int) ty M = some (((31 : Nat) : Int), M') ∧ CPs M' m al N pa own sd ps sn pu rf tm lf b w h ∧ PkC M' 31 (hdB ty 0 (kf (own p))) ∧ Ex (fun q => q = 31 ∨ q = 32) M M' := by
  obtain ⟨c1, c2, c3, c4, c5, c6, c7, c8, c9⟩ := hc
  obtain ⟨pe, p276, hk, _⟩ := c5.2.2 p hp
  have hu := c5.1
  have p31 := c1.1.2.2.2.2.2.2.1.1
  obtain ⟨M1, e1, e2, e3⟩ := e_X4_begin (ty := ty) (num := 0) p31 pe.2.2.2.2.1
  have s31 := (BdS_mo c1.1).2.2.2.2.1
  have f7 : FK (fun z => decide (z = 7)) M M1 := FK_ex e3 (fun q _ hq => by
    rcases hq with e | e <;> rw [e]
    · rw [s31.1]; decide
    · rw [show 31 + 1 = 32 from rfl, s31.2]; decide)
  have k17 : (kd M (pa p)).1 = 17 := by rw [pe.1]
  have k6 : (kd M 18).1 = 6 := by rw [c1.1.1]
  refine ⟨M1, ?_, ⟨BoC_ex e3 (by omega) c1, NetRep_fk f7 hu (by decide) c2, tbs_fk f7 ⟨by decide, by decide⟩ c3, sts_fk f7 (by decide) c4, PeC_fk f7 ⟨by decide, by decide⟩ c5, RqsC_fk f7 (by decide) c6, c7, ⟨by rw [e3.nN]; exact c8.1, by rw [e3.nU]; exact c8.2⟩, c9⟩, ?_, e3⟩
  · unfold f_X17_begin
    rw [gfr_e k17, pe.2.2.1.1, Option.bind_some, gfr_e k6, c1.1.2.2.1.2.2.2.2.2.1, Option.bind_some, gfr_e k17, pe.2.2.1.2.1, Option.bind_some, ck_e p31.1, e1, Option.bind_some, gfr_e (by rw [e3.kd]; exact k17), e3.rR, pe.2.2.1.1, Option.bind_some, gfr_e (by rw [e3.kd]; exact k6), e3.rR, c1.1.2.2.1.2.2.2.2.2.1, Option.bind_some]
  · have : hdB ty 0 (kf (own p)) = hdB ty 0 (kC M (pa p + 1)) := by
      unfold hdB
      rw [kby_ky (kC M (pa p + 1)), hk]
      rfl
    rw [this]; exact e2
/-- what was put together is sent -/
theorem cp_send (hc : CPs M m al N pa own sd ps sn pu rf tm lf b w h) (ho : okW N own tm w) (hp : p < N) (ha : 0 ≤ ad ∧ ad < 32) (hx : PkC M x l) (hx1 : mo M x = 7 ∧ mo M (x + 1) = 7) : ∃ M' h', f_X17_send ((pa p : Nat) : Int) ad (x : Int) M = some M' ∧ CPs M' m al N pa own sd ps sn pu rf tm lf b (sendY N sd tm w p ad l) h' ∧ FK (fun z => z == 1 || z == 5) M M' := by
  obtain ⟨c1, c2, c3, c4, c5, c6, c7, c8, c9⟩ := hc
  have hu := c5.1
  have pe := (c5.2.2 p hp).1
  obtain ⟨M', fA', e1, e2, e3, e4, e5, e6⟩ := c_sendP c1 c5 c6 c2 ho.1 ho.2.1 hp ha hx ⟨by rw [hx1.1]; decide, by rw [hx1.2]; decide⟩ ⟨fun z => by rw [z, (Pe_mo pe).1] at hx1; exact absurd hx1.1 (by decide), fun z => by rw [z, (Pe_mo pe).1] at hx1; exact absurd hx1.2 (by decide)⟩
  have f : FK (fun z => z == 1 || z == 5) M M' := e6 _ (by decide) (by decide)
  refine ⟨M', (fA', h.2), e1, ⟨BoC_fk f hu (by decide) c1, e2, tbs_fk f ⟨by decide, by decide⟩ c3, sts_fk f (by decide) c4, e3, e4, c7, ?_, c9⟩, f⟩
  obtain ⟨b1, b2⟩ := c8
  unfold cpCl at b1 ⊢
  unfold cpWd at b2 ⊢
  dsimp only [sendY, wT] at b1 b2 ⊢
  exact ⟨by omega, by omega⟩
/-- what was put together is asked -/
theorem cp_ask {x3 x4 x5 : Int} {wk : Option Nat} {pb : Option Int} (hc : CPs M m al N pa own sd ps sn pu rf tm lf b w h) (ho : okW N own tm w) (hp : p < N) (hk : isK M kx) (hkm : mo M kx ≠ 5 ∧ mo M (kx + 1) ≠ 5) (hx : PkC M 31 (hdB ty 0 (kf (own p)) ++ bd)) (hty : 0 ≤ ty ∧ ty < 256) (had : 0 ≤ ad ∧ ad < 32) (hw : wkX M N pa lf x3 wk) (hpb : pbX (h.2.1.2.2.2.2 p).2.2.1 x5 pb) (h4 : x4 = if ty = 1 ∨ ty = 3 ∨ ty = 5 then 0 else 1) :
    ∃ M' rg' fA', f_X17_ask ((pa p : Nat) : Int) (kx : Int) ad x3 x4 x5 M = some (b2i (askY N own sd tm w p ad ty (ky (kC M kx)) bd wk pb).2, M') ∧ (BoC M' m al N pa ∧ NetRep M' (wst (askY N own sd tm w p ad ty (ky (kC M kx)) bd wk pb).1) tm (wlo (askY N own sd tm w p ad ty (ky (kC M kx)) bd wk pb).1) (wfl (askY N own sd tm w p ad ty (ky (kC M kx)) bd wk pb).1) fA' ∧ TbsC M' m N pa own (wT w) (prF (wQ w)) h.2.1 ∧ StsC M' N pa h.2.2.1 h.2.2.2.1 (wS w) ∧ PeC M' N pa own sd ps sn pu rf (wtl (askY N own sd tm w p ad ty (ky (kC M kx)) bd wk pb).1) (wnx (askY N own sd tm w p ad ty (ky (kC M kx)) bd wk pb).1) ∧ RqsC M' N pa (fun q => (h.2.1.2.2.2.2 q).2.2.1) lf (wQ (askY N own sd tm w p ad ty (ky (kC M kx)) bd wk pb).1) rg' ∧ nN M' ≤ b.1 + cpCl N w (fA', h.2.1, h.2.2.1, h.2.2.2.1, rg') ∧ nU M' ≤ b.2 + cpWd N m w (fA', h.2.1, h.2.2.1, h.2.2.2.1, rg')) ∧ FK (fun z => z == 1 || z == 5) M M' := by
  obtain ⟨c1, c2, c3, c4, c5, c6, c7, c8, c9⟩ := hc
  have hu := c5.1
  have key := c_askQ c1 c6 c5 c2 ho.1 ho.2.1 hp hk hkm hx hty had (ho.2.2.2 p hp).2.2.2.1 hw hpb h4
  unfold askY
  by_cases c : (wQ w p).length = 40
  · rw [if_pos c] at key ⊢
    exact ⟨M, h.2.2.2.2, h.1, key, ⟨c1, c2, c3, c4, c5, c6, c8.1, c8.2⟩, FK.refl⟩
  · rw [if_neg c] at key ⊢
    obtain ⟨M', fA', rg', e1, e2, e3, e4, e5, e6⟩ := key
    have f : FK (fun z => z == 1 || z == 5) M M' := e6 _ (by decide) (by decide)
    refine ⟨M', rg', fA', e1, ⟨BoC_fk f hu (by decide) c1, e2, tbs_fk f ⟨by decide, by decide⟩ c3, sts_fk f (by decide) c4, e3, e4, ?_, ?_⟩, f⟩
    · have b1 := c8.1
      unfold cpCl at b1 ⊢
      dsimp only at b1 ⊢
      omega
    · have b2 := c8.2
      unfold cpWd at b2 ⊢
      dsimp only at b2 ⊢
      omega
end CPL
