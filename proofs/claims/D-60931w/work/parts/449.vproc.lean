/-! the reference's works proceed -/
/-- what is so all along -/
def RunP (P : Ys → Prop) (m al N : Nat) (own : Nat → Ky) (sd : Nat → Int) (tm : Int) (Lb : Nat → List Trm) (t : Nat) : Nat → Ys → Prop
  | 0, _ => False
  | n + 1, Y => P Y ∧ (yv Y 226 t ≠ 0 → (yv Y 230 t = 1 → P (lokY m al N own sd tm t Y).2 ∧ ((lokY m al N own sd tm t Y).1 = true → RunP P m al N own sd tm Lb t n (behY m N own sd tm Lb t (lokY m al N own sd tm t Y).2))) ∧ (yv Y 230 t = 2 → yv Y 245 t = 0 → RunP P m al N own sd tm Lb t n (nxtY m own Lb t Y)) ∧ (yv Y 230 t ≠ 1 → yv Y 230 t ≠ 2 → (qonY N own sd tm t Y).1 = true → RunP P m al N own sd tm Lb t n (qonY N own sd tm t Y).2))
/-- what is so between the events -/
def wE (N : Nat) (own : Nat → Ky) (Lb : Nat → List Trm) (Y : Ys) (t : Nat) : Prop := wOK N own Lb Y t ∧ rmt own Y t ∧ (yv Y 226 t ≠ 0 → pgQ own Y t)
section VPROC
variable {V W : VV} {m al N p t oth Z : Nat} {own : Nat → Ky} {sd ps sn pu rf : Nat → Int} {tm : Int} {ev tn : Nat → Nat} {Lb : Nat → List Trm} {Y : Ys}
theorem vy_sd (h : VY V m al N own sd ps sn pu rf tm Lb oth Z ev tn Y) : sdY m N own tm Lb ev Y := by
  obtain ⟨⟨L, hP, _⟩, h2, h3, h4, h5, h6, h7, h8⟩ := h
  exact ⟨h2, h3, fun t ht => (h4 t ht).1.2.2.1, fun p hp => ⟨(hP.2.2.1.2 p hp).2.1, (hP.2.2.2.1 p hp).2.1, (h7 p hp).2.1⟩, hP.2.2.2.2.2.2.2⟩
theorem PK_no {a i : Nat} (z : (173 ≤ a ∧ a ≤ 178) ∨ (226 ≤ a ∧ a ≤ 270 ∧ a ≠ 268 ∧ a ≠ 237 ∧ a ≠ 239 ∧ a ≠ 240)) : ¬ PK a i := fun q => by
  unfold PK PG PO PB at q
  have : mv a i = 4 ∨ mv a i = 6 ∨ mv a i = 8 ∨ mv a i = 9 := by
    unfold mv
    rw [if_neg (by omega)]
    unfold mvA
    rw [if_neg (by omega), if_neg (by omega), if_neg (by omega)]
    by_cases c : 173 ≤ a ∧ a ≤ 178
    · rw [if_pos c]; exact Or.inl rfl
    · rw [if_neg c, if_neg (by omega)]
      split
      · exact Or.inr (Or.inl rfl)
      · split
        · exact Or.inr (Or.inr (Or.inl rfl))
        · exact Or.inr (Or.inr (Or.inr rfl))
  omega
theorem PK_kp {a i : Nat} (h : PK a i) : ¬ kp0 a i := fun k => by
  unfold PK at h
  rcases h with h | h | h | h | h | h | h
  · exact PSt_kp (Or.inl h) k
  · exact PSt_kp (Or.inr (Or.inl h)) k
  · unfold kp0 at k; omega
  · unfold kp0 at k; omega
  · unfold kp0 at k; omega
  · unfold kp0 at k; omega
  · unfold kp0 at k; omega
theorem nE_le (E : List Ent) : nE E ≤ E.length := List.length_filter_le _ _
theorem PK91 {i : Nat} (h : i = 91) : ¬ PK 156 i := fun q => by
  unfold PK PG PO PB at q
  rw [h] at q
  have : mv 156 91 = 8 := rfl
  omega
/-- a lookup goes on -/
theorem v_lok (h : VY V m al N own sd ps sn pu rf tm Lb oth Z ev tn Y) (hB : bdg N ev oth) (ht : t < 44) (hal : al ≤ 8) (hg : goW N Y t) : ∃ V' Ls, f_X16_lookOn (t : Int) V = some (b2i (lokY m al N own sd tm t Y).1, V') ∧ VY V' m al N own sd ps sn pu rf tm Lb oth Z ev tn (lokY m al N own sd tm t Y).2 ∧ FroV V' m t (yl (lokY m al N own sd tm t Y).2 t).2.2.1 Ls ∧ KpV V V' := by
  obtain ⟨h1, h2, h3, h4, h5, h6, h7, h8⟩ := id h
  obtain ⟨p, hp⟩ : ∃ p : Nat, yv Y 228 t = (p : Int) := ⟨(yv Y 228 t).toNat, by have := hg.1; omega⟩
  have hyp : yp Y t = p := by unfold yp; show (yv Y 228 t).toNat = p; omega
  have pN : p < N := by have := hg.1; omega
  have r228 : vI V 228 t = (p : Int) := by rw [h5 228 t (by unfold scA; omega)]; exact hp
  have r229 : vI V 229 t = yv Y 229 t := h5 229 t (by unfold scA; omega)
  have el : ((yl Y t).2.2.1).length ≤ 64 := (h4 t ht).1.2.2.1.1
  have lkeq : fup (yl Y) t ((yl Y t).1, (yl Y t).2.1, (lsY Y t).2.1, (lsY Y t).2.2.1) = yl Y := by
    funext z
    unfold fup
    by_cases c : z = t
    · rw [if_pos c, c]; rfl
    · rw [if_neg c]
  have vs : VS V m al N own sd ps sn pu rf tm oth Z ev (yl Y) tn t (lsY Y t) := ⟨h1, h2, h3, by rw [lkeq]; exact h4, fun i hi => h5 268 i (by unfold scA; omega)⟩
  obtain ⟨V', Ls, a1, a2, a3, a4, a5⟩ := v_lookOn (rc := yv Y 229 t) (lk := yl Y) hB pN ht hg.2 hal 64 V (lsY Y t) FU (Nat.le_trans (nE_le _) el) (by decide) vs r228 r229
  have e0 : (lokY m al N own sd tm t Y).2 = putS Y t (lkOn m al N own sd tm p t (yv Y 229 t) (yl Y t).1 (yl Y t).2.1 (64 + 1) (lsY Y t)).2 := by unfold lokY; rw [hyp]
  have e1 : (lokY m al N own sd tm t Y).1 = (lkOn m al N own sd tm p t (yv Y 229 t) (yl Y t).1 (yl Y t).2.1 (64 + 1) (lsY Y t)).1 := by unfold lokY; rw [hyp]
  rw [e0, e1]
  obtain ⟨s, hs⟩ : ∃ s, s = (lkOn m al N own sd tm p t (yv Y 229 t) (yl Y t).1 (yl Y t).2.1 (64 + 1) (lsY Y t)).2 := ⟨_, rfl⟩
  rw [← hs] at a2 a3 ⊢
  obtain ⟨b1, b2, b3, b4, b5⟩ := a2
  have g : ∀ a i, ((173 ≤ a ∧ a ≤ 178) ∨ (226 ≤ a ∧ a ≤ 270 ∧ a ≠ 268 ∧ a ≠ 237 ∧ a ≠ 239 ∧ a ≠ 240)) → vI V' a i = vI V a i := fun a i z => a4.vI (PK_no z)
  refine ⟨V', Ls, a1, ⟨b1, b2, b3, b4, fun a i z => ?_, QsV_ag h6 (fun a i z => g a i (by omega)), LbV_ag h7 (fun a i z => g a i (by omega)), TmV_ag h8 (fun a i z => g a i (by omega)) (fun t' _ k1 k2 => ?_)⟩, ?_, KpV_sk a4 (fun a i z => PK_kp z) a5⟩
  · by_cases c : a = 268
    · rw [c] at z ⊢
      have i256 : i < 256 := by unfold scA at z; omega
      have e := b5 i i256
      show vI V' 268 i = w32 (if 268 = 268 then s.2.2.2 i else ys Y 268 i)
      rw [if_pos rfl, ← e]
      exact w32_vI.symm
    · have : yv (putS Y t s) a i = yv Y a i := ps_v c
      show vI V' a i = yv (putS Y t s) a i
      rw [this]
      refine Eq.trans ?_ (h5 a i z)
      by_cases d : a = 156
      · rw [d] at z ⊢
        exact a4.vI (PK91 (by unfold scA at z; omega))
      · exact g a i (by unfold scA at z; omega)
  · have e : ∀ a i, a ≠ 268 → vI (ys (putS Y t s)) a i = vI (ys Y) a i := fun a i z => ps_v z
    rw [e _ _ (by omega)] at k1 k2
    exact ⟨⟨k1, k2⟩, e _ _ (by omega), e _ _ (by omega), e _ _ (by omega)⟩
  · have e : (yl (putS Y t s) t).2.2.1 = s.2.1 := by show (fup (yl Y) t _ t).2.2.1 = _; rw [fup_eq]
    rw [e]
    exact a3
/-- behind a lookup -/
theorem v_beh {Ls : List Nat} (h : VY V m al N own sd ps sn pu rf tm Lb oth Z ev tn Y) (hB : bdg N ev oth) (ht : t < 44) (htn : tn t < 2000000000) (hw : wOK N own Lb Y t) (hgo : yv Y 226 t ≠ 0) (h1 : yv Y 230 t = 1) (hf : FroV V m t (yl Y t).2.2.1 Ls) : ∃ V', f_X16_behindLookup (t : Int) V = some V' ∧ VY V' m al N own sd ps sn pu rf tm Lb oth Z ev (fup tn t (tn t + 1)) (behY m N own sd tm Lb t Y) ∧ KpV V V' := by
  obtain ⟨hh, hk⟩ := wOK_hd hw hgo
  have s5 := h.2.2.2.2.1
  have r227 : vI V 227 t = yv Y 227 t := s5 227 t (by unfold scA; omega)
  have r242 : vI V 242 t = yv Y 242 t := s5 242 t (by unfold scA; omega)
  have wv : ∀ a, w32 (yv Y a t) = yv Y a t := fun a => w32_vI
  unfold f_X16_behindLookup behY
  rw [l2_n ht (by omega), r227, Option.bind_some, wv]
  have ref : (yv Y 227 t = 0 ∨ yv Y 227 t = 4) → 0 ≤ yv Y 242 t → yv Y 242 t ≤ yv Y 241 t ∧ yv Y 241 t ≤ 159 → ∃ V', j_X16_behindLookup_37 (t : Int) V = some V' ∧ VY V' m al N own sd ps sn pu rf tm Lb oth Z ev (fup tn t (tn t + 1)) (rfY m own t (setV Y 242 t (yv Y 242 t + 1))) ∧ KpV V V' := fun c0 c1 c2 => by
    have s1 := vy_st (a := 242) (i := t) (v := yv Y 242 t + 1) h (by omega)
    have v : ∀ a, a ≠ 242 → yv (setV Y 242 t (yv Y 242 t + 1)) a t = yv Y a t := fun a z => vI_ne (by omega)
    have v2 : yv (setV Y 242 t (yv Y 242 t + 1)) 242 t = yv Y 242 t + 1 := by
      show vI (st2 (ys Y) 242 t (yv Y 242 t + 1)) 242 t = _
      rw [vI_eq rfl, w32s (by omega)]
    obtain ⟨V', e1, e2, e3⟩ := v_refreshOn s1 ht htn (by unfold goW; rw [v _ (by omega), v _ (by omega)]; exact hh.2.1) (by omega) (by rw [v _ (by omega)]; omega)
    refine ⟨V', ?_, e2, (KpV_st (by unfold kpA; omega)).trans e3⟩
    unfold j_X16_behindLookup_37 j_X16_behindLookup_183
    rw [l2_n ht (by omega), r242, Option.bind_some, s2_n ht (by omega), Option.bind_some, e1]
    rfl
  rcases hk with ⟨k1, k2, k3, k4, k5⟩ | ⟨k1, k2, k3⟩ | ⟨k1, k2, k3, k4, k5, k6, k7⟩ | ⟨k1, k2, k3, k4, k5⟩
  · rw [if_pos k1]
    by_cases c : yv Y 242 t < 0
    · have k0 : yv Y 227 t = 0 := by omega
      rw [if_pos c, if_pos k0, l2_n ht (by omega), r242, Option.bind_some, wv, if_pos c]
      obtain ⟨V', e1, e2, e3⟩ := v_beginRefresh h ht htn hh.2.1
      exact ⟨V', by rw [e1]; rfl, e2, e3⟩
    · rw [if_neg c]
      obtain ⟨V', e1, e2, e3⟩ := ref k1 (by omega) (k5 (by omega))
      refine ⟨V', ?_, e2, e3⟩
      by_cases k0 : yv Y 227 t = 0
      · rw [if_pos k0, l2_n ht (by omega), r242, Option.bind_some, wv, if_neg c]
        unfold j_X16_behindLookup_28
        rw [wv, if_pos k0]; exact e1
      · rw [if_neg k0]
        unfold j_X16_behindLookup_28
        rw [wv, if_neg k0, if_pos (show yv Y 227 t = w32 4 from by show yv Y 227 t = 4; omega)]; exact e1
  · rw [if_neg (by omega), if_neg (by omega), if_pos k1]
    obtain ⟨V', e1, e2, e3⟩ := v_tellLook h ht htn (by have := hh.2.2.1 k3; have := hh.2.1.2; omega) hf
    refine ⟨V', ?_, e2, e3⟩
    unfold j_X16_behindLookup_28
    rw [wv, if_neg (by omega), if_neg (show ¬ yv Y 227 t = w32 4 from by show ¬ yv Y 227 t = 4; omega), if_pos (show yv Y 227 t = w32 1 from k1)]
    exact e1
  · rw [if_neg (by omega), if_neg (by omega), if_neg (by omega), if_pos k1]
    obtain ⟨V', e1, e2, e3⟩ := v_storeAll h hB ht htn hh.2.1 hgo k1 k3 k4 k6 hf
    refine ⟨V', ?_, e2, e3⟩
    unfold j_X16_behindLookup_28
    rw [wv, if_neg (by omega), if_neg (show ¬ yv Y 227 t = w32 4 from by show ¬ yv Y 227 t = 4; omega), if_neg (show ¬ yv Y 227 t = w32 1 from by show ¬ yv Y 227 t = 1; omega), if_pos (show yv Y 227 t = w32 2 from k1), e1]
    rfl
  · rw [if_neg (by omega), if_neg (by omega), if_neg (by omega), if_neg (by omega)]
    rcases k5 with ⟨g1, g2, g3⟩ | ⟨g1, _⟩
    · obtain ⟨V', e1, e2, e3⟩ := v_holder h ht htn hh.2.1 (by have := hh.2.2.1 k2; have := hh.2.1.2; omega) k3 k4 g2 hf
      refine ⟨V', ?_, e2, e3⟩
      unfold j_X16_behindLookup_28
      rw [wv, if_neg (by omega), if_neg (show ¬ yv Y 227 t = w32 4 from by show ¬ yv Y 227 t = 4; omega), if_neg (show ¬ yv Y 227 t = w32 1 from by show ¬ yv Y 227 t = 1; omega), if_neg (show ¬ yv Y 227 t = w32 2 from by show ¬ yv Y 227 t = 2; omega), e1]
      rfl
    · have := g1.2.1; omega
end VPROC
section FTBEH
variable {m al N p t : Nat} {own : Nat → Ky} {sd : Nat → Int} {tm : Int} {Lb : Nat → List Trm} {Y : Ys}
theorem FT_beh0 (h : wOK N own Lb Y t) (hg : yv Y 226 t ≠ 0) (h1 : yv Y 230 t = 1) : FT t Y (behY m N own sd tm Lb t Y) := by
  obtain ⟨hh, hk⟩ := wOK_hd h hg
  unfold behY
  rcases hk with ⟨k1, k2, k3, k4, k5⟩ | ⟨k1, k2, k3⟩ | ⟨k1, k2, k3, k4, k5, k6, k7⟩ | ⟨k1, k2, k3, k4, k5⟩
  · rw [if_pos k1]
    by_cases c : yv Y 242 t < 0
    · rw [if_pos c]; exact FT_br
    · rw [if_neg c]; exact (FT_v (by omega)).trans FT_rf
  · rw [if_neg (by omega), if_pos k1]; exact FT_tl (hh.2.2.1 k3)
  · rw [if_neg (by omega), if_neg (by omega), if_pos k1]; exact FT_sto
  · rw [if_neg (by omega), if_neg (by omega), if_neg (by omega)]
    rcases k5 with ⟨g1, g2, g3⟩ | ⟨g1, _⟩
    · exact FT_hld (hh.2.2.1 k2) (by omega)
    · have := g1.2.1; omega
end FTBEH
