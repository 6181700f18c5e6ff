/-! refreshing, and what is told of a lookup -/
theorem cloT_perm {ow : Ky} {T : List Row} {L : List RwV} {TS : List (Row × Int)} (h : TS.map (·.1) = T) (hp : L.Perm (TS.map (enc ow))) : L.foldl (fun c y => if y.2.2.2.1 = 0 ∧ c < y.2.2.1 then y.2.2.1 else c) (-1) = cloT ow T := by
  have comm : ∀ x, x ∈ L → ∀ y, y ∈ L → ∀ z : Int, (fun c (y : RwV) => if y.2.2.2.1 = 0 ∧ c < y.2.2.1 then y.2.2.1 else c) ((fun c (y : RwV) => if y.2.2.2.1 = 0 ∧ c < y.2.2.1 then y.2.2.1 else c) z x) y = (fun c (y : RwV) => if y.2.2.2.1 = 0 ∧ c < y.2.2.1 then y.2.2.1 else c) ((fun c (y : RwV) => if y.2.2.2.1 = 0 ∧ c < y.2.2.1 then y.2.2.1 else c) z y) x := by
    intro x _ y _ z
    dsimp only
    grind
  rw [List.Perm.foldl_eq' hp comm, ← h]
  unfold cloT
  rw [List.foldl_map, List.foldl_map]
  congr 1
  funext c y
  show (if b2i y.1.2.2 = 0 ∧ c < kc y.1.1 ow then kc y.1.1 ow else c) = if y.1.2.2 = false then max c (kc y.1.1 ow) else c
  cases y.1.2.2 with
  | false => rw [if_pos rfl]; by_cases k : c < kc y.1.1 ow
             · rw [if_pos ⟨rfl, k⟩]; omega
             · rw [if_neg (fun z => k z.2)]; omega
  | true => rw [if_neg (fun z => absurd z.1 (by decide)), if_neg (by decide)]
theorem cloT_rng {ow : Ky} {T : List Row} (hk : kyo ow) (h : ∀ x, x ∈ T → kyo x.1 ∧ x.1 ≠ ow) : -1 ≤ cloT ow T ∧ cloT ow T ≤ 159 := by
  have : ∀ (L : List Row) (c : Int), (∀ x, x ∈ L → kyo x.1 ∧ x.1 ≠ ow) → -1 ≤ c ∧ c ≤ 159 → -1 ≤ L.foldl (fun c x => if x.2.2 = false then max c (kc x.1 ow) else c) c ∧ L.foldl (fun c x => if x.2.2 = false then max c (kc x.1 ow) else c) c ≤ 159 := by
    intro L
    induction L with
    | nil => intro c _ hc; exact hc
    | cons a L ih =>
      intro c hL hc
      refine ih _ (fun x hx => hL x (List.mem_cons_of_mem _ hx)) ?_
      obtain ⟨ha, hne⟩ := hL a List.mem_cons_self
      have h1 := kc_lo a.1 ow
      have h2 := kc_hi a.1 ow
      have h3 : kc a.1 ow ≠ 160 := fun z => hne ((kc_160 ha hk).mp z)
      dsimp only
      split <;> omega
  exact this T (-1) h (by omega)
section VREF
variable {V W : VV} {m al N p t oth Z : Nat} {own : Nat → Ky} {sd ps sn pu rf : Nat → Int} {tm : Int} {w : Wd} {ev tn : Nat → Nat} {Lb : Nat → List Trm} {Y : Ys} {e q n : Nat} {vals : Bool}
/-- what is so of a work that goes -/
def goW (N : Nat) (Y : Ys) (t : Nat) : Prop := (0 ≤ yv Y 228 t ∧ yv Y 228 t < (N : Int)) ∧ (yv Y 229 t = -1 ∨ (0 ≤ yv Y 229 t ∧ yv Y 229 t < 256))
/-- a lookup of a work begins -/
theorem vy_look (h : VY V m al N own sd ps sn pu rf tm Lb oth Z ev tn Y) (ht : t < 44) (htn : tn t < 2000000000) (hg : goW N Y t) (he : mA e n) (hq : q + 5 ≤ n) (hn : n ≤ 1000000) (hne : e < 230 ∨ 239 < e) : ∃ V', f_X16_beginLookup (t : Int) (e : Int) (q : Int) (b2i vals) V = some V' ∧ VY V' m al N own sd ps sn pu rf tm Lb oth Z ev (fup tn t (tn t + 1)) (lkY m own t (gk V e q) vals Y) ∧ KpV V V' := by
  obtain ⟨⟨L, h1, hL⟩, h2, h3, h4, h5, h6, h7, h8⟩ := h
  obtain ⟨p, hp⟩ : ∃ p : Nat, yv Y 228 t = (p : Int) := ⟨(yv Y 228 t).toNat, by have := hg.1; omega⟩
  have hyp : yp Y t = p := by unfold yp; show (yv Y 228 t).toNat = p; omega
  have h228 : vI V 228 t = (p : Int) := by rw [h5 228 t (by unfold scA; omega)]; exact hp
  obtain ⟨V', e1, e2, e3, e4, e5, e6⟩ := v_beginLookup (vals := vals) h1 h2 h4 ht (p := p) (by have := hg.1; omega) h228 htn he hq hn hne
  have g : ∀ a i, ¬ PL a i → vI V' a i = vI V a i := fun a i z => e6.vI z
  refine ⟨V', e1, ⟨⟨L, e2, hL⟩, ok_dt h2, ev_dt h3, ?_, fun a i z => ?_, QsV_ag h6 (fun a i z => g a i (by unfold PL; omega)), LbV_ag h7 (fun a i z => g a i (by unfold PL; omega)), TmV_ag h8 (fun a i z => g a i (by unfold PL; omega)) (fun t' _ k1 k2 => ?_)⟩, KpV_frs e6 (fun a i z => by unfold PL at z; unfold kpA; omega)⟩
  · show LksV V' (fup (yl Y) t (gk V e q, vals, begE m (own (yp Y t)) (yp Y t) (wT (yw Y) (yp Y t)) (gk V e q), 0)) _
    rw [hyp]
    exact e3
  · show vI V' a i = vI (st2 (ys Y) 230 t 1) a i
    rw [vI_st2]
    by_cases c : a = 230
    · subst c
      by_cases c2 : i = t
      · rw [if_pos ⟨rfl, c2⟩, c2]; exact e4
      · rw [if_neg (fun z => c2 z.2), e5 i c2]; exact h5 230 i z
    · rw [if_neg (fun z => c z.1), g a i (by unfold PL; unfold scA at z; omega)]; exact h5 a i z
  · have nes : ∀ b j, b ≠ 230 → vI (st2 (ys Y) 230 t 1) b j = vI (ys Y) b j := fun b j z => by rw [vI_st2, if_neg (fun e => z e.1)]
    change vI (st2 (ys Y) 230 t 1) 226 t' ≠ 0 at k1
    change vI (st2 (ys Y) 230 t 1) 227 t' = 2 at k2
    rw [nes 226 t' (by decide)] at k1
    rw [nes 227 t' (by decide)] at k2
    exact ⟨⟨k1, k2⟩, nes 228 t' (by decide), nes 243 t' (by decide), nes 244 t' (by decide)⟩
/-- a refreshing goes on -/
theorem v_refreshOn (h : VY V m al N own sd ps sn pu rf tm Lb oth Z ev tn Y) (ht : t < 44) (htn : tn t < 2000000000) (hg : goW N Y t) (h0 : 0 ≤ yv Y 242 t) (h1 : yv Y 241 t ≤ 159) : ∃ V', f_X16_refreshOn (t : Int) V = some V' ∧ VY V' m al N own sd ps sn pu rf tm Lb oth Z ev (fup tn t (tn t + 1)) (rfY m own t Y) ∧ KpV V V' := by
  have s5 := h.2.2.2.2.1
  have r242 : vI V 242 t = yv Y 242 t := s5 242 t (by unfold scA; omega)
  have r241 : vI V 241 t = yv Y 241 t := s5 241 t (by unfold scA; omega)
  have r228 : vI V 228 t = yv Y 228 t := s5 228 t (by unfold scA; omega)
  unfold f_X16_refreshOn rfY
  rw [l2_n ht (by omega), r242, Option.bind_some, l2_n ht (by omega), r241, Option.bind_some, show w32 (yv Y 241 t) = yv Y 241 t from w32_vI, show w32 (yv Y 242 t) = yv Y 242 t from w32_vI]
  by_cases c : yv Y 241 t < yv Y 242 t
  · rw [if_pos c, if_pos c]
    obtain ⟨V', e1, e2, e3⟩ := v_close (how := 1) h ht htn hg.2
    exact ⟨V', by rw [e1]; rfl, e2, e3⟩
  · rw [if_neg c, if_neg c]
    obtain ⟨b, hb⟩ : ∃ b : Nat, yv Y 242 t = (b : Int) := ⟨(yv Y 242 t).toNat, by omega⟩
    obtain ⟨p, hp⟩ : ∃ p : Nat, yv Y 228 t = (p : Int) := ⟨(yv Y 228 t).toNat, by have := hg.1; omega⟩
    have hyp : yp Y t = p := by unfold yp; show (yv Y 228 t).toNat = p; omega
    obtain ⟨⟨L, hP, hL⟩, _⟩ := id h
    have p32 : p < 32 := by have := hg.1; have := hP.2.1.2.1; omega
    have hown : gk V 165 (5 * p) = own p := (hP.2.1.2.2.1 p p32).1
    obtain ⟨V1, hV1⟩ : ∃ V1, V1 = kput V 195 0 165 (5 * p) := ⟨_, rfl⟩
    have pu := e_put (V := V) (p := 0) (p' := 5 * p) m195 (by omega) (by decide) m165k (by omega) (by decide) (Or.inl (by decide))
    rw [← hV1] at pu
    have r195 : ∀ i, i < 5 → vI V1 195 i = kf (own p) i := fun i hi => by
      rw [hV1, kput_vI, if_pos ⟨rfl, by omega, by omega⟩, ← hown, show gk V 165 (5 * p) = ky (fun i => vI V 165 (5 * p + i)) from rfl, kf_ky _ hi, Nat.sub_zero]
    obtain ⟨V2, hV2⟩ : ∃ V2, V2 = st2 V1 195 (b / 32) (bxor (vI V1 195 (b / 32)) (bshl 1 (31 - ((b % 32 : Nat) : Int)))) := ⟨_, rfl⟩
    have f9 : FrV (fun z => z == 9) V V2 := fun a i z => by
      have ne : a ≠ 195 := fun q => by rw [q] at z; exact absurd z (by show ¬ (true = false); decide)
      rw [hV2, st2_ne (fun q => ne q.1), hV1]
      show (if a = 195 ∧ _ ∧ _ then _ else V a i) = V a i
      rw [if_neg (fun q => ne q.1)]
    have Y2 := vy_9 h f9
    have key : gk V2 195 0 = turnK (own p) b := by
      have gd : gk V2 195 0 = ky (fun i => vI V2 195 (0 + i)) := rfl
      rw [gd]
      unfold turnK
      refine ky_eq.mpr (alleq_kq.mp (fun i hi => ?_))
      rw [Nat.zero_add, hV2, vI_st2]
      by_cases c : i = b / 32
      · rw [if_pos ⟨rfl, c⟩, if_pos c, r195 _ (by omega), c]
      · rw [if_neg (fun z => c z.2), if_neg c, r195 _ hi]
    obtain ⟨V', e1, e2, e3⟩ := vy_look (vals := false) (e := 195) (q := 0) Y2 ht htn hg m195 (by omega) (by decide) (by decide)
    rw [key] at e2
    refine ⟨V', ?_, ?_, KpV.trans (KpV_ag (fun a i z => ?_)) e3⟩
    · rw [l2_n ht (by omega), r228, Option.bind_some, hp, c5m, show f_X16_put 195 0 165 ((5 * p : Nat) : Int) V = _ from pu, Option.bind_some, hb, dvi_e (p := b) (q := 32) (w32_nn (by omega)) (by decide) (by decide), Option.bind_some, Option.bind_some, l2_n (by omega) (by omega), Option.bind_some, rmi_e (p := b) (q := 32) (w32_nn (by omega)) (by decide) (by decide), Option.bind_some, s2_n (by omega) (by omega), Option.bind_some, ← hV2, show f_X16_beginLookup (t : Int) 195 0 0 V2 = _ from e1]
      rfl
    · rw [hyp, hb]; exact e2
    · rw [hV2, st2_ne (fun q => by rw [q.1] at z; unfold kpA at z; omega), hV1]
      show (if a = 195 ∧ _ ∧ _ then _ else V a i) = V a i
      rw [if_neg (fun q => by rw [q.1] at z; unfold kpA at z; omega)]
/-- a refreshing begins -/
theorem v_beginRefresh (h : VY V m al N own sd ps sn pu rf tm Lb oth Z ev tn Y) (ht : t < 44) (htn : tn t < 2000000000) (hg : goW N Y t) : ∃ V', f_X16_beginRefresh (t : Int) V = some V' ∧ VY V' m al N own sd ps sn pu rf tm Lb oth Z ev (fup tn t (tn t + 1)) (brY m own t Y) ∧ KpV V V' := by
  obtain ⟨p, hp⟩ : ∃ p : Nat, yv Y 228 t = (p : Int) := ⟨(yv Y 228 t).toNat, by have := hg.1; omega⟩
  have hyp : yp Y t = p := by unfold yp; show (yv Y 228 t).toNat = p; omega
  have r228 : vI V 228 t = yv Y 228 t := h.2.2.2.2.1 228 t (by unfold scA; omega)
  obtain ⟨⟨L, hP, hL⟩, ho, _⟩ := id h
  have pN : p < N := by have := hg.1; omega
  have p32 : p < 32 := by have := hP.2.1.2.1; omega
  obtain ⟨T, hT⟩ : ∃ T, T = wT (yw Y) p := ⟨_, rfl⟩
  have tab : TabV V p (own p) T Z := by rw [hT]; exact hP.2.2.1.2 p p32
  obtain ⟨h189, hok, TS, t1, t2, t3, t4⟩ := id tab
  have hl := hok.1
  obtain ⟨g, hgd⟩ : ∃ g : Int → RwV → Int, g = fun c y => if y.2.2.2.1 = 0 ∧ c < y.2.2.1 then y.2.2.1 else c := ⟨_, rfl⟩
  have clo : (rowsV V p T.length).foldl g (-1) = cloT (own p) T := by rw [hgd]; exact cloT_perm t1 t4
  have crng := cloT_rng (T := T) (ho.2.2.2 p pN).1 (fun x hx => ⟨(hok.2.2 x hx).1, (hok.2.2 x hx).2.2⟩)
  have v1 := vy_st (a := 241) (i := t) (v := cloT (own p) T) h (by omega)
  have v2 := vy_st (a := 242) (i := t) (v := 0) v1 (by omega)
  have q241 : yv (setV (setV Y 241 t (cloT (own p) T)) 242 t 0) 241 t = cloT (own p) T := by
    show vI (st2 (st2 (ys Y) 241 t (cloT (own p) T)) 242 t 0) 241 t = _
    rw [vI_ne (by omega), vI_eq rfl, w32_id (by omega) (by omega)]
  have q242 : yv (setV (setV Y 241 t (cloT (own p) T)) 242 t 0) 242 t = 0 := by
    show vI (st2 (st2 (ys Y) 241 t (cloT (own p) T)) 242 t 0) 242 t = _
    rw [vI_eq rfl]; rfl
  have gg : goW N (setV (setV Y 241 t (cloT (own p) T)) 242 t 0) t := by
    have a1 : yv (setV (setV Y 241 t (cloT (own p) T)) 242 t 0) 228 t = yv Y 228 t := by
      show vI (st2 (st2 (ys Y) 241 t (cloT (own p) T)) 242 t 0) 228 t = _
      rw [vI_ne (by omega), vI_ne (by omega)]
    have a2 : yv (setV (setV Y 241 t (cloT (own p) T)) 242 t 0) 229 t = yv Y 229 t := by
      show vI (st2 (st2 (ys Y) 241 t (cloT (own p) T)) 242 t 0) 229 t = _
      rw [vI_ne (by omega), vI_ne (by omega)]
    unfold goW
    rw [a1, a2]; exact hg
  obtain ⟨V', e1, e2, e3⟩ := v_refreshOn v2 ht htn gg (by omega) (by omega)
  refine ⟨V', ?_, ?_, (KpV.trans (KpV_st (by unfold kpA; omega)) (KpV_st (by unfold kpA; omega))).trans e3⟩
  · unfold f_X16_beginRefresh l_X16_beginRefresh_16
    rw [l2_n ht (by omega), r228, Option.bind_some, hp]
    have lp := lp_seq (b := fun s : Int × Int => b_X16_beginRefresh_16 (t : Int) (p : Int) s.1 s.2 V) (x := some V') (fun k => ((rowsV V p k).foldl g (-1), ((1100 * p + k : Nat) : Int))) T.length
      (fun k hk => by
        show b_X16_beginRefresh_16 (t : Int) (p : Int) ((rowsV V p k).foldl g (-1)) ((1100 * p + k : Nat) : Int) V = some (.inl ((rowsV V p (k + 1)).foldl g (-1), ((1100 * p + (k + 1) : Nat) : Int)))
        have e : (rowsV V p (k + 1)).foldl g (-1) = g ((rowsV V p k).foldl g (-1)) (gR V (1100 * p + k)) := by
          rw [rowsV, rws_succ, List.foldl_append]
          rfl
        obtain ⟨c, hc⟩ : ∃ c, c = (rowsV V p k).foldl g (-1) := ⟨_, rfl⟩
        have cw : w32 c = c := by
          have : ∀ (L : List RwV), (∀ y, y ∈ L → w32 y.2.2.1 = y.2.2.1) → ∀ c : Int, w32 c = c → w32 (L.foldl g c) = L.foldl g c := by
            intro L
            induction L with
            | nil => intro _ c hc; exact hc
            | cons a L ih =>
              intro hL c hc
              refine ih (fun y hy => hL y (List.mem_cons_of_mem _ hy)) _ ?_
              rw [hgd]
              dsimp only
              split
              · exact hL a List.mem_cons_self
              · exact hc
          rw [hc]
          refine this _ (fun y hy => ?_) (-1) (by decide)
          obtain ⟨i, _, hi⟩ := rws_mem.mp hy
          rw [← hi]
          exact w32_vI
        rw [e, ← hc]
        have ge : g c (gR V (1100 * p + k)) = if vI V 193 (1100 * p + k) = 0 ∧ c < vI V 192 (1100 * p + k) then vI V 192 (1100 * p + k) else c := by rw [hgd]; rfl
        rw [ge]
        unfold b_X16_beginRefresh_16 j_X16_beginRefresh_65 j_X16_beginRefresh_64 j_X16_beginRefresh_65
        rw [l2_n p32 (by omega), h189, Option.bind_some, c1100m, cadd, w32_nn (by omega), w32_nn (by omega), if_pos (by omega), l2_n (by omega) (by omega), Option.bind_some, w32_vI]
        by_cases c1 : vI V 193 (1100 * p + k) = 0
        · rw [if_pos c1, l2_n (by omega) (by omega), Option.bind_some, w32_vI, cw]
          by_cases c2 : c < vI V 192 (1100 * p + k)
          · rw [if_pos c2, Option.bind_some, if_pos ⟨c1, c2⟩]; rfl
          · rw [if_neg c2, if_neg (fun z => c2 z.2)]; rfl
        · rw [if_neg c1, if_neg (fun z => c1 z.1)]; rfl)
      (by
        show b_X16_beginRefresh_16 (t : Int) (p : Int) ((rowsV V p T.length).foldl g (-1)) ((1100 * p + T.length : Nat) : Int) V = xit (some V')
        rw [clo]
        unfold b_X16_beginRefresh_16 j_X16_beginRefresh_72
        rw [l2_n p32 (by omega), h189, Option.bind_some, c1100m, cadd, w32_nn (by omega), if_neg (by omega), s2_n ht (by omega), Option.bind_some, s2_n ht (by omega), Option.bind_some, e1]
        rfl)
    have := lp FU 0 (by omega) (by unfold FU; omega)
    rw [c1100m]
    exact this
  · unfold brY
    rw [hyp, ← hT]; exact e2
end VREF
