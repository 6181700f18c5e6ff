/-! the next term of a publishing -/
theorem dgv_lt {d e : Nat → Nat} (hd : ∀ i, d i < 256) {k : Nat} (hk : ∀ i, i < k → d i = e i) (h : d k < e k) : ∀ n, k < n → dgv d n < dgv e n
  | 0, h0 => by omega
  | n + 1, h0 => by
    unfold dgv
    by_cases c : k < n
    · have := dgv_lt hd hk h n c
      have h2 := hd n
      omega
    · have e1 : k = n := by omega
      have e2 : ∀ m, m ≤ n → dgv d m = dgv e m := fun m hm => by
        induction m with
        | zero => rfl
        | succ m ih => unfold dgv; rw [ih (by omega), hk m (by omega)]
      rw [e2 n (by omega)]
      subst e1
      omega
theorem srt_get {α : Type} {m : α → Nat} {S : List α} {d : α} (h : SrtM m S) {i j : Nat} (hj : j < S.length) (hi : i < S.length) : m (S.getD i d) < m (S.getD j d) ↔ i < j := by
  have key : ∀ i j, i < j → j < S.length → m (S.getD i d) < m (S.getD j d) := fun i j hij hj => by
    rw [gd_get (by omega), gd_get hj]
    exact (List.pairwise_iff_getElem.mp h) i j (by omega) hj hij
  constructor
  · intro z
    by_cases c : i < j
    · exact c
    · by_cases e : i = j
      · subst e; omega
      · have := key j i (by omega) hi; omega
  · intro z; exact key i j z hj
section VNEXT
variable {V W : VV} {m al N p t oth Z : Nat} {own : Nat → Ky} {sd ps sn pu rf : Nat → Int} {tm : Int} {w : Wd} {ev tn : Nat → Nat} {Lb : Nat → List Trm} {Y : Ys} {E : List Ent} {Ls : List Nat}
/-- letters of a slot -/
def ltr (V : VV) (s : Nat) : List Int := (List.range (vI V 176 s).toNat).map (fun i => vI V 175 (12 * s + i))
theorem ltr_len {s : Nat} : (ltr V s).length = (vI V 176 s).toNat := by unfold ltr; rw [List.length_map, List.length_range]
theorem ltr_get {s i : Nat} (h : i < (vI V 176 s).toNat) : (ltr V s).getD i 0 = vI V 175 (12 * s + i) := by
  unfold ltr
  rw [gd_get (by rw [List.length_map, List.length_range]; exact h), List.getElem_map, List.getElem_range]
theorem v_lower {s1 s2 : Nat} (h1 : s1 < 2048) (h2 : s2 < 2048) (l1 : 1 ≤ vI V 176 s1 ∧ vI V 176 s1 ≤ 12) (l2' : 1 ≤ vI V 176 s2 ∧ vI V 176 s2 ≤ 12) (c1 : ∀ c, c ∈ ltr V s1 → 48 ≤ c ∧ c ≤ 122) (c2 : ∀ c, c ∈ ltr V s2 → 48 ≤ c ∧ c ≤ 122) : f_X16_lower (s1 : Int) (s2 : Int) V = some (b2i (decide (ltv (ltr V s1) < ltv (ltr V s2)))) := by
  obtain ⟨n1, hn1⟩ : ∃ n : Nat, vI V 176 s1 = (n : Int) := ⟨(vI V 176 s1).toNat, by omega⟩
  obtain ⟨n2, hn2⟩ : ∃ n : Nat, vI V 176 s2 = (n : Int) := ⟨(vI V 176 s2).toNat, by omega⟩
  have g1 : ∀ i, i < n1 → (ltr V s1).getD i 0 = vI V 175 (12 * s1 + i) ∧ 48 ≤ vI V 175 (12 * s1 + i) ∧ vI V 175 (12 * s1 + i) ≤ 122 := fun i hi => by
    have e := ltr_get (V := V) (s := s1) (i := i) (by omega)
    refine ⟨e, ?_⟩
    rw [← e]; exact c1 _ (getD_mem (by rw [ltr_len]; omega))
  have g2 : ∀ i, i < n2 → (ltr V s2).getD i 0 = vI V 175 (12 * s2 + i) ∧ 48 ≤ vI V 175 (12 * s2 + i) ∧ vI V 175 (12 * s2 + i) ≤ 122 := fun i hi => by
    have e := ltr_get (V := V) (s := s2) (i := i) (by omega)
    refine ⟨e, ?_⟩
    rw [← e]; exact c2 _ (getD_mem (by rw [ltr_len]; omega))
  have o1 : ∀ i, n1 ≤ i → (ltr V s1).getD i 0 = 0 := fun i hi => by
    rw [List.getD_eq_getElem?_getD, List.getElem?_eq_none (by rw [ltr_len]; omega)]; rfl
  have o2 : ∀ i, n2 ≤ i → (ltr V s2).getD i 0 = 0 := fun i hi => by
    rw [List.getD_eq_getElem?_getD, List.getElem?_eq_none (by rw [ltr_len]; omega)]; rfl
  have b1 : ∀ i, ((ltr V s1).getD i 0).toNat < 256 := fun i => by
    by_cases c : i < n1
    · have := g1 i c; omega
    · rw [o1 i (by omega)]; decide
  have b2 : ∀ i, ((ltr V s2).getD i 0).toNat < 256 := fun i => by
    by_cases c : i < n2
    · have := g2 i c; omega
    · rw [o2 i (by omega)]; decide
  have main : ∀ d k fu, d + k = min n1 n2 → d < fu → (∀ i, i < k → (ltr V s1).getD i 0 = (ltr V s2).getD i 0) → lpN (fun s : Int => b_X16_lower_34 (s1 : Int) (s2 : Int) ((min n1 n2 : Nat) : Int) s V) fu (k : Int) = some (b2i (decide (ltv (ltr V s1) < ltv (ltr V s2)))) := by
    intro d
    induction d with
    | zero =>
      intro k fu hd hf he
      refine lpN_end (b := fun s : Int => b_X16_lower_34 (s1 : Int) (s2 : Int) ((min n1 n2 : Nat) : Int) s V) (by omega) ?_
      unfold b_X16_lower_34 j_X16_lower_89 j_X16_lower_109
      rw [w32_nn (by omega), w32_nn (by omega), if_neg (by omega), l2_n h1 (by omega), hn1, Option.bind_some, l2_n h2 (by omega), hn2, Option.bind_some, w32_nn (by omega), w32_nn (by omega)]
      by_cases c : n1 < n2
      · have lt : ltv (ltr V s1) < ltv (ltr V s2) := dgv_lt (k := n1) b1 (fun i hi => by rw [he i (by omega)]) (by
          rw [o1 n1 (by omega)]; have := g2 n1 c; show 0 < _; omega) 12 (by omega)
        rw [if_pos (by omega), bz_e (Or.inr rfl), decide_eq_true lt]; rfl
      · rw [if_neg (by omega), bz_e (Or.inl rfl)]
        have nl : ¬ ltv (ltr V s1) < ltv (ltr V s2) := by
          by_cases c2 : n2 < n1
          · have : ltv (ltr V s2) < ltv (ltr V s1) := dgv_lt (k := n2) b2 (fun i hi => by rw [he i (by omega)]) (by
              rw [o2 n2 (by omega)]; have := g1 n2 c2; show 0 < _; omega) 12 (by omega)
            omega
          · have : ltr V s1 = ltr V s2 := by
              refine List.ext_getElem (by rw [ltr_len, ltr_len]; omega) (fun i i1 i2 => ?_)
              rw [← gd_get (d := 0) i1, ← gd_get (d := 0) i2]
              exact he i (by rw [ltr_len] at i1; omega)
            rw [this]; omega
        rw [decide_eq_false nl]; rfl
    | succ d ih =>
      intro k fu hd hf he
      obtain ⟨f, rfl⟩ : ∃ f, fu = f + 1 := ⟨fu - 1, by omega⟩
      have x1 := g1 k (by omega)
      have x2 := g2 k (by omega)
      have st : b_X16_lower_34 (s1 : Int) (s2 : Int) ((min n1 n2 : Nat) : Int) (k : Int) V = if vI V 175 (12 * s1 + k) - vI V 175 (12 * s2 + k) = 0 then cnt ((k : Int) + 1) else xit (j_X16_lower_72 (vI V 175 (12 * s1 + k) - vI V 175 (12 * s2 + k)) V) := by
        unfold b_X16_lower_34
        rw [w32_nn (by omega), w32_nn (by omega), if_pos (by omega), c12m, cadd, l2_n (by omega) (by omega), Option.bind_some, c12m, cadd, l2_n (by omega) (by omega), Option.bind_some, w32_id (by omega) (by omega)]
      by_cases c : vI V 175 (12 * s1 + k) - vI V 175 (12 * s2 + k) = 0
      · rw [if_pos c] at st
        rw [lpN_cnt (b := fun s : Int => b_X16_lower_34 (s1 : Int) (s2 : Int) ((min n1 n2 : Nat) : Int) s V) (s := (k : Int)) st]
        refine ih (k + 1) f (by omega) (by omega) (fun i hi => ?_)
        by_cases c2 : i = k
        · rw [c2, x1.1, x2.1]; omega
        · exact he i (by omega)
      · rw [if_neg c] at st
        rw [lpN_end (b := fun s : Int => b_X16_lower_34 (s1 : Int) (s2 : Int) ((min n1 n2 : Nat) : Int) s V) (by omega) st]
        unfold j_X16_lower_72 j_X16_lower_82
        rw [w32_id (by omega) (by omega)]
        by_cases c3 : vI V 175 (12 * s1 + k) - vI V 175 (12 * s2 + k) < 0
        · have lt : ltv (ltr V s1) < ltv (ltr V s2) := dgv_lt (k := k) b1 (fun i hi => by rw [he i (by omega)]) (by rw [x1.1, x2.1]; omega) 12 (by omega)
          rw [if_pos c3, bz_e (Or.inr rfl), decide_eq_true lt]; rfl
        · have lt : ltv (ltr V s2) < ltv (ltr V s1) := dgv_lt (k := k) b2 (fun i hi => by rw [he i (by omega)]) (by rw [x1.1, x2.1]; omega) 12 (by omega)
          rw [if_neg c3, bz_e (Or.inl rfl), decide_eq_false (by omega)]; rfl
  unfold f_X16_lower j_X16_lower_30 l_X16_lower_34
  rw [l2_n h1 (by omega), hn1, Option.bind_some, l2_n h2 (by omega), hn2, Option.bind_some, w32_nn (by omega), w32_nn (by omega), Option.bind_some, Option.bind_some]
  have := main (min n1 n2) 0 FU (by omega) (by unfold FU; omega) (fun i hi => by omega)
  by_cases c : n1 < n2
  · rw [if_pos (by omega)]
    rw [show min n1 n2 = n1 by omega] at this
    exact this
  · rw [if_neg (by omega)]
    rw [show min n1 n2 = n2 by omega] at this
    exact this
theorem v_hasTerm {x lim : Nat} (h243 : vI V 243 t = (lim : Int)) (hl : lim ≤ 16) (ht : t < 44) (h228 : vI V 228 t = (p : Int)) (hp : p < 32) (hx : x < 64) : f_X16_hasTerm (t : Int) (x : Int) V = some (b2i (isInT lim (gT V p x))) := by
  have lp := lp_seq (b := fun s : Int × Int => b_X16_hasTerm_5 (t : Int) (x : Int) s.1 s.2 V) (x := some (b2i (isInT lim (gT V p x)))) (fun k => (b2i (isInT k (gT V p x)), (k : Int))) lim
    (fun k hk => by
      show b_X16_hasTerm_5 (t : Int) (x : Int) (b2i (isInT k (gT V p x))) (k : Int) V = some (.inl (b2i (isInT (k + 1) (gT V p x)), ((k + 1 : Nat) : Int)))
      have e : isInT (k + 1) (gT V p x) = (isInT k (gT V p x) || decide (0 < vI V 178 (1024 * p + 64 * k + x))) := by
        unfold isInT
        rw [List.range_succ, List.any_append]
        have : (gT V p x).2.2 k = vI V 178 (1024 * p + 64 * k + x) := if_pos (by omega)
        simp only [List.any_cons, List.any_nil, Bool.or_false, this]
      rw [e]
      unfold b_X16_hasTerm_5 j_X16_hasTerm_46 j_X16_hasTerm_51
      rw [l2_n ht (by omega), h243, Option.bind_some, w32_nn (by omega), w32_nn (by omega), if_pos (by omega), w32_b2i]
      cases isInT k (gT V p x) with
      | true => rw [if_neg (by decide)]; rfl
      | false =>
        rw [if_pos (by decide), l2_n ht (by omega), h228, Option.bind_some, c1024m, c64m, cadd, cadd, l2_n (by omega) (by omega), Option.bind_some, w32_vI]
        by_cases c : 0 < vI V 178 (1024 * p + 64 * k + x)
        · rw [if_pos c, decide_eq_true c]; rfl
        · rw [if_neg c, decide_eq_false c]; rfl)
    (by
      show b_X16_hasTerm_5 (t : Int) (x : Int) (b2i (isInT lim (gT V p x))) (lim : Int) V = _
      unfold b_X16_hasTerm_5
      rw [l2_n ht (by omega), h243, Option.bind_some, w32_nn (by omega), if_neg (by omega), bz_e (by cases isInT lim (gT V p x); exact Or.inl rfl; exact Or.inr rfl)])
  unfold f_X16_hasTerm l_X16_hasTerm_5
  have := lp FU 0 (by omega) (by unfold FU; omega)
  exact this
theorem vy_244 {v a : Int} (h : VY V m al N own sd ps sn pu rf tm Lb oth Z ev tn Y) (hr : TmR (st2 V 244 t v) (st2 (ys Y) 244 t a) Lb t) : VY (st2 V 244 t v) m al N own sd ps sn pu rf tm Lb oth Z ev tn (setV Y 244 t a) := by
  have ne : ∀ b j, b ≠ 244 → vI (st2 V 244 t v) b j = vI V b j := fun b j z => by rw [vI_st2, if_neg (fun e => z e.1)]
  have nes : ∀ b j, b ≠ 244 → vI (st2 (ys Y) 244 t a) b j = vI (ys Y) b j := fun b j z => by rw [vI_st2, if_neg (fun e => z e.1)]
  refine vy_mk h (fun b j z => st2_ne (fun e => z (Or.inl (by omega)))) (LksV_ag h.2.2.2.1 (fun b j z => ne b j (by omega))) (fun b j z => ?_) (QsV_ag h.2.2.2.2.2.1 (fun b j z => ne b j (by omega))) (fun t' ht' k1 k2 => ?_)
  · rw [ne b j (by unfold scA at z; omega), nes b j (by unfold scA at z; omega)]; exact h.2.2.2.2.1 b j z
  · by_cases c : t' = t
    · rw [c]; exact hr
    · rw [nes 226 t' (by decide)] at k1
      rw [nes 227 t' (by decide)] at k2
      have := h.2.2.2.2.2.2.2 t' ht' k1 k2
      unfold TmR at this ⊢
      rw [nes 228 t' (by decide), nes 243 t' (by decide), vI_st2, if_neg (fun e => c e.2), vI_st2, if_neg (fun e => c e.2)]
      rcases this with k | ⟨x, j, a1, a2, a3, a4, a5⟩
      · exact Or.inl k
      · exact Or.inr ⟨x, j, a1, a2, a3, a4, by rw [gT_ext (V := V) (fun b i z => ne b i (by omega))]; exact a5⟩
theorem v_nextTerm (h : VY V m al N own sd ps sn pu rf tm Lb oth Z ev tn Y) (ht : t < 44) (htn : tn t < 2000000000) (hg : goW N Y t) (hgo : yv Y 226 t ≠ 0) (hk : yv Y 227 t = 2) (hlim : 0 ≤ yv Y 243 t ∧ yv Y 243 t ≤ 16) : ∃ V', f_X16_nextTerm (t : Int) V = some V' ∧ VY V' m al N own sd ps sn pu rf tm Lb oth Z ev (fup tn t (tn t + 1)) (nxtY m own Lb t Y) ∧ KpV V V' := by
  obtain ⟨p, hp⟩ : ∃ p : Nat, yv Y 228 t = (p : Int) := ⟨(yv Y 228 t).toNat, by have := hg.1; omega⟩
  have hyp : yp Y t = p := by unfold yp; show (yv Y 228 t).toNat = p; omega
  obtain ⟨lim, hl⟩ : ∃ l : Nat, yv Y 243 t = (l : Int) := ⟨(yv Y 243 t).toNat, by omega⟩
  have s5 := h.2.2.2.2.1
  have r228 : vI V 228 t = (p : Int) := by rw [s5 228 t (by unfold scA; omega)]; exact hp
  have r243 : vI V 243 t = (lim : Int) := by rw [s5 243 t (by unfold scA; omega)]; exact hl
  have r246 : vI V 246 t = yv Y 246 t := s5 246 t (by unfold scA; omega)
  obtain ⟨⟨L, hP, _⟩, _⟩ := id h
  have p32 : p < 32 := by have := hg.1; have := hP.2.1.2.1; omega
  obtain ⟨b1, b2, b3, b4⟩ := h.2.2.2.2.2.2.1 p p32
  obtain ⟨n, hn⟩ : ∃ n, n = (Lb p).length := ⟨_, rfl⟩
  have n64 : n ≤ 64 := by rw [hn]; exact b2.1
  rw [← hn] at b1 b3 b4
  obtain ⟨PL, hPL⟩ : ∃ PL, PL = pbT lim (Lb p) := ⟨_, rfl⟩
  have srtP : SrtM (fun x : Trm => ltv x.1) PL := by
    rw [hPL]
    exact List.Pairwise.filter _ b2.2.1
  have lPL : PL.length ≤ 64 := by
    have : PL.length ≤ (Lb p).length := by rw [hPL]; exact List.length_filter_le _ _
    omega
  have slot : ∀ x, x < n → gT V p x ∈ Lb p := fun x hx => b3.mem_iff.mp (rws_mem.mpr ⟨x, hx, rfl⟩)
  have lets : ∀ x, x < n → ∀ c, c ∈ ltr V (64 * p + x) → 48 ≤ c ∧ c ≤ 122 := fun x hx => (b2.2.2 _ (slot x hx)).2.1
  have low : ∀ x y, x < n → y < n → f_X16_lower ((64 * p + x : Nat) : Int) ((64 * p + y : Nat) : Int) V = some (b2i (decide (ltv (gT V p x).1 < ltv (gT V p y).1))) := fun x y hx hy => v_lower (by omega) (by omega) (b4 x hx) (b4 y hy) (lets x hx) (lets y hy)
  have tmr := h.2.2.2.2.2.2.2 t ht hgo hk
  unfold TmR at tmr
  rw [show vI (ys Y) 228 t = (p : Int) from hp, show vI (ys Y) 243 t = (lim : Int) from hl, Int.toNat_natCast, Int.toNat_natCast, ← hPL, ← hn] at tmr
  -- which come behind
  obtain ⟨i0, hi0⟩ : ∃ i0 : Nat, yv Y 244 t + 1 = (i0 : Int) := by
    rcases tmr with k | ⟨x, j, k, _⟩
    · exact ⟨0, by show vI (ys Y) 244 t + 1 = _; rw [k.1]; rfl⟩
    · exact ⟨x + 1, by show vI (ys Y) 244 t + 1 = _; rw [k]; rfl⟩
  obtain ⟨bh, hbh⟩ : ∃ bh : Nat → Prop, bh = fun x => vI V 244 t < 0 ∨ ltv (gT V p (vI V 244 t).toNat).1 < ltv (gT V p x).1 := ⟨_, rfl⟩
  have bhP : ∀ x i, x < n → i < PL.length → gT V p x = PL.getD i trm0 → (bh x ↔ i0 ≤ i) := fun x i hx hi e => by
    rw [hbh]
    rcases tmr with k | ⟨a, j, k1, k2, k3, k4, k5⟩
    · have : i0 = 0 := by have : vI (ys Y) 244 t + 1 = (i0 : Int) := hi0; omega
      rw [this]
      exact ⟨fun _ => by omega, fun _ => Or.inl (by omega)⟩
    · have : i0 = a + 1 := by have : vI (ys Y) 244 t + 1 = (i0 : Int) := hi0; omega
      have z := srt_get (d := trm0) srtP hi k2
      rw [this]
      constructor
      · intro q
        rcases q with q | q
        · omega
        · rw [k4, Int.toNat_natCast, k5, e] at q
          have := z.mp q
          omega
      · intro q
        right
        rw [k4, Int.toNat_natCast, k5, e]
        exact z.mpr (by omega)
  obtain ⟨cd, hcd⟩ : ∃ cd : Nat → Prop, cd = fun x => bh x ∧ isInT lim (gT V p x) = true := ⟨_, rfl⟩
  have cdI : ∀ x, cd x ↔ (bh x ∧ isInT lim (gT V p x) = true) := fun x => by rw [hcd]
  have dcd : ∀ x, Decidable (cd x) := fun x => Classical.propDecidable _
  have inP : ∀ x, x < n → isInT lim (gT V p x) = true → ∃ i, i < PL.length ∧ gT V p x = PL.getD i trm0 := fun x hx hi => by
    have : gT V p x ∈ PL := by rw [hPL]; exact List.mem_filter.mpr ⟨slot x hx, hi⟩
    obtain ⟨i, hi, e⟩ := List.getElem_of_mem this
    exact ⟨i, hi, by rw [gd_get hi, e]⟩
  have ofP : ∀ i, i < PL.length → ∃ x, x < n ∧ gT V p x = PL.getD i trm0 ∧ isInT lim (gT V p x) = true := fun i hi => by
    have m1 : PL.getD i trm0 ∈ PL := getD_mem hi
    rw [hPL] at m1
    obtain ⟨m2, m3⟩ := List.mem_filter.mp m1
    rw [← hPL] at m2 m3
    obtain ⟨x, hx, e⟩ := rws_mem.mp (b3.mem_iff.mpr m2)
    exact ⟨x, hx, e, by rw [e]; exact m3⟩
  -- the loop
  obtain ⟨s', n', n0, hinv, hlp⟩ := lp_inv (b := fun s : Int × Int => b_X16_nextTerm_12 (t : Int) (p : Int) s.1 s.2 V) (fun k s => s.2 = (k : Int) ∧ ((s.1 = -1 ∧ ∀ x, x < k → ¬ cd x) ∨ ∃ j : Nat, j < k ∧ s.1 = (j : Int) ∧ cd j ∧ ∀ x, x < k → cd x → ltv (gT V p j).1 ≤ ltv (gT V p x).1)) n
    (fun k s hk hI => by
      obtain ⟨s1, s2⟩ := hI
      obtain ⟨sb, sk⟩ := s
      change sk = (k : Int) at s1
      subst s1
      have st : b_X16_nextTerm_12 (t : Int) (p : Int) sb (k : Int) V = if cd k ∧ (sb < 0 ∨ ltv (gT V p k).1 < ltv (gT V p sb.toNat).1) then some (.inl ((k : Int), (k : Int) + 1)) else some (.inl (sb, (k : Int) + 1)) := by
        have t62 : ∀ y : Bool, (y = true ↔ bh k) → j_X16_nextTerm_62 (t : Int) (p : Int) sb (k : Int) (b2i y) V = if cd k ∧ (sb < 0 ∨ ltv (gT V p k).1 < ltv (gT V p sb.toNat).1) then some (.inl ((k : Int), (k : Int) + 1)) else some (.inl (sb, (k : Int) + 1)) := by
          intro y hy
          unfold j_X16_nextTerm_62 j_X16_nextTerm_106 j_X16_nextTerm_103 j_X16_nextTerm_106
          rw [w32_b2i]
          cases y with
          | false =>
            rw [if_pos (by decide), if_neg (fun q => by have := hy.mpr ((cdI k).mp q.1).1; cases this)]; rfl
          | true =>
            have hb : bh k := hy.mp rfl
            rw [if_neg (by decide), v_hasTerm r243 (by omega) ht r228 p32 (by omega), Option.bind_some, w32_b2i]
            cases hi : isInT lim (gT V p k) with
            | false => rw [if_pos (by decide), if_neg (fun q => by have := ((cdI k).mp q.1).2; rw [hi] at this; cases this)]; rfl
            | true =>
              rw [if_neg (by decide)]
              rcases s2 with ⟨z, _⟩ | ⟨j, j1, j2, _, _⟩
              · have z : sb = -1 := z
                rw [z, if_pos (by decide), if_pos ⟨(cdI k).mpr ⟨hb, hi⟩, Or.inl (by decide)⟩]; rfl
              · have j2 : sb = (j : Int) := j2
                rw [j2, w32_nn (by omega), if_neg (by omega), c64m, cadd, cadd, low k j hk (by omega), Option.bind_some, w32_b2i, Int.toNat_natCast]
                by_cases c : ltv (gT V p k).1 < ltv (gT V p j).1
                · rw [decide_eq_true c, if_neg (by decide), if_pos ⟨(cdI k).mpr ⟨hb, hi⟩, Or.inr c⟩]; rfl
                · rw [decide_eq_false c, if_pos (by decide), if_neg (fun q => by rcases q.2 with q | q; omega; exact c q)]; rfl
        unfold b_X16_nextTerm_12 j_X16_nextTerm_57
        rw [l2_n p32 (by omega), b1, Option.bind_some, w32_nn (by omega), w32_nn (by omega), if_pos (by omega), l2_n ht (by omega), Option.bind_some, w32_vI]
        by_cases c : vI V 244 t < 0
        · rw [if_pos c]
          exact t62 true ⟨fun _ => by rw [hbh]; exact Or.inl c, fun _ => rfl⟩
        · rw [if_neg c, Option.bind_some]
          have hj : ∃ j : Nat, j < n ∧ vI V 244 t = (j : Int) := by
            rcases tmr with k | ⟨a, j, k1, k2, k3, k4, k5⟩
            · omega
            · exact ⟨j, k3, k4⟩
          obtain ⟨j, hj1, hj2⟩ := hj
          rw [hj2, c64m, cadd, cadd, low j k hj1 hk, Option.bind_some, w32_b2i]
          by_cases c2 : ltv (gT V p j).1 < ltv (gT V p k).1
          · rw [decide_eq_true c2, if_neg (by decide)]
            exact t62 true ⟨fun _ => by rw [hbh]; right; rw [hj2, Int.toNat_natCast]; exact c2, fun _ => rfl⟩
          · rw [decide_eq_false c2, if_pos (by decide)]
            refine t62 false ⟨fun q => absurd q (by decide), fun q => ?_⟩
            rw [hbh] at q
            rcases q with q | q
            · exact absurd q c
            · rw [hj2, Int.toNat_natCast] at q; exact absurd q c2
      show ∃ s', b_X16_nextTerm_12 (t : Int) (p : Int) sb (k : Int) V = some (.inl s') ∧ _
      rw [st]
      by_cases c : cd k ∧ (sb < 0 ∨ ltv (gT V p k).1 < ltv (gT V p sb.toNat).1)
      · rw [if_pos c]
        refine ⟨_, rfl, rfl, Or.inr ⟨k, by omega, rfl, c.1, fun x hx hc => ?_⟩⟩
        by_cases e : x = k
        · rw [e]; exact Nat.le_refl _
        · rcases s2 with ⟨z, z2⟩ | ⟨j, j1, j2, j3, j4⟩
          · exact absurd hc (z2 x (by omega))
          · have j2 : sb = (j : Int) := j2
            have := j4 x (by omega) hc
            rcases c.2 with q | q
            · omega
            · rw [j2, Int.toNat_natCast] at q; omega
      · rw [if_neg c]
        refine ⟨_, rfl, rfl, ?_⟩
        rcases s2 with ⟨z, z2⟩ | ⟨j, j1, j2, j3, j4⟩
        · refine Or.inl ⟨z, fun x hx hc => ?_⟩
          by_cases e : x = k
          · rw [e] at hc
            exact c ⟨hc, Or.inl (by have z : sb = -1 := z; omega)⟩
          · exact z2 x (by omega) hc
        · have j2 : sb = (j : Int) := j2
          refine Or.inr ⟨j, by omega, j2, j3, fun x hx hc => ?_⟩
          by_cases e : x = k
          · rw [e] at hc ⊢
            by_cases c3 : ltv (gT V p k).1 < ltv (gT V p j).1
            · exact absurd ⟨hc, Or.inr (by rw [j2, Int.toNat_natCast]; exact c3)⟩ c
            · omega
          · exact j4 x (by omega) hc)
    FU 0 (-1, 0) (by omega) (by unfold FU; omega) ⟨rfl, Or.inl ⟨rfl, fun x hx => by omega⟩⟩
  obtain ⟨sb, sk⟩ := s'
  obtain ⟨q1, q2⟩ := hinv
  change sk = (n : Int) at q1
  subst q1
  have run : f_X16_nextTerm (t : Int) V = j_X16_nextTerm_112 (t : Int) (p : Int) sb V := by
    unfold f_X16_nextTerm l_X16_nextTerm_12
    rw [l2_n ht (by omega), r228, Option.bind_some]
    refine hlp.trans ?_
    refine lpN_end (b := fun s : Int × Int => b_X16_nextTerm_12 (t : Int) (p : Int) s.1 s.2 V) n0 ?_
    dsimp only
    unfold b_X16_nextTerm_12
    rw [l2_n p32 (by omega), b1, Option.bind_some, w32_nn (by omega), if_neg (by omega)]
  rw [run]
  unfold j_X16_nextTerm_112 nxtY
  rw [hyp, show (yv Y 243 t).toNat = lim by omega, ← hPL, hi0, Int.toNat_natCast, s2_n ht (by omega), Option.bind_some]
  rcases q2 with ⟨z, z2⟩ | ⟨j, j1, j2, j3, j4⟩
  · have z : sb = -1 := z
    subst z
    have ni : ¬ i0 < PL.length := fun hi => by
      obtain ⟨x, x1, x2, x3⟩ := ofP i0 hi
      refine z2 x x1 ?_
      rw [hcd]
      exact ⟨(bhP x i0 x1 hi x2).mpr (Nat.le_refl _), x3⟩
    have Y1 := vy_244 (t := t) (v := -1) (a := -1) h (Or.inl ⟨vI_eq rfl, vI_eq rfl⟩)
    have g229 : yv (setV Y 244 t (-1)) 229 t = yv Y 229 t := vI_ne (by omega)
    have r246' : vI (st2 V 244 t (-1)) 246 t = yv Y 246 t := by rw [vI_ne (by omega)]; exact r246
    rw [if_neg ni, if_pos (by decide), l2_n ht (by omega), r246', Option.bind_some, show w32 (yv Y 246 t) = yv Y 246 t from w32_vI]
    have fin : ∀ how : Int, ∃ V', j_X16_nextTerm_139 (t : Int) how (st2 V 244 t (-1)) = some V' ∧ VY V' m al N own sd ps sn pu rf tm Lb oth Z ev (fup tn t (tn t + 1)) (clY t how (setV Y 244 t (-1))) ∧ KpV V V' := fun how => by
      obtain ⟨V', e1, e2, e3⟩ := v_close (how := how) Y1 ht htn (by rw [g229]; exact hg.2)
      exact ⟨V', by unfold j_X16_nextTerm_139; rw [e1]; rfl, e2, KpV.trans (KpV_st (by unfold kpA; omega)) e3⟩
    by_cases c : yv Y 246 t = 0
    · rw [if_pos c, if_pos c]; exact fin 1
    · rw [if_neg c, if_neg c]; exact fin 2
  · have j2 : sb = (j : Int) := j2
    subst j2
    rw [hcd] at j3
    obtain ⟨i, hi1, hi2⟩ := inP j j1 j3.2
    have i1 : i0 ≤ i := (bhP j i j1 hi1 hi2).mp j3.1
    have i2 : i = i0 := by
      obtain ⟨x, x1, x2, x3⟩ := ofP i0 (by omega)
      have := j4 x x1 (by rw [hcd]; exact ⟨(bhP x i0 x1 (by omega) x2).mpr (Nat.le_refl _), x3⟩)
      rw [hi2, x2] at this
      by_cases c : i0 < i
      · have := (srt_get (d := trm0) srtP hi1 (show i0 < PL.length by omega)).mpr c
        omega
      · omega
    rw [i2] at hi1 hi2
    have nes : ∀ b, b ≠ 244 → vI (st2 (ys Y) 244 t (i0 : Int)) b t = vI (ys Y) b t := fun b z => by rw [vI_st2, if_neg (fun e => z e.1)]
    have Y1 := vy_244 (t := t) (v := (j : Int)) (a := (i0 : Int)) h (Or.inr ⟨i0, j, by rw [vI_eq rfl, w32_nn (by omega)], by
      rw [nes 228 (by decide), nes 243 (by decide), show vI (ys Y) 228 t = (p : Int) from hp, show vI (ys Y) 243 t = (lim : Int) from hl, Int.toNat_natCast, Int.toNat_natCast, ← hPL]; exact hi1, by
      rw [nes 228 (by decide), show vI (ys Y) 228 t = (p : Int) from hp, Int.toNat_natCast, ← hn]; exact j1, by rw [vI_eq rfl, w32_nn (by omega)], by
      rw [nes 228 (by decide), nes 243 (by decide), show vI (ys Y) 228 t = (p : Int) from hp, show vI (ys Y) 243 t = (lim : Int) from hl, Int.toNat_natCast, Int.toNat_natCast, ← hPL, gT_ext (V := V) (fun b i z => vI_ne (by omega))]; exact hi2⟩)
    have gg : goW N (setV Y 244 t (i0 : Int)) t := by
      have a1 : yv (setV Y 244 t (i0 : Int)) 228 t = yv Y 228 t := nes 228 (by decide)
      have a2 : yv (setV Y 244 t (i0 : Int)) 229 t = yv Y 229 t := nes 229 (by decide)
      unfold goW
      rw [a1, a2]; exact hg
    have hi1' := hi1
    obtain ⟨V', e1, e2, e3⟩ := vy_look (vals := false) (e := 177) (n := 10240) (q := 5 * (64 * p + j)) Y1 ht htn gg (by unfold mA; decide) (by omega) (by decide) (by decide)
    have key : gk (st2 V 244 t (j : Int)) 177 (5 * (64 * p + j)) = (PL.getD i0 trm0).2.1 := by
      rw [← hi2]
      exact gk_ag (fun i => vI_ne (by omega))
    rw [key] at e2
    refine ⟨V', ?_, ?_, KpV.trans (KpV_st (by unfold kpA; omega)) e3⟩
    · rw [w32_nn (by omega), if_neg (by omega), c64m, cadd, c5m, show f_X16_beginLookup (t : Int) 177 ((5 * (64 * p + j) : Nat) : Int) 0 (st2 V 244 t (j : Int)) = _ from e1]; rfl
    · rw [if_pos hi1]
      have e4 : trY Lb t (setV Y 244 t (i0 : Int)) = PL.getD i0 trm0 := by
        unfold trY yp
        rw [show yv (setV Y 244 t (i0 : Int)) 243 t = (lim : Int) from (nes 243 (by decide)).trans hl, show vI (ys (setV Y 244 t (i0 : Int))) 228 t = (p : Int) from (nes 228 (by decide)).trans hp, Int.toNat_natCast, Int.toNat_natCast, ← hPL, show yv (setV Y 244 t (i0 : Int)) 244 t = (i0 : Int) by
          show vI (st2 (ys Y) 244 t (i0 : Int)) 244 t = _
          rw [vI_eq rfl, w32_nn (by omega)], Int.toNat_natCast]
      rw [e4]
      exact e2
end VNEXT
