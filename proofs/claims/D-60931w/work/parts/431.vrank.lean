/-! a query's list is told, the best first -/
def okL (L : List It) : Prop := L.length ≤ 200 ∧ (L.map od).Nodup ∧ ∀ z, z ∈ L → (0 ≤ z.1 ∧ z.1 < 32) ∧ (0 ≤ z.2.1 ∧ z.2.1 < 16) ∧ (0 ≤ z.2.2 ∧ z.2.2 ≤ 900)
theorem rkM_lt {x y : It} (hx : (0 ≤ x.1 ∧ x.1 < 32) ∧ (0 ≤ x.2.1 ∧ x.2.1 < 16) ∧ (0 ≤ x.2.2 ∧ x.2.2 ≤ 900)) (hy : (0 ≤ y.1 ∧ y.1 < 32) ∧ (0 ≤ y.2.1 ∧ y.2.1 < 16) ∧ (0 ≤ y.2.2 ∧ y.2.2 ≤ 900)) : rkM x < rkM y ↔ (y.2.2 < x.2.2 ∨ (x.2.2 = y.2.2 ∧ (x.1 < y.1 ∨ (x.1 = y.1 ∧ x.2.1 < y.2.1)))) := by
  unfold rkM
  omega
theorem rkM_inj {x y : It} (hx : (0 ≤ x.1 ∧ x.1 < 32) ∧ (0 ≤ x.2.1 ∧ x.2.1 < 16) ∧ (0 ≤ x.2.2 ∧ x.2.2 ≤ 900)) (hy : (0 ≤ y.1 ∧ y.1 < 32) ∧ (0 ≤ y.2.1 ∧ y.2.1 < 16) ∧ (0 ≤ y.2.2 ∧ y.2.2 ≤ 900)) (h : rkM x = rkM y) : od x = od y := by
  unfold rkM at h
  unfold od
  have e1 : x.1 = y.1 := by omega
  have e2 : x.2.1 = y.2.1 := by omega
  rw [e1, e2]
theorem okL_rk {L : List It} (h : okL L) : (L.map rkM).Nodup := by
  obtain ⟨h0, h1, h2⟩ := h
  clear h0
  revert h1 h2
  induction L with
  | nil => intro _ _; exact List.nodup_nil
  | cons a L ih =>
    intro h1 h2
    rw [List.map_cons, List.nodup_cons] at h1 ⊢
    refine ⟨fun hm => ?_, ih h1.2 (fun z hz => h2 z (List.mem_cons_of_mem _ hz))⟩
    obtain ⟨b, hb, e⟩ := List.mem_map.mp hm
    exact h1.1 (List.mem_map.mpr ⟨b, hb, rkM_inj (h2 b (List.mem_cons_of_mem _ hb)) (h2 a List.mem_cons_self) e⟩)
section VRANK
variable {V W sc' : VV} {m al N p t oth Z : Nat} {own : Nat → Ky} {sd ps sn pu rf : Nat → Int} {tm : Int} {ev tn : Nat → Nat} {Lb : Nat → List Trm} {Y : Ys} {q' : Qs}
/-- words and lists of the queries change -/
theorem vy_q (h : VY V m al N own sd ps sn pu rf tm Lb oth Z ev tn Y) (g : ∀ a i, ¬ ((241 ≤ a ∧ a ≤ 270 ∧ a ≠ 243 ∧ a ≠ 244) ∨ a = 230 ∨ mv a i = 9) → W a i = V a i) (hs : ScV W sc') (hq : QsV W q') (gs : ∀ b t, (b = 226 ∨ b = 227 ∨ b = 228 ∨ b = 243 ∨ b = 244) → vI sc' b t = vI (ys Y) b t) : VY W m al N own sd ps sn pu rf tm Lb oth Z ev tn (yw Y, yl Y, sc', q') := by
  have gv : ∀ a i, ¬ ((241 ≤ a ∧ a ≤ 270 ∧ a ≠ 243 ∧ a ≠ 244) ∨ a = 230 ∨ mv a i = 9) → vI W a i = vI V a i := fun a i z => by show w32 _ = w32 _; rw [g a i z]
  have m6 : ∀ a i, (226 ≤ a ∧ a ≤ 264 ∧ a ≠ 240) → mv a i = 6 := fun a i z => by
    unfold mv
    rw [if_neg (by omega)]
    unfold mvA
    rw [if_neg (by omega), if_neg (by omega), if_neg (by omega), if_neg (by omega), if_neg (by omega), if_pos z]
  have m4 : ∀ a i, (173 ≤ a ∧ a ≤ 178) → mv a i = 4 := fun a i z => by
    unfold mv
    rw [if_neg (by omega)]
    unfold mvA
    rw [if_neg (by omega), if_neg (by omega), if_neg (by omega), if_pos (by omega)]
  refine vy_mk h (fun a i z => g a i (fun k => z (by rcases k with k | k | k; exact Or.inl (by omega); exact Or.inl (by omega); exact Or.inr k))) (LksV_ag h.2.2.2.1 (fun a i z => gv a i (by rw [m6 a i (by omega)]; omega))) hs hq (TmV_ag h.2.2.2.2.2.2.2 (fun a i z => gv a i ?_) (fun t' _ k1 k2 => ?_))
  · rcases z with z | z
    · rw [m4 a i (by omega)]; omega
    · rw [m6 a i (by omega)]; omega
  · rw [gs 226 t' (by omega)] at k1
    rw [gs 227 t' (by omega)] at k2
    exact ⟨⟨k1, k2⟩, gs 228 t' (by omega), gs 243 t' (by omega), gs 244 t' (by omega)⟩
/-- an item in its slot -/
def gLi (V : VV) (s : Nat) : It := (vI V 259 s, vI V 260 s, vI V 261 s)
theorem qs_gLi {q : Qs} (h : QsV V q) (ht : t < 44) {i : Nat} (hi : i < (qL q t).length) : gLi V (200 * t + i) = (qL q t).getD i it0 := by
  obtain ⟨h1, h2, h3⟩ := (h.1 t ht).2.2.1 i hi
  show (vI V 259 (200 * t + i), vI V 260 (200 * t + i), vI V 261 (200 * t + i)) = _
  rw [h1, h2, h3]
  rfl
theorem v_better {a b : Nat} (ha : a < 8800) (hb : b < 8800) (hx : (0 ≤ (gLi V a).1 ∧ (gLi V a).1 < 32) ∧ (0 ≤ (gLi V a).2.1 ∧ (gLi V a).2.1 < 16) ∧ (0 ≤ (gLi V a).2.2 ∧ (gLi V a).2.2 ≤ 900)) (hy : (0 ≤ (gLi V b).1 ∧ (gLi V b).1 < 32) ∧ (0 ≤ (gLi V b).2.1 ∧ (gLi V b).2.1 < 16) ∧ (0 ≤ (gLi V b).2.2 ∧ (gLi V b).2.2 ≤ 900)) : f_X16_better (a : Int) (b : Int) V = some (b2i (decide (rkM (gLi V a) < rkM (gLi V b)))) := by
  have key := rkM_lt hx hy
  unfold f_X16_better j_X16_better_81 j_X16_better_85 j_X16_better_86 j_X16_better_35
  simp only [l2_n ha (show (8800 : Nat) ≤ 2147483647 by decide), l2_n hb (show (8800 : Nat) ≤ 2147483647 by decide), Option.bind_some, w32_vI]
  have k : rkM (gLi V a) < rkM (gLi V b) ↔ (vI V 261 b < vI V 261 a ∨ (vI V 261 a = vI V 261 b ∧ (vI V 259 a < vI V 259 b ∨ (vI V 259 a = vI V 259 b ∧ vI V 260 a < vI V 260 b)))) := key
  have dt : ∀ P : Prop, [Decidable P] → P → some (1 : Int) = some (b2i (decide P)) := fun P _ hP => by rw [decide_eq_true hP]; rfl
  have df : ∀ P : Prop, [Decidable P] → ¬ P → some (0 : Int) = some (b2i (decide P)) := fun P _ hP => by rw [decide_eq_false hP]; rfl
  by_cases c1 : vI V 261 a = vI V 261 b
  · rw [if_pos c1]
    by_cases c2 : vI V 259 a < vI V 259 b
    · rw [if_pos c2, bz_e (Or.inr rfl)]; exact dt _ (k.mpr (by omega))
    · rw [if_neg c2]
      by_cases c3 : vI V 259 a = vI V 259 b
      · rw [if_pos c3]
        by_cases c4 : vI V 260 a < vI V 260 b
        · rw [if_pos c4, bz_e (Or.inr rfl)]; exact dt _ (k.mpr (by omega))
        · rw [if_neg c4, bz_e (Or.inl rfl)]; exact df _ (fun z => by have := k.mp z; omega)
      · rw [if_neg c3, bz_e (Or.inl rfl)]; exact df _ (fun z => by have := k.mp z; omega)
  · rw [if_neg c1]
    by_cases c2 : vI V 261 b < vI V 261 a
    · rw [if_pos c2, bz_e (Or.inr rfl)]; exact dt _ (k.mpr (by omega))
    · rw [if_neg c2, bz_e (Or.inl rfl)]; exact df _ (fun z => by have := k.mp z; omega)
/-- the best of those that are left -/
theorem v_rankBest {L R : List It} {r n3 i : Nat} (ht : t < 44) (hL : okL L) (h258 : vI V 258 t = (L.length : Int)) (hg : ∀ k, k < L.length → gLi V (200 * t + k) = L.getD k it0) (hR : R = srt rkM L) (hi : i < L.length) (hfl : ∀ k, k < L.length → vI V 262 (200 * t + k) = if L.getD k it0 ∈ R.take i then 0 else 1) : ∃ k, k < L.length ∧ L.getD k it0 = R.getD i it0 ∧ l_X16_ranked_83 (t : Int) (r : Int) (n3 : Int) (i : Int) (-1) (200 * (t : Int)) V = j_X16_ranked_136 (t : Int) (r : Int) (n3 : Int) (i : Int) ((200 * t + k : Nat) : Int) V := by
  have l200 := hL.1
  have pR : R.Perm L := by rw [hR]; exact srt_perm _ _
  have sR : SrtM rkM R := by rw [hR]; exact srt_srt (okL_rk hL)
  have lR : R.length = L.length := pR.length_eq
  have inR : ∀ k, k < L.length → ∃ x, x < R.length ∧ R.getD x it0 = L.getD k it0 := fun k hk => by
    obtain ⟨x, hx, e⟩ := List.getElem_of_mem (pR.mem_iff.mpr (getD_mem (d := it0) hk))
    exact ⟨x, hx, by rw [gd_get hx, e]⟩
  have ofR : ∀ x, x < R.length → ∃ k, k < L.length ∧ L.getD k it0 = R.getD x it0 := fun x hx => by
    obtain ⟨k, hk, e⟩ := List.getElem_of_mem (pR.mem_iff.mp (getD_mem (d := it0) hx))
    exact ⟨k, hk, by rw [gd_get hk, e]⟩
  have tk : ∀ x, x < R.length → (R.getD x it0 ∈ R.take i ↔ x < i) := fun x hx => by
    constructor
    · intro hm
      obtain ⟨y, hy, e⟩ := List.getElem_of_mem hm
      rw [List.length_take] at hy
      rw [List.getElem_take] at e
      by_cases c : x < i
      · exact c
      · have := (srt_get (d := it0) sR hx (show y < R.length by omega)).mpr (by omega)
        rw [gd_get (by omega), gd_get hx, e, gd_get hx] at this
        omega
    · intro hxi
      rw [gd_get hx]
      exact List.mem_take_iff_getElem.mpr ⟨x, by omega, rfl⟩
  have left : ∀ k, k < L.length → ∀ x, x < R.length → R.getD x it0 = L.getD k it0 → (vI V 262 (200 * t + k) = if x < i then 0 else 1) := fun k hk x hx e => by
    rw [hfl k hk, ← e]
    by_cases c : x < i
    · rw [if_pos ((tk x hx).mpr c), if_pos c]
    · rw [if_neg (fun z => c ((tk x hx).mp z)), if_neg c]
  obtain ⟨s', n', n0, hinv, hlp⟩ := lp_inv (b := fun s : Int × Int => b_X16_ranked_83 (t : Int) (r : Int) (n3 : Int) (i : Int) s.1 s.2 V) (fun k s => s.2 = ((200 * t + k : Nat) : Int) ∧ ((s.1 = -1 ∧ ∀ x, x < k → vI V 262 (200 * t + x) = 0) ∨ ∃ j : Nat, j < k ∧ s.1 = ((200 * t + j : Nat) : Int) ∧ vI V 262 (200 * t + j) = 1 ∧ ∀ x, x < k → vI V 262 (200 * t + x) ≠ 0 → rkM (L.getD j it0) ≤ rkM (L.getD x it0))) L.length
    (fun k s hk hI => by
      obtain ⟨s1, s2⟩ := hI
      obtain ⟨sb, sk⟩ := s
      change sk = _ at s1
      subst s1
      obtain ⟨x, hx, ex⟩ := inR k hk
      have fl := left k hk x hx ex
      have st : b_X16_ranked_83 (t : Int) (r : Int) (n3 : Int) (i : Int) sb ((200 * t + k : Nat) : Int) V = if vI V 262 (200 * t + k) ≠ 0 ∧ (sb < 0 ∨ rkM (L.getD k it0) < rkM (gLi V sb.toNat)) then some (.inl (((200 * t + k : Nat) : Int), ((200 * t + k : Nat) : Int) + 1)) else some (.inl (sb, ((200 * t + k : Nat) : Int) + 1)) := by
        unfold b_X16_ranked_83 j_X16_ranked_126 j_X16_ranked_130
        rw [l2_n ht (by omega), h258, Option.bind_some, c200m, cadd, w32_nn (by omega), w32_nn (by omega), if_pos (by omega), l2_n (by omega) (by omega), Option.bind_some, w32_vI]
        by_cases c : vI V 262 (200 * t + k) = 0
        · rw [if_pos c, if_neg (fun z => z.1 c)]; rfl
        · rw [if_neg c]
          rcases s2 with ⟨z, _⟩ | ⟨j, j1, j2, _, _⟩
          · have z : sb = -1 := z
            rw [z, if_pos (by decide), if_pos ⟨c, Or.inl (by decide)⟩]; rfl
          · have j2 : sb = ((200 * t + j : Nat) : Int) := j2
            have okk := hL.2.2 _ (getD_mem (d := it0) hk)
            have okj := hL.2.2 _ (getD_mem (d := it0) (show j < L.length by omega))
            rw [j2, w32_nn (by omega), if_neg (by omega), v_better (by omega) (by omega) (by rw [hg k hk]; exact okk) (by rw [hg j (by omega)]; exact okj), Option.bind_some, w32_b2i, Int.toNat_natCast, hg k hk]
            by_cases c2 : rkM (L.getD k it0) < rkM (gLi V (200 * t + j))
            · rw [decide_eq_true c2, if_neg (by decide), if_pos ⟨c, Or.inr c2⟩]; rfl
            · rw [decide_eq_false c2, if_pos (by decide), if_neg (fun q => by rcases q.2 with q | q; omega; exact c2 q)]; rfl
      show ∃ s', b_X16_ranked_83 (t : Int) (r : Int) (n3 : Int) (i : Int) sb ((200 * t + k : Nat) : Int) V = some (.inl s') ∧ _
      rw [st]
      by_cases c : vI V 262 (200 * t + k) ≠ 0 ∧ (sb < 0 ∨ rkM (L.getD k it0) < rkM (gLi V sb.toNat))
      · rw [if_pos c]
        refine ⟨_, rfl, rfl, Or.inr ⟨k, by omega, rfl, ?_, fun y hy hf => ?_⟩⟩
        · rw [fl] at c ⊢
          by_cases ci : x < i
          · rw [if_pos ci] at c; exact absurd rfl c.1
          · rw [if_neg ci]
        · by_cases e : y = k
          · rw [e]; exact Nat.le_refl _
          · rcases s2 with ⟨z, z2⟩ | ⟨j, j1, j2, j3, j4⟩
            · exact absurd (z2 y (by omega)) hf
            · have j2 : sb = ((200 * t + j : Nat) : Int) := j2
              have := j4 y (by omega) hf
              rcases c.2 with q | q
              · omega
              · rw [j2, Int.toNat_natCast, hg j (by omega)] at q; omega
      · rw [if_neg c]
        refine ⟨_, rfl, rfl, ?_⟩
        rcases s2 with ⟨z, z2⟩ | ⟨j, j1, j2, j3, j4⟩
        · have z : sb = -1 := z
          refine Or.inl ⟨z, fun y hy => ?_⟩
          by_cases e : y = k
          · rw [e]
            by_cases c0 : vI V 262 (200 * t + k) = 0
            · exact c0
            · exact absurd ⟨c0, Or.inl (by omega)⟩ c
          · exact z2 y (by omega)
        · have j2 : sb = ((200 * t + j : Nat) : Int) := j2
          refine Or.inr ⟨j, by omega, j2, j3, fun y hy hf => ?_⟩
          by_cases e : y = k
          · rw [e] at hf ⊢
            by_cases c0 : rkM (L.getD k it0) < rkM (L.getD j it0)
            · exact absurd ⟨hf, Or.inr (by rw [j2, Int.toNat_natCast, hg j (by omega)]; exact c0)⟩ c
            · omega
          · exact j4 y (by omega) hf)
    FU 0 (-1, ((200 * t + 0 : Nat) : Int)) (by omega) (by unfold FU; omega) ⟨rfl, Or.inl ⟨rfl, fun x hx => by omega⟩⟩
  obtain ⟨sb, sk⟩ := s'
  obtain ⟨q1, q2⟩ := hinv
  change sk = _ at q1
  subst q1
  obtain ⟨k0, hk0, ek0⟩ := ofR i (by omega)
  have f0 := left k0 hk0 i (by omega) ek0.symm
  rw [if_neg (by omega)] at f0
  rcases q2 with ⟨_, z2⟩ | ⟨j, j1, j2, j3, j4⟩
  · have := z2 k0 hk0; omega
  · have j2 : sb = ((200 * t + j : Nat) : Int) := j2
    subst j2
    obtain ⟨x, hx, ex⟩ := inR j j1
    have fj := left j j1 x hx ex
    have hxi : i ≤ x := by
      by_cases c : x < i
      · rw [if_pos c] at fj; omega
      · omega
    have le := j4 k0 hk0 (by omega)
    rw [← ex, ek0] at le
    have xi : x = i := by
      by_cases c : i < x
      · have := (srt_get (d := it0) sR hx (show i < R.length by omega)).mpr c; omega
      · omega
    refine ⟨j, j1, by rw [← ex, xi], ?_⟩
    unfold l_X16_ranked_83
    refine Eq.trans (by rw [c200m]; rfl) (hlp.trans ?_)
    refine lpN_end (b := fun s : Int × Int => b_X16_ranked_83 (t : Int) (r : Int) (n3 : Int) (i : Int) s.1 s.2 V) n0 ?_
    dsimp only
    unfold b_X16_ranked_83
    rw [l2_n ht (by omega), h258, Option.bind_some, c200m, cadd, w32_nn (by omega), if_neg (by omega)]
/-- flags of a list that is not checked -/
theorem vy_262 (h : VY V m al N own sd ps sn pu rf tm Lb oth Z ev tn Y) (hF : qF (yq Y) t = []) (hw : ∀ a i, ¬ (a = 262 ∧ 200 * t ≤ i ∧ i < 200 * t + 200) → W a i = V a i) : VY W m al N own sd ps sn pu rf tm Lb oth Z ev tn Y := by
  have gv : ∀ a i, ¬ (a = 262 ∧ 200 * t ≤ i ∧ i < 200 * t + 200) → vI W a i = vI V a i := fun a i z => by show w32 _ = w32 _; rw [hw a i z]
  have := vy_q (W := W) (sc' := ys Y) (q' := yq Y) h (fun a i z => hw a i (fun q => z (by omega))) (sc_ag h.2.2.2.2.1 (fun a i z => gv a i (by unfold scA at z; omega))) ?_ (fun b t _ => rfl)
  · exact this
  · obtain ⟨a1, a2, a3⟩ := h.2.2.2.2.2.1
    refine ⟨fun t' ht' => ?_, fun i hi => ?_, fun r hr => ⟨(a3 r hr).1, fun i hi => by rw [gv 270 _ (by omega)]; exact (a3 r hr).2 i hi⟩⟩
    · obtain ⟨b1, b2, b3, b4, b5, b6, b7, b8, b9, b10⟩ := a1 t' ht'
      refine ⟨by rw [gv 258 _ (by omega)]; exact b1, b2, fun i hi => by rw [gv 259 _ (by omega), gv 260 _ (by omega), gv 261 _ (by omega)]; exact b3 i hi, b4, fun i hi => ?_, by rw [gv 255 _ (by omega)]; exact b6, b7, fun i hi => by rw [gv 257 _ (by omega)]; exact b8 i hi, b9, fun j hj => by rw [gv 253 _ (by omega)]; exact b10 j hj⟩
      by_cases c : t' = t
      · rw [c, hF] at hi; exact absurd hi (Nat.not_lt_zero _)
      · rw [gv 262 _ (by omega)]; exact b5 i hi
    · rw [gk_ag (a := 249) (fun j => gv 249 j (by omega)), gk_ag (a := 251) (fun j => gv 251 j (by omega))]
      exact a2 i hi
/-- a query is told -/
theorem v_ranked (h : VY V m al N own sd ps sn pu rf tm Lb oth Z ev tn Y) (ht : t < 44) (htn : tn t < 2000000000) (hr : 0 ≤ yv Y 229 t ∧ yv Y 229 t < 256) (hL : okL (qL (yq Y) t)) (hF : qF (yq Y) t = []) : ∃ V', f_X16_ranked (t : Int) V = some V' ∧ VY V' m al N own sd ps sn pu rf tm Lb oth Z ev (fup tn t (tn t + 1)) (rnkY t Y) ∧ KpV V V' := by
  obtain ⟨r, hr1⟩ : ∃ r : Nat, yv Y 229 t = (r : Int) := ⟨(yv Y 229 t).toNat, by omega⟩
  have hr2 : r < 256 := by omega
  have r229 : vI V 229 t = (r : Int) := by rw [h.2.2.2.2.1 229 t (by unfold scA; omega)]; exact hr1
  obtain ⟨L, hLd⟩ : ∃ L, L = qL (yq Y) t := ⟨_, rfl⟩
  rw [← hLd] at hL
  have l200 := hL.1
  have h258 : vI V 258 t = (L.length : Int) := by rw [hLd]; exact (h.2.2.2.2.2.1.1 t ht).1
  have hg : ∀ k, k < L.length → gLi V (200 * t + k) = L.getD k it0 := fun k hk => by rw [hLd] at hk ⊢; exact qs_gLi h.2.2.2.2.2.1 ht hk
  obtain ⟨R, hR⟩ : ∃ R, R = srt rkM L := ⟨_, rfl⟩
  have pR : R.Perm L := by rw [hR]; exact srt_perm _ _
  have lR : R.length = L.length := pR.length_eq
  obtain ⟨n3, hn3⟩ : ∃ n3, n3 = min L.length 60 := ⟨_, rfl⟩
  have ndL : ∀ i j, i < L.length → j < L.length → L.getD i it0 = L.getD j it0 → i = j := fun i j hi hj e => by
    have nd := okL_rk hL
    have key : rkM (L.getD i it0) = rkM (L.getD j it0) := by rw [e]
    by_cases c : i < j
    · have := (List.pairwise_iff_getElem.mp nd) i j (by rw [List.length_map]; exact hi) (by rw [List.length_map]; exact hj) c
      rw [List.getElem_map, List.getElem_map] at this
      rw [gd_get hi, gd_get hj] at key
      exact absurd key this
    · by_cases c2 : j < i
      · have := (List.pairwise_iff_getElem.mp nd) j i (by rw [List.length_map]; exact hj) (by rw [List.length_map]; exact hi) c2
        rw [List.getElem_map, List.getElem_map] at this
        rw [gd_get hi, gd_get hj] at key
        exact absurd key.symm this
      · omega
  -- all stay
  have loop1 : ∀ d k fu (U : VV), d + k = L.length → d < fu → (∀ a i, ¬ (a = 262 ∧ 200 * t ≤ i ∧ i < 200 * t + 200) → U a i = V a i) → (∀ x, x < k → vI U 262 (200 * t + x) = 1) → ∃ U', lpN (fun s : Int × VV => b_X16_ranked_33 (t : Int) (r : Int) (n3 : Int) s.1 s.2) fu ((k : Int), U) = j_X16_ranked_64 (t : Int) (r : Int) (n3 : Int) U' ∧ (∀ a i, ¬ (a = 262 ∧ 200 * t ≤ i ∧ i < 200 * t + 200) → U' a i = V a i) ∧ ∀ x, x < L.length → vI U' 262 (200 * t + x) = 1 := by
    intro d
    induction d with
    | zero =>
      intro k fu U hd hf u1 u2
      have e : k = L.length := by omega
      subst e
      refine ⟨U, lpN_end (b := fun s : Int × VV => b_X16_ranked_33 (t : Int) (r : Int) (n3 : Int) s.1 s.2) (by omega) ?_, u1, u2⟩
      dsimp only
      unfold b_X16_ranked_33
      rw [l2_n ht (by omega), show vI U 258 t = vI V 258 t by show w32 _ = w32 _; rw [u1 258 t (by omega)], h258, Option.bind_some, w32_nn (by omega), if_neg (by omega)]
    | succ d ih =>
      intro k fu U hd hf u1 u2
      obtain ⟨f, rfl⟩ : ∃ f, fu = f + 1 := ⟨fu - 1, by omega⟩
      have st : b_X16_ranked_33 (t : Int) (r : Int) (n3 : Int) (k : Int) U = some (.inl (((k + 1 : Nat) : Int), st2 U 262 (200 * t + k) 1)) := by
        unfold b_X16_ranked_33
        rw [l2_n ht (by omega), show vI U 258 t = vI V 258 t by show w32 _ = w32 _; rw [u1 258 t (by omega)], h258, Option.bind_some, w32_nn (by omega), w32_nn (by omega), if_pos (by omega), c200m, cadd, s2z_n (by omega) (by omega) (Or.inr rfl), Option.bind_some]
        rfl
      rw [lpN_cnt (b := fun s : Int × VV => b_X16_ranked_33 (t : Int) (r : Int) (n3 : Int) s.1 s.2) (s := ((k : Int), U)) st]
      refine ih (k + 1) f _ (by omega) (by omega) (fun a i z => by rw [st2_ne (by omega)]; exact u1 a i z) (fun x hx => ?_)
      rw [vI_st2]
      by_cases c : x = k
      · rw [if_pos ⟨rfl, by omega⟩]; rfl
      · rw [if_neg (by omega)]; exact u2 x (by omega)
  obtain ⟨V1, a1, a2, a3⟩ := loop1 L.length 0 FU V (by omega) (by unfold FU; omega) (fun _ _ _ => rfl) (fun x hx => by omega)
  -- the best ones
  have loop2 : ∀ d i fu (U : VV), d + i = n3 → d < fu → (∀ a x, ¬ (a = 262 ∧ 200 * t ≤ x ∧ x < 200 * t + 200) → ¬ (a = 270 ∧ 180 * r ≤ x ∧ x < 180 * r + 180) → U a x = V a x) → (∀ k, k < L.length → vI U 262 (200 * t + k) = if L.getD k it0 ∈ R.take i then 0 else 1) → (∀ x, x < 3 * i → vI U 270 (180 * r + x) = ((R.take i).flatMap be3).getD x 0) → ∃ U', lpN (fun s : Int × VV => b_X16_ranked_67 (t : Int) (r : Int) (n3 : Int) s.1 s.2) fu ((i : Int), U) = j_X16_ranked_220 (t : Int) (r : Int) (n3 : Int) U' ∧ (∀ a x, ¬ (a = 262 ∧ 200 * t ≤ x ∧ x < 200 * t + 200) → ¬ (a = 270 ∧ 180 * r ≤ x ∧ x < 180 * r + 180) → U' a x = V a x) ∧ ∀ x, x < 3 * n3 → vI U' 270 (180 * r + x) = ((R.take n3).flatMap be3).getD x 0 := by
    intro d
    induction d with
    | zero =>
      intro i fu U hd hf u1 u2 u3
      have e : i = n3 := by omega
      subst e
      refine ⟨U, lpN_end (b := fun s : Int × VV => b_X16_ranked_67 (t : Int) (r : Int) (i : Int) s.1 s.2) (by omega) ?_, u1, u3⟩
      dsimp only
      unfold b_X16_ranked_67
      rw [if_neg (by omega)]
    | succ d ih =>
      intro i fu U hd hf u1 u2 u3
      obtain ⟨f, rfl⟩ : ∃ f, fu = f + 1 := ⟨fu - 1, by omega⟩
      have uv : ∀ a x, ¬ (a = 262 ∧ 200 * t ≤ x ∧ x < 200 * t + 200) → ¬ (a = 270 ∧ 180 * r ≤ x ∧ x < 180 * r + 180) → vI U a x = vI V a x := fun a x z1 z2 => by show w32 _ = w32 _; rw [u1 a x z1 z2]
      have gU : ∀ x, gLi U x = gLi V x := fun x => by unfold gLi; rw [uv 259 x (by omega) (by omega), uv 260 x (by omega) (by omega), uv 261 x (by omega) (by omega)]
      obtain ⟨k, k1, k2, k3⟩ := v_rankBest (V := U) (r := r) (n3 := n3) ht hL (by rw [uv 258 t (by omega) (by omega)]; exact h258) (fun k hk => by rw [gU]; exact hg k hk) hR (show i < L.length by omega) u2
      obtain ⟨z, hz⟩ : ∃ z, z = R.getD i it0 := ⟨_, rfl⟩
      have gk' : gLi U (200 * t + k) = z := by rw [gU, hg k k1, k2, hz]
      have g1 : vI U 259 (200 * t + k) = z.1 := congrArg Prod.fst gk'
      have g2 : vI U 260 (200 * t + k) = z.2.1 := congrArg (fun w => w.2.1) gk'
      have g3 : vI U 261 (200 * t + k) = z.2.2 := congrArg (fun w => w.2.2) gk'
      obtain ⟨U4, hU4⟩ : ∃ U4, U4 = st2 (st2 (st2 (st2 U 262 (200 * t + k) 0) 270 (180 * r + 3 * i) z.1) 270 (180 * r + 3 * i + 1) z.2.1) 270 (180 * r + 3 * i + 2) z.2.2 := ⟨_, rfl⟩
      have st : b_X16_ranked_67 (t : Int) (r : Int) (n3 : Int) (i : Int) U = some (.inl (((i + 1 : Nat) : Int), U4)) := by
        unfold b_X16_ranked_67
        rw [w32_nn (by omega), w32_nn (by omega), if_pos (by omega), k3]
        unfold j_X16_ranked_136
        rw [s2z_n (by omega) (by omega) (Or.inl rfl), Option.bind_some, l2_n (by omega) (by omega), vI_ne (by omega), g1, Option.bind_some, c180m, c3m, cadd, s2_n (by omega) (by omega), Option.bind_some, l2_n (by omega) (by omega), vI_ne (by omega), vI_ne (by omega), g2, Option.bind_some, cadd1, s2_n (by omega) (by omega), Option.bind_some, l2_n (by omega) (by omega), vI_ne (by omega), vI_ne (by omega), vI_ne (by omega), g3, Option.bind_some, cadd2, s2_n (by omega) (by omega), Option.bind_some, ← hU4]
        rfl
      rw [lpN_cnt (b := fun s : Int × VV => b_X16_ranked_67 (t : Int) (r : Int) (n3 : Int) s.1 s.2) (s := ((i : Int), U)) st]
      have zw : w32 z.1 = z.1 ∧ w32 z.2.1 = z.2.1 ∧ w32 z.2.2 = z.2.2 := by rw [← g1, ← g2, ← g3]; exact ⟨w32_vI, w32_vI, w32_vI⟩
      have tki : R.take (i + 1) = R.take i ++ [z] := by rw [hz]; exact take_s (by omega)
      refine ih (i + 1) f U4 (by omega) (by omega) (fun a x z1 z2 => by rw [hU4, st2_ne (by omega), st2_ne (by omega), st2_ne (by omega), st2_ne (by omega)]; exact u1 a x z1 z2) (fun x hx => ?_) (fun x hx => ?_)
      · rw [hU4, vI_ne (by omega), vI_ne (by omega), vI_ne (by omega), vI_st2, tki]
        by_cases c : x = k
        · rw [if_pos ⟨rfl, by omega⟩, c, k2, ← hz, if_pos (List.mem_append_right _ List.mem_cons_self)]; rfl
        · rw [if_neg (by omega), u2 x hx]
          have ne : L.getD x it0 ≠ z := fun e => c (ndL x k hx k1 (by rw [e, k2, hz]))
          by_cases c2 : L.getD x it0 ∈ R.take i
          · rw [if_pos c2, if_pos (List.mem_append_left _ c2)]
          · rw [if_neg c2, if_neg (fun q => by
              rcases List.mem_append.mp q with q | q
              · exact c2 q
              · exact ne (by simpa using q))]
      · rw [tki, List.flatMap_append, getD_app, be3_flat, List.length_take, show min i R.length = i by omega, hU4, vI_st2, vI_st2, vI_st2, vI_ne (by omega)]
        have e3 : [z].flatMap be3 = [z.1, z.2.1, z.2.2] := rfl
        rw [e3]
        by_cases c : x < 3 * i
        · rw [if_neg (by omega), if_neg (by omega), if_neg (by omega), if_pos c]; exact u3 x c
        · rw [if_neg c]
          have : x = 3 * i ∨ x = 3 * i + 1 ∨ x = 3 * i + 2 := by omega
          rcases this with e | e | e <;> subst e
          · rw [if_neg (by omega), if_neg (by omega), if_pos (by omega), zw.1, show 3 * i - 3 * i = 0 by omega]; rfl
          · rw [if_neg (by omega), if_pos (by omega), zw.2.1, show 3 * i + 1 - 3 * i = 1 by omega]; rfl
          · rw [if_pos (by omega), zw.2.2, show 3 * i + 2 - 3 * i = 2 by omega]; rfl
  obtain ⟨U, b1, b2, b3⟩ := loop2 n3 0 FU V1 (by omega) (by unfold FU; omega) (fun a x z1 _ => a2 a x z1) (fun k hk => by rw [List.take_zero, if_neg (fun q => by cases q)]; exact a3 k hk) (fun x hx => by omega)
  -- flags aside
  obtain ⟨Wm, hWm⟩ : ∃ Wm : VV, Wm = fun a i => if a = 262 then U a i else V a i := ⟨_, rfl⟩
  have Ym : VY Wm m al N own sd ps sn pu rf tm Lb oth Z ev tn Y := vy_262 (t := t) h hF (fun a i z => by
    rw [hWm]
    dsimp only
    by_cases c : a = 262
    · rw [if_pos c]; exact b2 a i z (by omega)
    · rw [if_neg c])
  have wm : ∀ a i, a ≠ 262 → Wm a i = V a i := fun a i z => by rw [hWm]; exact if_neg z
  have len3 : ((R.take 60).flatMap be3).length = 3 * n3 := by rw [be3_flat, List.length_take, hn3, lR, Nat.min_comm]
  have tk3 : R.take n3 = R.take 60 := by
    rw [hn3]
    by_cases c : L.length ≤ 60
    · rw [Nat.min_eq_left c, List.take_of_length_le (by omega), List.take_of_length_le (by omega)]
    · rw [Nat.min_eq_right (by omega)]
  rw [tk3] at b3
  obtain ⟨V', e1, e2, e3⟩ := vy_tell (W := st2 U 269 r (n3 : Int)) (l := (R.take 60).flatMap be3) (n := n3) Ym ht htn hr1 hr2 (by rw [len3]; omega) (by omega) (fun a i z1 z2 _ => by
      rw [st2_ne z2]
      by_cases c : a = 262
      · rw [hWm]; dsimp only; rw [if_pos c]
      · rw [wm a i c]; exact b2 a i (fun q => c q.1) (fun q => z1 q.1)) (by rw [vI_eq rfl, w32_nn (by omega)]) (fun i _ z => by
      rw [vI_ne (by omega)]
      show w32 _ = w32 _
      rw [b2 270 i (by omega) (by omega), wm 270 i (by decide)]) (fun i hi => by rw [vI_ne (by omega)]; exact b3 i (by omega))
  refine ⟨V', ?_, ?_, KpV.trans (KpV_ag (fun a i z => ?_)) e3⟩
  · have run : f_X16_ranked (t : Int) V = j_X16_ranked_29 (t : Int) (r : Int) (n3 : Int) V := by
      unfold f_X16_ranked
      rw [l2_n ht (by omega), r229, Option.bind_some, l2_n ht (by omega), h258, Option.bind_some, w32_nn (by omega), Option.bind_some]
      by_cases c : L.length < 60
      · rw [if_pos (show ((L.length : Nat) : Int) < w32 60 by show ((L.length : Nat) : Int) < 60; omega), hn3, Nat.min_eq_left (by omega)]
      · rw [if_neg (show ¬ ((L.length : Nat) : Int) < w32 60 by show ¬ ((L.length : Nat) : Int) < 60; omega), hn3, Nat.min_eq_right (by omega)]; rfl
    rw [run]
    unfold j_X16_ranked_29 l_X16_ranked_33
    rw [show (0 : Int) = ((0 : Nat) : Int) from rfl, a1]
    unfold j_X16_ranked_64 l_X16_ranked_67
    rw [show (0 : Int) = ((0 : Nat) : Int) from rfl, b1]
    unfold j_X16_ranked_220
    rw [s2_n hr2 (by omega), Option.bind_some, e1]
    rfl
  · unfold rnkY
    rw [← hLd, ← hR, List.length_take, lR, Nat.min_comm, ← hn3]
    exact e2
  · rw [st2_ne (by unfold kpA at z; omega)]; exact b2 a i (by unfold kpA at z; omega) (by unfold kpA at z; omega)
end VRANK
