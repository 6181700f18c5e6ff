/-! BITS and MATCHES come -/
def TnS (t k : Nat) (tn tn' : Nat → Nat) : Prop := (∀ z, z ≠ t → tn' z = tn z) ∧ tn t ≤ tn' t ∧ tn' t ≤ tn t + k
theorem TnS.refl {t k : Nat} {tn : Nat → Nat} : TnS t k tn tn := ⟨fun _ _ => rfl, Nat.le_refl _, by omega⟩
theorem TnS.up {t : Nat} {tn : Nat → Nat} : TnS t 1 tn (fup tn t (tn t + 1)) := ⟨fun z hz => fup_ne hz, by rw [fup_eq]; omega, by rw [fup_eq]; omega⟩
theorem TnS.trans {t j k l : Nat} {tn tn1 tn2 : Nat → Nat} (h : TnS t j tn tn1) (h2 : TnS t k tn1 tn2) (hl : j + k ≤ l) : TnS t l tn tn2 := ⟨fun z hz => by rw [h2.1 z hz, h.1 z hz], by have := h.2; have := h2.2; omega, by have := h.2; have := h2.2; omega⟩
theorem TnS.mono {t j k : Nat} {tn tn1 : Nat → Nat} (h : TnS t j tn tn1) (hl : j ≤ k) : TnS t k tn tn1 := ⟨h.1, h.2.1, by have := h.2; omega⟩
/-- items that may come to a list -/
def okM (tl : List It) : Prop := tl.length ≤ 30 ∧ ∀ z, z ∈ tl → (0 ≤ z.1 ∧ z.1 < 32) ∧ (0 ≤ z.2.1 ∧ z.2.1 < 16) ∧ (1 ≤ z.2.2 ∧ z.2.2 ≤ 15)
theorem okL_add {L : List It} {x : It} (h : okL L) (hx : (0 ≤ x.1 ∧ x.1 < 32) ∧ (0 ≤ x.2.1 ∧ x.2.1 < 16) ∧ (1 ≤ x.2.2 ∧ x.2.2 ≤ 15)) : okL (addL L x) := by
  obtain ⟨h1, h2, h3⟩ := id h
  unfold addL
  by_cases c : L.length = 200 ∨ od x ∈ L.map od
  · rw [if_pos c]; exact h
  · rw [if_neg c]
    refine ⟨by rw [List.length_append]; show L.length + 1 ≤ 200; omega, ?_, fun z hz => ?_⟩
    · rw [List.map_append, List.nodup_append]
      refine ⟨h2, by simp, fun a ha b hb e => ?_⟩
      have : b = od x := by simpa using hb
      exact c (Or.inr (by rw [← this, ← e]; exact ha))
    · rcases List.mem_append.mp hz with z1 | z1
      · exact h3 z z1
      · have : z = x := by simpa using z1
        rw [this]; omega
theorem okL_adds {tl : List It} : ∀ {L : List It}, okL L → (∀ z, z ∈ tl → (0 ≤ z.1 ∧ z.1 < 32) ∧ (0 ≤ z.2.1 ∧ z.2.1 < 16) ∧ (1 ≤ z.2.2 ∧ z.2.2 ≤ 15)) → okL (tl.foldl addL L) := by
  induction tl with
  | nil => intro L h _; exact h
  | cons a tl ih => intro L h hz; exact ih (okL_add h (hz a List.mem_cons_self)) (fun z hz' => hz z (List.mem_cons_of_mem _ hz'))
section VTOOK
variable {V W : VV} {m al N p t oth Z : Nat} {own : Nat → Ky} {sd ps sn pu rf : Nat → Int} {tm : Int} {ev tn : Nat → Nat} {Lb : Nat → List Trm} {Y : Ys} {hs : Nat} {bs : List Int} {tl : List It} {more : Bool}
theorem v_tookBits (h : VY V m al N own sd ps sn pu rf tm Lb oth Z ev tn Y) (ht : t < 44) (hf : FltV V hs bs) (hh : hs ≤ 8) : ∃ V', f_X16_tookBits (t : Int) V = some V' ∧ VY V' m al N own sd ps sn pu rf tm Lb oth Z ev tn (tbY t (hs : Int) bs Y) ∧ KpV V V' := by
  obtain ⟨f1, f2, f3, f4⟩ := id hf
  have l290 := f3.1
  obtain ⟨V2, hV2⟩ : ∃ V2, V2 = st2 (st2 V 255 t (bs.length : Int)) 256 t (hs : Int) := ⟨_, rfl⟩
  have loop : ∀ d k fu (U : VV), d + k = bs.length → d < fu → (∀ a i, ¬ (a = 257 ∧ 290 * t ≤ i ∧ i < 290 * t + 290) → U a i = V2 a i) → (∀ x, x < k → vI U 257 (290 * t + x) = bs.getD x 0) → ∃ U', lpN (fun s : Int × VV => b_X16_tookBits_22 (t : Int) s.1 s.2) fu ((k : Int), U) = j_X16_tookBits_54 (t : Int) U' ∧ (∀ a i, ¬ (a = 257 ∧ 290 * t ≤ i ∧ i < 290 * t + 290) → U' a i = V2 a i) ∧ ∀ x, x < bs.length → vI U' 257 (290 * t + x) = bs.getD x 0 := by
    intro d
    induction d with
    | zero =>
      intro k fu U hd hfu u1 u2
      have e : k = bs.length := by omega
      subst e
      refine ⟨U, lpN_end (b := fun s : Int × VV => b_X16_tookBits_22 (t : Int) s.1 s.2) (by omega) ?_, u1, u2⟩
      dsimp only
      unfold b_X16_tookBits_22
      rw [u1 156 78 (by omega), hV2, st2_ne (by omega), st2_ne (by omega), show w32 (V 156 78) = _ from f2, w32_nn (by omega), if_neg (by omega)]
    | succ d ih =>
      intro k fu U hd hfu u1 u2
      obtain ⟨f, rfl⟩ : ∃ f, fu = f + 1 := ⟨fu - 1, by omega⟩
      have g220 : vI U 220 k = bs.getD k 0 := by
        show w32 _ = _
        rw [u1 220 k (by omega), hV2, st2_ne (by omega), st2_ne (by omega)]
        exact f4 k (by omega)
      have st : b_X16_tookBits_22 (t : Int) (k : Int) U = some (.inl (((k + 1 : Nat) : Int), st2 U 257 (290 * t + k) (bs.getD k 0))) := by
        unfold b_X16_tookBits_22
        rw [u1 156 78 (by omega), hV2, st2_ne (by omega), st2_ne (by omega), show w32 (V 156 78) = _ from f2, w32_nn (by omega), w32_nn (by omega), if_pos (by omega), l2_n (by omega) (by omega), g220, Option.bind_some, c290m, cadd, s2_n (by omega) (by omega), Option.bind_some]
        rfl
      rw [lpN_cnt (b := fun s : Int × VV => b_X16_tookBits_22 (t : Int) s.1 s.2) (s := ((k : Int), U)) st]
      refine ih (k + 1) f _ (by omega) (by omega) (fun a i z => by rw [st2_ne (by omega)]; exact u1 a i z) (fun x hx => ?_)
      rw [vI_st2]
      by_cases c : x = k
      · rw [if_pos ⟨rfl, by omega⟩, c, ← g220, w32_vI]
      · rw [if_neg (by omega)]; exact u2 x (by omega)
  obtain ⟨U, a1, a2, a3⟩ := loop bs.length 0 FU V2 (by omega) (by unfold FU; omega) (fun _ _ _ => rfl) (fun x hx => by omega)
  have uv : ∀ a i, ¬ (a = 257 ∧ 290 * t ≤ i ∧ i < 290 * t + 290) → vI U a i = if a = 256 ∧ i = t then (hs : Int) else if a = 255 ∧ i = t then (bs.length : Int) else vI V a i := fun a i z => by
    show w32 _ = _
    rw [a2 a i z, hV2]
    show vI (st2 (st2 V 255 t (bs.length : Int)) 256 t (hs : Int)) a i = _
    rw [vI_st2, vI_st2, w32_nn (by omega), w32_nn (by omega)]
  refine ⟨st2 U 230 t 4, ?_, ?_, ?_⟩
  · unfold f_X16_tookBits l_X16_tookBits_22
    rw [show w32 (V 156 78) = (bs.length : Int) from f2, s2_n ht (by omega), Option.bind_some, st2_ne (by omega), show w32 (V 156 79) = (hs : Int) from f1, s2_n ht (by omega), Option.bind_some, ← hV2, show (0 : Int) = ((0 : Nat) : Int) from rfl, a1]
    unfold j_X16_tookBits_54
    rw [s2_n ht (by omega)]; rfl
  · refine vy_q h (fun a i z => ?_) ?_ ?_ (fun b t' z => by rw [vI_ne (by omega), vI_ne (by omega)])
    · rw [st2_ne (by omega), a2 a i (by omega), hV2, st2_ne (by omega), st2_ne (by omega)]
    · intro a i z
      rw [vI_st2, vI_st2, vI_st2]
      by_cases c : a = 230 ∧ i = t
      · rw [if_pos c, if_pos c]
      · rw [if_neg c, if_neg c, uv a i (by unfold scA at z; omega), w32_nn (by omega)]
        by_cases c2 : a = 256 ∧ i = t
        · rw [if_pos c2, if_pos c2]
        · rw [if_neg c2, if_neg c2, if_neg (by unfold scA at z; omega)]; exact h.2.2.2.2.1 a i z
    · obtain ⟨b1, b2, b3⟩ := h.2.2.2.2.2.1
      have gv : ∀ a i, a ≠ 257 → a ≠ 256 → a ≠ 255 → a ≠ 230 → vI (st2 U 230 t 4) a i = vI V a i := fun a i z1 z2 z3 z4 => by
        rw [vI_ne (fun q => z4 q.1), uv a i (fun q => z1 q.1), if_neg (fun q => z2 q.1), if_neg (fun q => z3 q.1)]
      refine ⟨fun t' ht' => ?_, fun i hi => ?_, fun r hr => ⟨(b3 r hr).1, fun i hi => by rw [gv 270 _ (by decide) (by decide) (by decide) (by decide)]; exact (b3 r hr).2 i hi⟩⟩
      · obtain ⟨c1, c2, c3, c4, c5, c6, c7, c8, c9, c10⟩ := b1 t' ht'
        refine ⟨by rw [gv 258 _ (by decide) (by decide) (by decide) (by decide)]; exact c1, c2, fun i hi => by rw [gv 259 _ (by decide) (by decide) (by decide) (by decide), gv 260 _ (by decide) (by decide) (by decide) (by decide), gv 261 _ (by decide) (by decide) (by decide) (by decide)]; exact c3 i hi, c4, fun i hi => by rw [gv 262 _ (by decide) (by decide) (by decide) (by decide)]; exact c5 i hi, ?_, ?_, fun i hi => ?_, c9, fun j hj => by rw [gv 253 _ (by decide) (by decide) (by decide) (by decide)]; exact c10 j hj⟩
        · show _ = (((fup (qB (yq Y)) t bs) t').length : Int)
          rw [vI_ne (by omega), uv 255 t' (by omega), if_neg (by omega)]
          unfold fup
          by_cases c : t' = t
          · rw [if_pos ⟨rfl, c⟩, if_pos c]
          · rw [if_neg (fun q => c q.2), if_neg c]; exact c6
        · show ((fup (qB (yq Y)) t bs) t').length ≤ 290
          unfold fup
          split
          · exact l290
          · exact c7
        · change i < ((fup (qB (yq Y)) t bs) t').length at hi
          show _ = ((fup (qB (yq Y)) t bs) t').getD i 0
          unfold fup at hi ⊢
          rw [vI_ne (by omega)]
          by_cases c : t' = t
          · rw [if_pos c] at hi ⊢
            rw [c]; exact a3 i hi
          · rw [if_neg c] at hi ⊢
            rw [uv 257 _ (by omega), if_neg (by omega), if_neg (by omega)]; exact c8 i hi
      · rw [gk_ag (a := 249) (fun j => gv 249 j (by decide) (by decide) (by decide) (by decide)), gk_ag (a := 251) (fun j => gv 251 j (by decide) (by decide) (by decide) (by decide))]
        exact b2 i hi
  · refine KpV_ag (fun a i z => ?_)
    rw [st2_ne (by unfold kpA at z; omega), a2 a i (by unfold kpA at z; omega), hV2, st2_ne (by unfold kpA at z; omega), st2_ne (by unfold kpA at z; omega)]
/-- a list of a query changes -/
theorem vy_list {L : List It} {sc' : VV} (h : VY V m al N own sd ps sn pu rf tm Lb oth Z ev tn Y) (ht : t < 44) (hl : L.length ≤ 200) (hw : ∀ a i, ¬ ((a = 259 ∨ a = 260 ∨ a = 261 ∨ a = 262) ∧ 200 * t ≤ i ∧ i < 200 * t + 200) → ¬ (a = 258 ∧ i = t) → ¬ scA a i → mv a i ≠ 9 → W a i = V a i) (hsc : ScV W sc') (hs2 : ∀ a i, a ≠ 230 → a ≠ 254 → a ≠ 263 → a ≠ 264 → vI sc' a i = vI (ys Y) a i) (h258 : vI W 258 t = (L.length : Int)) (hg : ∀ i, i < L.length → gLi W (200 * t + i) = L.getD i it0) (f : List Bool) (hf : f.length ≤ 200) (hf2 : ∀ i, i < f.length → vI W 262 (200 * t + i) = b2i (f.getD i false)) (hm : ∀ a i, scA a i → a ≠ 230 → a ≠ 254 → a ≠ 263 → a ≠ 264 → W a i = V a i) : VY W m al N own sd ps sn pu rf tm Lb oth Z ev tn (yw Y, yl Y, sc', lstQ t L f (yq Y)) := by
  have gv : ∀ a i, ¬ ((a = 259 ∨ a = 260 ∨ a = 261 ∨ a = 262) ∧ 200 * t ≤ i ∧ i < 200 * t + 200) → ¬ (a = 258 ∧ i = t) → ¬ scA a i → mv a i ≠ 9 → vI W a i = vI V a i := fun a i z1 z2 z3 z4 => by show w32 _ = w32 _; rw [hw a i z1 z2 z3 z4]
  have m6 : ∀ a i, (226 ≤ a ∧ a ≤ 270 ∧ a ≠ 240) → mv a i ≠ 9 := fun a i z => by
    unfold mv
    rw [if_neg (by omega)]
    unfold mvA
    rw [if_neg (by omega), if_neg (by omega), if_neg (by omega), if_neg (by omega), if_neg (by omega)]
    by_cases c1 : 226 ≤ a ∧ a ≤ 264 ∧ a ≠ 240
    · rw [if_pos c1]; decide
    · rw [if_neg c1, if_pos (by omega)]; decide
  refine vy_q h (fun a i z => ?_) hsc ?_ (fun b t' z => hs2 b t' (by omega) (by omega) (by omega) (by omega))
  · by_cases c : scA a i
    · exact hm a i c (by omega) (by omega) (by omega) (by omega)
    · exact hw a i (by omega) (by omega) c (by omega)
  · obtain ⟨b1, b2, b3⟩ := h.2.2.2.2.2.1
    refine ⟨fun t' ht' => ?_, fun i hi => ?_, fun r hr => ⟨(b3 r hr).1, fun i hi => by rw [gv 270 _ (by omega) (by omega) (by unfold scA; omega) (m6 270 _ (by omega))]; exact (b3 r hr).2 i hi⟩⟩
    · obtain ⟨c1, c2, c3, c4, c5, c6, c7, c8, c9, c10⟩ := b1 t' ht'
      have tail : vI W 255 t' = ((qB (yq Y) t').length : Int) ∧ (qB (yq Y) t').length ≤ 290 ∧ (∀ i, i < (qB (yq Y) t').length → vI W 257 (290 * t' + i) = (qB (yq Y) t').getD i 0) ∧ (qO (yq Y) t').length ≤ 3 ∧ ∀ j, j < (qO (yq Y) t').length → vI W 253 (3 * t' + j) = ((3 * t' + (qO (yq Y) t').getD j 0 : Nat) : Int) :=
        ⟨by rw [gv 255 _ (by omega) (by omega) (by unfold scA; omega) (m6 255 _ (by omega))]; exact c6, c7, fun i hi => by rw [gv 257 _ (by omega) (by omega) (by unfold scA; omega) (m6 257 _ (by omega))]; exact c8 i hi, c9, fun j hj => by rw [gv 253 _ (by omega) (by omega) (by unfold scA; omega) (m6 253 _ (by omega))]; exact c10 j hj⟩
      show vI W 258 t' = (((fup (qL (yq Y)) t L) t').length : Int) ∧ ((fup (qL (yq Y)) t L) t').length ≤ 200 ∧ (∀ i, i < ((fup (qL (yq Y)) t L) t').length → vI W 259 (200 * t' + i) = (((fup (qL (yq Y)) t L) t').getD i (0, 0, 0)).1 ∧ vI W 260 (200 * t' + i) = (((fup (qL (yq Y)) t L) t').getD i (0, 0, 0)).2.1 ∧ vI W 261 (200 * t' + i) = (((fup (qL (yq Y)) t L) t').getD i (0, 0, 0)).2.2) ∧ ((fup (qF (yq Y)) t f) t').length ≤ 200 ∧ (∀ i, i < ((fup (qF (yq Y)) t f) t').length → vI W 262 (200 * t' + i) = b2i (((fup (qF (yq Y)) t f) t').getD i false)) ∧ _
      unfold fup
      by_cases c : t' = t
      · rw [if_pos c, if_pos c, c]
        rw [c] at tail
        exact ⟨h258, hl, fun i hi => by
          have e := hg i hi
          exact ⟨congrArg Prod.fst e, congrArg (fun w => w.2.1) e, congrArg (fun w => w.2.2) e⟩, hf, hf2, tail⟩
      · rw [if_neg c, if_neg c]
        exact ⟨by rw [gv 258 _ (by omega) (by omega) (by unfold scA; omega) (m6 258 _ (by omega))]; exact c1, c2, fun i hi => by
          rw [gv 259 _ (by omega) (by omega) (by unfold scA; omega) (m6 259 _ (by omega)), gv 260 _ (by omega) (by omega) (by unfold scA; omega) (m6 260 _ (by omega)), gv 261 _ (by omega) (by omega) (by unfold scA; omega) (m6 261 _ (by omega))]; exact c3 i hi, c4, fun i hi => by
          rw [gv 262 _ (by omega) (by omega) (by unfold scA; omega) (m6 262 _ (by omega))]; exact c5 i hi, tail⟩
    · rw [gk_ag (a := 249) (fun j => gv 249 j (by omega) (by omega) (by unfold scA; omega) (m6 249 j (by omega))), gk_ag (a := 251) (fun j => gv 251 j (by omega) (by omega) (by unfold scA; omega) (m6 251 j (by omega)))]
      exact b2 i hi
end VTOOK
