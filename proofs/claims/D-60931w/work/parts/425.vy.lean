/-! works of the reference: words that stand for themselves, lists, libraries -/
def scA (a i : Nat) : Prop := (226 ≤ a ∧ a ≤ 230) ∨ (241 ≤ a ∧ a ≤ 243) ∨ (245 ≤ a ∧ a ≤ 248) ∨ a = 250 ∨ a = 252 ∨ a = 254 ∨ a = 256 ∨ a = 263 ∨ a = 264 ∨ (265 ≤ a ∧ a ≤ 269 ∧ i < 256) ∨ (a = 156 ∧ i = 91)
def ScV (V sc : VV) : Prop := ∀ a i, scA a i → vI V a i = vI sc a i
def QsV (V : VV) (q : Qs) : Prop :=
  (∀ t, t < 44 → vI V 258 t = ((qL q t).length : Int) ∧ (qL q t).length ≤ 200 ∧ (∀ i, i < (qL q t).length → vI V 259 (200 * t + i) = ((qL q t).getD i (0, 0, 0)).1 ∧ vI V 260 (200 * t + i) = ((qL q t).getD i (0, 0, 0)).2.1 ∧ vI V 261 (200 * t + i) = ((qL q t).getD i (0, 0, 0)).2.2) ∧ (qF q t).length ≤ 200 ∧ (∀ i, i < (qF q t).length → vI V 262 (200 * t + i) = b2i ((qF q t).getD i false)) ∧ vI V 255 t = ((qB q t).length : Int) ∧ (qB q t).length ≤ 290 ∧ (∀ i, i < (qB q t).length → vI V 257 (290 * t + i) = (qB q t).getD i 0) ∧ (qO q t).length ≤ 3 ∧ ∀ j, j < (qO q t).length → vI V 253 (3 * t + j) = ((3 * t + (qO q t).getD j 0 : Nat) : Int)) ∧
  (∀ i, i < 132 → gk V 249 (5 * i) = qK q i ∧ gk V 251 (5 * i) = qH q i) ∧ ∀ r, r < 256 → (qR q r).length ≤ 180 ∧ ∀ i, i < (qR q r).length → vI V 270 (180 * r + i) = (qR q r).getD i 0
/-- a term of a peer in its slot -/
def gT (V : VV) (p j : Nat) : Trm := ((List.range (vI V 176 (64 * p + j)).toNat).map (fun i => vI V 175 (12 * (64 * p + j) + i)), gk V 177 (5 * (64 * p + j)), fun d => if d < 16 then vI V 178 (1024 * p + 64 * d + j) else 0)
/-- letters as a number -/
def dgv (d : Nat → Nat) : Nat → Nat
  | 0 => 0
  | n + 1 => dgv d n * 256 + d n
def ltv (l : List Int) : Nat := dgv (fun i => (l.getD i 0).toNat) 12
def okTr (x : Trm) : Prop := (1 ≤ x.1.length ∧ x.1.length ≤ 12) ∧ (∀ c, c ∈ x.1 → 48 ≤ c ∧ c ≤ 122) ∧ kyo x.2.1 ∧ ∀ d, 0 ≤ x.2.2 d ∧ x.2.2 d ≤ 15
def okLb (L : List Trm) : Prop := L.length ≤ 64 ∧ SrtM (fun x => ltv x.1) L ∧ ∀ x, x ∈ L → okTr x
def LbV (V : VV) (Lb : Nat → List Trm) : Prop := ∀ p, p < 32 → vI V 174 p = ((Lb p).length : Int) ∧ okLb (Lb p) ∧ (rws (gT V p) (Lb p).length).Perm (Lb p) ∧ ∀ j, j < (Lb p).length → 1 ≤ vI V 176 (64 * p + j) ∧ vI V 176 (64 * p + j) ≤ 12
/-- the term at hand of a publishing -/
def TmR (V sc : VV) (Lb : Nat → List Trm) (t : Nat) : Prop := (vI sc 244 t = -1 ∧ vI V 244 t = -1) ∨ ∃ at_ j : Nat, vI sc 244 t = (at_ : Int) ∧ at_ < (pbT (vI sc 243 t).toNat (Lb (vI sc 228 t).toNat)).length ∧ j < (Lb (vI sc 228 t).toNat).length ∧ vI V 244 t = (j : Int) ∧ gT V (vI sc 228 t).toNat j = (pbT (vI sc 243 t).toNat (Lb (vI sc 228 t).toNat)).getD at_ trm0
def TmV (V sc : VV) (Lb : Nat → List Trm) : Prop := ∀ t, t < 44 → vI sc 226 t ≠ 0 → vI sc 227 t = 2 → TmR V sc Lb t
def VY (V : VV) (m al N : Nat) (own : Nat → Ky) (sd ps sn pu rf : Nat → Int) (tm : Int) (Lb : Nat → List Trm) (oth Z : Nat) (ev tn : Nat → Nat) (Y : Ys) : Prop :=
  VQ V m al N own sd ps sn pu rf tm (yw Y) oth Z ∧ okW N own tm (yw Y) ∧ EvI N ev (yw Y) ∧ LksV V (yl Y) tn ∧ ScV V (ys Y) ∧ QsV V (yq Y) ∧ LbV V Lb ∧ TmV V (ys Y) Lb
/-- what works don't touch -/
def kp0 (a i : Nat) : Prop := a = 157 ∨ a = 158 ∨ a = 163 ∨ a = 164 ∨ a = 274 ∨ (173 ≤ a ∧ a ≤ 178) ∨ (a = 156 ∧ (i = 4 ∨ i = 142))
def kpA (a i : Nat) : Prop := a = 157 ∨ a = 158 ∨ a = 163 ∨ a = 164 ∨ a = 274 ∨ (173 ≤ a ∧ a ≤ 178) ∨ (a = 156 ∧ (i = 4 ∨ i = 142)) ∨ a = 197 ∨ a = 198
def KpV (V W : VV) : Prop := (∀ a i, kp0 a i → W a i = V a i) ∧ SK V W
section VY1
variable {V W sc sc' : VV} {m al N p t oth Z : Nat} {own : Nat → Ky} {sd ps sn pu rf : Nat → Int} {tm : Int} {w : Wd} {ev tn : Nat → Nat} {Lb : Nat → List Trm} {Y : Ys} {lk : Nat → LkA} {q q' : Qs} {how : Int}
theorem KpV.refl : KpV V V := ⟨fun _ _ _ => rfl, .refl⟩
theorem kp0_A {a i : Nat} (h : kp0 a i) : kpA a i := by unfold kp0 at h; unfold kpA; omega
theorem KpV.trans {V2 : VV} (h : KpV V W) (h2 : KpV W V2) : KpV V V2 := ⟨fun a i k => (h2.1 a i k).trans (h.1 a i k), h.2.trans h2.2⟩
theorem KpV_frs {P : Nat → Nat → Prop} (f : FrS P V W) (hP : ∀ a i, P a i → ¬ kpA a i) : KpV V W := ⟨fun a i k => f a i (fun z => hP a i z (kp0_A k)), SK_frs f (fun i => ⟨fun z => hP 197 i z (by unfold kpA; omega), fun z => hP 198 i z (by unfold kpA; omega)⟩)⟩
theorem KpV_ag (h : ∀ a i, kpA a i → W a i = V a i) : KpV V W := ⟨fun a i k => h a i (kp0_A k), fun r _ => ⟨by show w32 _ = w32 _; rw [h 197 r (by unfold kpA; omega)], by show w32 _ = w32 _; rw [h 198 r (by unfold kpA; omega)]⟩⟩
theorem KpV_sk {P : Nat → Nat → Prop} (f : FrS P V W) (hP : ∀ a i, P a i → ¬ kp0 a i) (hs : SK V W) : KpV V W := ⟨fun a i k => f a i (fun z => hP a i z k), hs⟩
theorem KpV_st {a i : Nat} {v : Int} (h : ¬ kpA a i) : KpV V (st2 V a i v) := KpV_frs (FrS_st (P := fun b j => b = a ∧ j = i) ⟨rfl, rfl⟩) (fun b j z => by rw [z.1, z.2]; exact h)
theorem gk_ag {a x : Nat} (g : ∀ i, vI W a i = vI V a i) : gk W a x = gk V a x := gk_ext (fun i _ => g _)
theorem gT_ext {j : Nat} (g : ∀ a i, (175 ≤ a ∧ a ≤ 178) → vI W a i = vI V a i) : gT W p j = gT V p j := by
  unfold gT
  rw [g 176 _ (by omega), gk_ag (a := 177) (fun i => g 177 i (by omega))]
  congr 1
  · exact List.map_congr_left (fun i _ => g 175 _ (by omega))
  · congr 1
    funext d
    split
    · exact g 178 _ (by omega)
    · rfl
theorem LbV_ag (h : LbV V Lb) (g : ∀ a i, (174 ≤ a ∧ a ≤ 178) → vI W a i = vI V a i) : LbV W Lb := fun p hp => by
  obtain ⟨h1, h2, h3, h4⟩ := h p hp
  refine ⟨by rw [g 174 p (by omega)]; exact h1, h2, ?_, fun j hj => by rw [g 176 _ (by omega)]; exact h4 j hj⟩
  have : gT W p = gT V p := funext (fun j => gT_ext (fun a i z => g a i (by omega)))
  rw [this]; exact h3
theorem QsV_ag (h : QsV V q) (g : ∀ a i, (a = 249 ∨ a = 251 ∨ a = 253 ∨ a = 255 ∨ (257 ≤ a ∧ a ≤ 262) ∨ a = 270) → vI W a i = vI V a i) : QsV W q := by
  obtain ⟨h1, h2, h3⟩ := h
  refine ⟨fun t ht => ?_, fun i hi => ?_, fun r hr => ⟨(h3 r hr).1, fun i hi => by rw [g 270 _ (by omega)]; exact (h3 r hr).2 i hi⟩⟩
  · obtain ⟨a1, a2, a3, a4, a5, a6, a7, a8, a9, a10⟩ := h1 t ht
    refine ⟨by rw [g 258 _ (by omega)]; exact a1, a2, fun i hi => ?_, a4, fun i hi => by rw [g 262 _ (by omega)]; exact a5 i hi, by rw [g 255 _ (by omega)]; exact a6, a7, fun i hi => by rw [g 257 _ (by omega)]; exact a8 i hi, a9, fun j hj => by rw [g 253 _ (by omega)]; exact a10 j hj⟩
    rw [g 259 _ (by omega), g 260 _ (by omega), g 261 _ (by omega)]
    exact a3 i hi
  · rw [gk_ag (a := 249) (fun j => g 249 j (by omega)), gk_ag (a := 251) (fun j => g 251 j (by omega))]
    exact h2 i hi
theorem TmV_ag (h : TmV V sc Lb) (g : ∀ a i, ((175 ≤ a ∧ a ≤ 178) ∨ a = 244) → vI W a i = vI V a i) (gs : ∀ t, t < 44 → vI sc' 226 t ≠ 0 → vI sc' 227 t = 2 → (vI sc 226 t ≠ 0 ∧ vI sc 227 t = 2) ∧ vI sc' 228 t = vI sc 228 t ∧ vI sc' 243 t = vI sc 243 t ∧ vI sc' 244 t = vI sc 244 t) : TmV W sc' Lb := fun t ht h1 h2 => by
  obtain ⟨g1, g2, g3, g4⟩ := gs t ht h1 h2
  have := h t ht g1.1 g1.2
  unfold TmR at this ⊢
  rw [g2, g3, g4, g 244 t (by omega)]
  rcases this with k | ⟨x, j, k1, k2, k3, k4, k5⟩
  · exact Or.inl k
  · exact Or.inr ⟨x, j, k1, k2, k3, k4, by rw [gT_ext (fun a i z => g a i (by omega))]; exact k5⟩
/-- words and lists of works change -/
theorem vy_mk (h : VY V m al N own sd ps sn pu rf tm Lb oth Z ev tn Y) (g : ∀ a i, ¬ ((226 ≤ a ∧ a ≤ 270 ∧ a ≠ 231) ∨ mv a i = 9) → W a i = V a i) (hl : LksV W lk tn) (hs : ScV W sc') (hq : QsV W q') (ht : TmV W sc' Lb) : VY W m al N own sd ps sn pu rf tm Lb oth Z ev tn (yw Y, lk, sc', q') := by
  obtain ⟨h1, h2, h3, h4, h5, h6, h7, h8⟩ := h
  refine ⟨vq_w6 h1 g, h2, h3, hl, hs, hq, LbV_ag h7 (fun a i z => ?_), ht⟩
  show w32 _ = w32 _
  rw [g a i (fun k => ?_)]
  rcases k with k | k
  · omega
  · have : mv a i = 4 := by
      unfold mv
      rw [if_neg (by omega)]
      unfold mvA
      rw [if_neg (by omega), if_neg (by omega), if_neg (by omega), if_pos (by omega)]
    omega
/-- scratch changes -/
theorem vy_9 (h : VY V m al N own sd ps sn pu rf tm Lb oth Z ev tn Y) (f : FrV (fun z => z == 9) V W) : VY W m al N own sd ps sn pu rf tm Lb oth Z ev tn Y := by
  have g : ∀ a i, mv a i ≠ 9 → vI W a i = vI V a i := fun a i z => fv f (by simpa using z)
  have m6 : ∀ a i, (226 ≤ a ∧ a ≤ 270 ∧ a ≠ 240) → mv a i ≠ 9 := fun a i z => by
    unfold mv
    rw [if_neg (by omega)]
    unfold mvA
    rw [if_neg (by omega), if_neg (by omega), if_neg (by omega), if_neg (by omega), if_neg (by omega)]
    by_cases c1 : 226 ≤ a ∧ a ≤ 264 ∧ a ≠ 240
    · rw [if_pos c1]; decide
    · rw [if_neg c1, if_pos (by omega)]; decide
  have m4 : ∀ a i, (173 ≤ a ∧ a ≤ 178) → mv a i ≠ 9 := fun a i z => by
    unfold mv
    rw [if_neg (by omega)]
    unfold mvA
    rw [if_neg (by omega), if_neg (by omega), if_neg (by omega), if_pos (by omega)]
    decide
  obtain ⟨h1, h2, h3, h4, h5, h6, h7, h8⟩ := h
  refine ⟨vq_fr f (by decide) h1, h2, h3, LksV_ag h4 (fun a i z => g a i (m6 a i (by omega))), fun a i z => ?_, QsV_ag h6 (fun a i z => g a i (m6 a i (by omega))), LbV_ag h7 (fun a i z => g a i (m4 a i (by omega))), TmV_ag h8 (fun a i z => g a i (by rcases z with z | z; exact m4 a i (by omega); exact m6 a i (by omega))) (fun t _ k1 k2 => ⟨⟨k1, k2⟩, rfl, rfl, rfl⟩)⟩
  rw [g a i ?_]
  · exact h5 a i z
  · by_cases c : a = 156
    · have : i = 91 := by unfold scA at z; omega
      rw [c, this]; decide
    · exact m6 a i (by unfold scA at z; omega)
theorem sc_st {a i : Nat} {v : Int} (h : ScV V sc) : ScV (st2 V a i v) (st2 sc a i v) := fun b j z => by
  rw [vI_st2, vI_st2, h b j z]
theorem sc_ne {a i : Nat} {v : Int} (h : ScV V sc) (hn : ¬ scA a i) : ScV (st2 V a i v) sc := fun b j z => by
  rw [vI_st2, if_neg (fun e => hn (by rw [← e.1, ← e.2]; exact z)), h b j z]
theorem sc_ag (h : ScV V sc) (g : ∀ a i, scA a i → vI W a i = vI V a i) : ScV W sc := fun a i z => by rw [g a i z]; exact h a i z
/-- a word of a work -/
theorem vy_st {a i : Nat} {v : Int} (h : VY V m al N own sd ps sn pu rf tm Lb oth Z ev tn Y) (ha : a = 230 ∨ a = 241 ∨ a = 242 ∨ (245 ≤ a ∧ a ≤ 248) ∨ a = 250 ∨ a = 252 ∨ a = 254 ∨ a = 256 ∨ (263 ≤ a ∧ a ≤ 269)) : VY (st2 V a i v) m al N own sd ps sn pu rf tm Lb oth Z ev tn (setV Y a i v) := by
  have ne : ∀ b j, b ≠ a → vI (st2 V a i v) b j = vI V b j := fun b j z => by rw [vI_st2, if_neg (fun e => z e.1)]
  have nes : ∀ b j, b ≠ a → vI (st2 (ys Y) a i v) b j = vI (ys Y) b j := fun b j z => by rw [vI_st2, if_neg (fun e => z e.1)]
  refine vy_mk h (fun b j z => st2_ne (fun e => z (Or.inl (by omega)))) (LksV_ag h.2.2.2.1 (fun b j z => ne b j (by omega))) (sc_st h.2.2.2.2.1) (QsV_ag h.2.2.2.2.2.1 (fun b j z => ne b j (by omega))) (TmV_ag h.2.2.2.2.2.2.2 (fun b j z => ne b j (by omega)) (fun t _ k1 k2 => ?_))
  rw [nes 226 t (by omega)] at k1
  rw [nes 227 t (by omega)] at k2
  exact ⟨⟨k1, k2⟩, nes 228 t (by omega), nes 243 t (by omega), nes 244 t (by omega)⟩
theorem ok_dt (h : okW N own tm w) : okW N own tm (dtW t w) := by
  obtain ⟨h1, h2, h3, h4⟩ := h
  refine ⟨h1, h2, h3, fun p hp => ?_⟩
  obtain ⟨k1, k2, k3, k4, k5, k6⟩ := h4 p hp
  refine ⟨k1, k2, k3, k4, ?_, fun y hy => ?_⟩
  · show ((wQ w p).map (dtQ t)).Pairwise _
    rw [List.pairwise_map]
    exact k5
  · obtain ⟨z, hz, e⟩ := List.mem_map.mp (show y ∈ (wQ w p).map (dtQ t) from hy)
    rw [← e]
    exact k6 z hz
theorem ev_dt (h : EvI N ev w) : EvI N ev (dtW t w) := fun p hp => by
  obtain ⟨h1, h2, h3⟩ := h p hp
  have : (wQ (dtW t w) p).length = (wQ w p).length := List.length_map _
  exact ⟨h1, by rw [this]; exact h2, by rw [this]; exact h3⟩
/-- a turn more -/
theorem vy_turn (h : VY V m al N own sd ps sn pu rf tm Lb oth Z ev tn Y) (ht : t < 44) (htn : tn t < 2000000000) : l2 231 44 (t : Int) V = some (tn t : Int) ∧ VY (st2 V 231 t ((tn t : Int) + 1)) m al N own sd ps sn pu rf tm Lb oth Z ev (fup tn t (tn t + 1)) (setW Y (dtW t (yw Y))) ∧ KpV V (st2 V 231 t ((tn t : Int) + 1)) := by
  obtain ⟨⟨L, h1, hL⟩, h2, h3, h4, h5, h6, h7, h8⟩ := h
  have h231 := (h4 t ht).2.2.2
  have ne : ∀ b j, b ≠ 231 → vI (st2 V 231 t ((tn t : Int) + 1)) b j = vI V b j := fun b j z => by rw [vI_st2, if_neg (fun e => z e.1)]
  refine ⟨by rw [l2_n ht (by omega), h231], ⟨⟨L, vp_turn h1 ht h231 htn, hL⟩, ok_dt h2, ev_dt h3, fun t' ht' => ?_, sc_ne h5 (by unfold scA; omega), QsV_ag h6 (fun b j z => ne b j (by omega)), LbV_ag h7 (fun b j z => ne b j (by omega)), TmV_ag h8 (fun b j z => ne b j (by omega)) (fun t _ k1 k2 => ⟨⟨k1, k2⟩, rfl, rfl, rfl⟩)⟩, KpV_st (by unfold kpA; omega)⟩
  obtain ⟨k1, k2, k3, k4⟩ := h4 t' ht'
  refine ⟨en_ag k1 (ne 234 _ (by decide)) (gk_ext (fun i _ => ne 232 _ (by decide))) (fun j _ => gE_ext (gk_ext (fun i _ => ne 235 _ (by decide))) (ne 236 _ (by decide)) (ne 237 _ (by decide)) (ne 238 _ (by decide))), by rw [ne 233 _ (by decide)]; exact k2, by rw [ne 239 _ (by decide)]; exact k3, ?_⟩
  rw [vI_st2]
  unfold fup
  by_cases c : t' = t
  · rw [if_pos ⟨rfl, c⟩, if_pos c, show (tn t : Int) + 1 = ((tn t + 1 : Nat) : Int) from rfl, w32_nn (by omega)]
  · rw [if_neg (fun e => c e.2), if_neg c]; exact k4
/-- a work ends -/
theorem v_close (h : VY V m al N own sd ps sn pu rf tm Lb oth Z ev tn Y) (ht : t < 44) (htn : tn t < 2000000000) (hr : yv Y 229 t = -1 ∨ (0 ≤ yv Y 229 t ∧ yv Y 229 t < 256)) : ∃ V', f_X16_close (t : Int) how V = some V' ∧ VY V' m al N own sd ps sn pu rf tm Lb oth Z ev (fup tn t (tn t + 1)) (clY t how Y) ∧ KpV V V' := by
  obtain ⟨V1, hV1⟩ : ∃ V1, V1 = st2 V 226 t 0 := ⟨_, rfl⟩
  have ne : ∀ b j, b ≠ 226 → vI V1 b j = vI V b j := fun b j z => by rw [hV1, vI_st2, if_neg (fun e => z e.1)]
  have nes : ∀ b j, b ≠ 226 → vI (st2 (ys Y) 226 t 0) b j = vI (ys Y) b j := fun b j z => by rw [vI_st2, if_neg (fun e => z e.1)]
  have Y1 : VY V1 m al N own sd ps sn pu rf tm Lb oth Z ev tn (setV Y 226 t 0) := by
    refine vy_mk h (fun b j z => by rw [hV1]; exact st2_ne (fun e => z (Or.inl (by omega)))) (LksV_ag h.2.2.2.1 (fun b j z => ne b j (by omega))) (by rw [hV1]; exact sc_st h.2.2.2.2.1) (QsV_ag h.2.2.2.2.2.1 (fun b j z => ne b j (by omega))) (TmV_ag h.2.2.2.2.2.2.2 (fun b j z => ne b j (by omega)) (fun t' _ k1 k2 => ?_))
    rw [vI_st2] at k1
    rw [nes 227 t' (by omega)] at k2
    by_cases c : t' = t
    · rw [if_pos ⟨rfl, c⟩] at k1; exact absurd rfl k1
    · rw [if_neg (fun e => c e.2)] at k1
      exact ⟨⟨k1, k2⟩, nes 228 t' (by omega), nes 243 t' (by omega), nes 244 t' (by omega)⟩
  obtain ⟨e1, Y2, K2⟩ := vy_turn Y1 ht htn
  obtain ⟨V2, hV2⟩ : ∃ V2, V2 = st2 V1 231 t ((tn t : Int) + 1) := ⟨_, rfl⟩
  rw [← hV2] at Y2 K2
  have r229 : vI V2 229 t = yv Y 229 t := by
    have := Y2.2.2.2.2.1 229 t (by unfold scA; omega)
    rw [this]
    exact nes 229 t (by decide)
  have K1 : KpV V V1 := by rw [hV1]; exact KpV_st (by unfold kpA; omega)
  have run : f_X16_close (t : Int) how V = if w32 (yv Y 229 t) < 0 then some V2 else (s2 267 256 (yv Y 229 t) how V2).bind fun V3 => some V3 := by
    unfold f_X16_close j_X16_close_38
    rw [s2z_n ht (by omega) (Or.inl rfl), Option.bind_some, ← hV1, e1, Option.bind_some, s2_n ht (by omega), Option.bind_some, ← hV2, l2_n ht (by omega), r229, Option.bind_some, Option.bind_some]
  rw [run]
  unfold clY clS
  rcases hr with c | c
  · refine ⟨V2, by rw [c, if_pos (by decide)], ?_, K1.trans K2⟩
    rw [if_pos (show vI (ys Y) 229 t < 0 by have : yv Y 229 t = -1 := c; show yv Y 229 t < 0; omega)]
    exact Y2
  · obtain ⟨r, hr⟩ : ∃ r : Nat, yv Y 229 t = (r : Int) := ⟨(yv Y 229 t).toNat, by omega⟩
    have r256 : r < 256 := by omega
    refine ⟨st2 V2 267 r how, ?_, ?_, (K1.trans K2).trans (KpV_st (by unfold kpA; omega))⟩
    · rw [hr, w32_nn (by omega), if_neg (by omega), s2_n r256 (by omega)]; rfl
    · rw [if_neg (show ¬ vI (ys Y) 229 t < 0 by show ¬ yv Y 229 t < 0; omega)]
      have := vy_st (a := 267) (i := r) (v := how) Y2 (by omega)
      rw [show (vI (ys Y) 229 t).toNat = r by show (yv Y 229 t).toNat = r; omega]
      exact this
end VY1
