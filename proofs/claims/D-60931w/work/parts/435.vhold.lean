/-! the holder of a term -/
theorem arr_len (c : Nat → Int) : ∀ n, (arrO c n).length = n
  | 0 => rfl
  | n + 1 => by
    have := bk_le (fun y => decide (c n < c y)) 0 (arrO c n) (arrO c n).length
    unfold arrO
    rw [List.length_append, List.length_take, List.length_cons, List.length_drop, arr_len c n]
    rw [arr_len c n] at this
    omega
theorem arr_lt (c : Nat → Int) : ∀ n x, x ∈ arrO c n → x < n
  | 0, x, h => by cases h
  | n + 1, x, h => by
    unfold arrO at h
    rcases List.mem_append.mp h with h | h
    · have := arr_lt c n x (List.mem_of_mem_take h); omega
    · rcases List.mem_cons.mp h with h | h
      · omega
      · have := arr_lt c n x (List.mem_of_mem_drop h); omega
theorem ins_get {L : List Nat} {b i x : Nat} (hb : b ≤ L.length) : (L.take b ++ i :: L.drop b).getD x 0 = if x < b then L.getD x 0 else if x = b then i else L.getD (x - 1) 0 := by
  rw [List.getD_eq_getElem?_getD, List.getElem?_append, List.length_take, Nat.min_eq_left hb]
  by_cases c : x < b
  · rw [if_pos c, if_pos c, List.getElem?_take_of_lt c, List.getD_eq_getElem?_getD]
  · rw [if_neg c, if_neg c]
    by_cases c2 : x = b
    · rw [if_pos c2, c2, Nat.sub_self]; rfl
    · rw [if_neg c2, show x - b = (x - b - 1) + 1 by omega, List.getElem?_cons_succ, List.getElem?_drop, List.getD_eq_getElem?_getD]
      congr 2
      omega
section VHOLD
variable {V W : VV} {m al N p t oth Z : Nat} {own : Nat → Ky} {sd ps sn pu rf : Nat → Int} {tm : Int} {ev tn : Nat → Nat} {Lb : Nat → List Trm} {Y : Ys} {Ls : List Nat} {c : Nat → Int}
/-- one more comes to the order -/
theorem v_arrIns {i : Nat} (ht : t < 44) (hi : i < 3) (hc : ∀ x, x ≤ i → vI V 252 (3 * t + x) = c x) : ∀ (j fu : Nat) (U : VV), j ≤ i → j < fu → (∀ x, x < j → vI U 253 (3 * t + x) = ((3 * t + (arrO c i).getD x 0 : Nat) : Int)) → (∀ x, j ≤ x → x < i → vI U 253 (3 * t + x + 1) = ((3 * t + (arrO c i).getD x 0 : Nat) : Int)) → (∀ a x, ¬ (a = 253 ∧ 3 * t ≤ x ∧ x < 3 * t + 3) → U a x = V a x) → ∃ U', lpN (fun s : Int × VV => b_X16_holder_214 (t : Int) (i : Int) s.1 s.2) fu ((j : Int), U) = some (.inl (((i + 1 : Nat) : Int), U')) ∧ (∀ x, x ≤ i → vI U' 253 (3 * t + x) = ((3 * t + ((arrO c i).take (bk (fun y => decide (c i < c y)) 0 (arrO c i) j) ++ i :: (arrO c i).drop (bk (fun y => decide (c i < c y)) 0 (arrO c i) j)).getD x 0 : Nat) : Int)) ∧ ∀ a x, ¬ (a = 253 ∧ 3 * t ≤ x ∧ x < 3 * t + 3) → U' a x = V a x := by
  intro j
  have al := arr_len c i
  have fin : ∀ (j : Nat) (U : VV), j ≤ i → (∀ x, x < j → vI U 253 (3 * t + x) = ((3 * t + (arrO c i).getD x 0 : Nat) : Int)) → (∀ x, j ≤ x → x < i → vI U 253 (3 * t + x + 1) = ((3 * t + (arrO c i).getD x 0 : Nat) : Int)) → (∀ a x, ¬ (a = 253 ∧ 3 * t ≤ x ∧ x < 3 * t + 3) → U a x = V a x) → ∃ U', j_X16_holder_290 (t : Int) (i : Int) (j : Int) U = some (.inl (((i + 1 : Nat) : Int), U')) ∧ (∀ x, x ≤ i → vI U' 253 (3 * t + x) = ((3 * t + ((arrO c i).take j ++ i :: (arrO c i).drop j).getD x 0 : Nat) : Int)) ∧ ∀ a x, ¬ (a = 253 ∧ 3 * t ≤ x ∧ x < 3 * t + 3) → U' a x = V a x := by
    intro j U hj u1 u2 u3
    refine ⟨st2 U 253 (3 * t + j) ((3 * t + i : Nat) : Int), ?_, fun x hx => ?_, fun a x z => by rw [st2_ne (by omega)]; exact u3 a x z⟩
    · unfold j_X16_holder_290
      rw [c3m, cadd, cadd, s2_n (by omega) (by omega)]
      rfl
    · rw [ins_get (by omega), vI_st2]
      by_cases c1 : x < j
      · rw [if_neg (by omega), if_pos c1]; exact u1 x c1
      · rw [if_neg c1]
        by_cases c2 : x = j
        · rw [if_pos ⟨rfl, by omega⟩, if_pos c2, w32_nn (by omega)]
        · rw [if_neg (by omega), if_neg c2]
          have := u2 (x - 1) (by omega) (by omega)
          rw [show 3 * t + (x - 1) + 1 = 3 * t + x by omega] at this
          exact this
  induction j with
  | zero =>
    intro fu U hj hfu u1 u2 u3
    obtain ⟨U', e1, e2, e3⟩ := fin 0 U hj u1 u2 u3
    refine ⟨U', ?_, e2, e3⟩
    refine Eq.trans (lpN_end (b := fun s : Int × VV => b_X16_holder_214 (t : Int) (i : Int) s.1 s.2) (x := j_X16_holder_290 (t : Int) (i : Int) ((0 : Nat) : Int) U) (by omega) ?_) e1
    dsimp only
    unfold b_X16_holder_214
    rw [if_neg (by decide)]
  | succ j ih =>
    intro fu U hj hfu u1 u2 u3
    obtain ⟨f, rfl⟩ : ∃ f, fu = f + 1 := ⟨fu - 1, by omega⟩
    have uv : ∀ a x, ¬ (a = 253 ∧ 3 * t ≤ x ∧ x < 3 * t + 3) → vI U a x = vI V a x := fun a x z => by show w32 _ = w32 _; rw [u3 a x z]
    obtain ⟨y, hy⟩ : ∃ y, y = (arrO c i).getD j 0 := ⟨_, rfl⟩
    have yi : y < i := by rw [hy]; exact arr_lt c i _ (getD_mem (by omega))
    have r253 : vI U 253 (3 * t + j) = ((3 * t + y : Nat) : Int) := by rw [hy]; exact u1 j (by omega)
    have run : b_X16_holder_214 (t : Int) (i : Int) ((j + 1 : Nat) : Int) U = if c i < c y then some (.inl ((j : Int), st2 U 253 (3 * t + (j + 1)) ((3 * t + y : Nat) : Int))) else xit (j_X16_holder_290 (t : Int) (i : Int) ((j + 1 : Nat) : Int) U) := by
      unfold b_X16_holder_214 j_X16_holder_254
      have r2 : w32 (c i) = c i := by rw [← hc i (Nat.le_refl _)]; exact w32_vI
      have r3 : w32 (c y) = c y := by rw [← hc y (by omega)]; exact w32_vI
      rw [w32_nn (by omega), if_pos (by omega), c3m, cadd, l2_n (by omega) (by omega), uv 252 _ (by omega), hc i (Nat.le_refl _), Option.bind_some, if_pos (by omega), show ((j + 1 : Nat) : Int) - 1 = (j : Int) by omega, cadd, l2_n (by omega) (by omega), r253, Option.bind_some, l2_n (by omega) (by omega), uv 252 _ (by omega), hc y (by omega), Option.bind_some, r2, r3, cadd, show ((3 * t + (j + 1) : Nat) : Int) - 1 = ((3 * t + j : Nat) : Int) by omega, l2_n (by omega) (by omega), r253, Option.bind_some, s2_n (by omega) (by omega), Option.bind_some, show ((j + 1 : Nat) : Int) + -1 = (j : Int) by omega]
      rfl
    have bks : bk (fun y => decide (c i < c y)) 0 (arrO c i) (j + 1) = if c i < c y then bk (fun y => decide (c i < c y)) 0 (arrO c i) j else j + 1 := by
      rw [bk, ← hy]
      by_cases q : c i < c y
      · rw [if_pos q, if_pos (by simpa using q)]
      · rw [if_neg q, if_neg (by simpa using q)]
    by_cases q : c i < c y
    · rw [if_pos q] at run bks
      rw [bks, lpN_cnt (b := fun s : Int × VV => b_X16_holder_214 (t : Int) (i : Int) s.1 s.2) (s := (((j + 1 : Nat) : Int), U)) run]
      refine ih f _ (by omega) (by omega) (fun x hx => by rw [vI_ne (by omega)]; exact u1 x (by omega)) (fun x h1 h2 => ?_) (fun a x z => by rw [st2_ne (by omega)]; exact u3 a x z)
      rw [vI_st2]
      by_cases e : x = j
      · rw [if_pos ⟨rfl, by omega⟩, w32_nn (by omega), e, hy]
      · rw [if_neg (by omega)]; exact u2 x (by omega) h2
    · rw [if_neg q] at run bks
      obtain ⟨U', e1, e2, e3⟩ := fin (j + 1) U hj u1 u2 u3
      rw [bks]
      exact ⟨U', Eq.trans (lpN_end (b := fun s : Int × VV => b_X16_holder_214 (t : Int) (i : Int) s.1 s.2) (by omega) run) e1, e2, e3⟩
/-- terms by their counts -/
theorem v_arrange {n : Nat} (ht : t < 44) (hn : n ≤ 3) (h247 : vI V 247 t = (n : Int)) (hc : ∀ x, x < n → vI V 252 (3 * t + x) = c x) : ∃ U, l_X16_holder_199 (t : Int) 0 V = j_X16_holder_313 (t : Int) U ∧ (∀ x, x < n → vI U 253 (3 * t + x) = ((3 * t + (arrO c n).getD x 0 : Nat) : Int)) ∧ ∀ a x, ¬ (a = 253 ∧ 3 * t ≤ x ∧ x < 3 * t + 3) → U a x = V a x := by
  have loop : ∀ d i fu (U : VV), d + i = n → d < fu → (∀ x, x < i → vI U 253 (3 * t + x) = ((3 * t + (arrO c i).getD x 0 : Nat) : Int)) → (∀ a x, ¬ (a = 253 ∧ 3 * t ≤ x ∧ x < 3 * t + 3) → U a x = V a x) → ∃ U', lpN (fun s : Int × VV => b_X16_holder_199 (t : Int) s.1 s.2) fu ((i : Int), U) = j_X16_holder_313 (t : Int) U' ∧ (∀ x, x < n → vI U' 253 (3 * t + x) = ((3 * t + (arrO c n).getD x 0 : Nat) : Int)) ∧ ∀ a x, ¬ (a = 253 ∧ 3 * t ≤ x ∧ x < 3 * t + 3) → U' a x = V a x := by
    intro d
    induction d with
    | zero =>
      intro i fu U hd hf u1 u2
      have e : i = n := by omega
      subst e
      refine ⟨U, lpN_end (b := fun s : Int × VV => b_X16_holder_199 (t : Int) s.1 s.2) (by omega) ?_, u1, u2⟩
      dsimp only
      unfold b_X16_holder_199
      rw [l2_n ht (by omega), show vI U 247 t = (i : Int) by show w32 _ = _; rw [u2 247 t (by omega)]; exact h247, Option.bind_some, if_neg (by omega)]
    | succ d ih =>
      intro i fu U hd hf u1 u2
      obtain ⟨f, rfl⟩ : ∃ f, fu = f + 1 := ⟨fu - 1, by omega⟩
      obtain ⟨U', e1, e2, e3⟩ := v_arrIns (c := c) (i := i) (V := V) ht (by omega) (fun x hx => hc x (by omega)) i FU U (Nat.le_refl _) (by unfold FU; omega) u1 (fun x h1 h2 => by omega) u2
      have st : b_X16_holder_199 (t : Int) (i : Int) U = some (.inl (((i + 1 : Nat) : Int), U')) := by
        unfold b_X16_holder_199 l_X16_holder_214
        rw [l2_n ht (by omega), show vI U 247 t = (n : Int) by show w32 _ = _; rw [u2 247 t (by omega)]; exact h247, Option.bind_some, w32_nn (by omega), w32_nn (by omega), if_pos (by omega)]
        exact e1
      rw [lpN_cnt (b := fun s : Int × VV => b_X16_holder_199 (t : Int) s.1 s.2) (s := ((i : Int), U)) st]
      have al := arr_len c i
      refine ih (i + 1) f U' (by omega) (by omega) (fun x hx => ?_) e3
      have := e2 x (by omega)
      rw [show arrO c (i + 1) = (arrO c i).take (bk (fun y => decide (c i < c y)) 0 (arrO c i) (arrO c i).length) ++ i :: (arrO c i).drop (bk (fun y => decide (c i < c y)) 0 (arrO c i) (arrO c i).length) from rfl, al]
      exact this
  unfold l_X16_holder_199
  exact loop n 0 FU V (by omega) (by unfold FU; omega) (fun x hx => by omega) (fun _ _ _ => rfl)
theorem v_isOwn {e q n : Nat} (h : VY V m al N own sd ps sn pu rf tm Lb oth Z ev tn Y) (ht : t < 44) (hg : goW N Y t) (he : mA e n) (hq : q + 5 ≤ n) (hn : n ≤ 1000000) : f_X16_isOwn (t : Int) (e : Int) (q : Int) V = some (b2i (decide (gk V e q = own (yp Y t)))) := by
  obtain ⟨p, hp⟩ : ∃ p : Nat, yv Y 228 t = (p : Int) := ⟨(yv Y 228 t).toNat, by have := hg.1; omega⟩
  have hyp : yp Y t = p := by unfold yp; show (yv Y 228 t).toNat = p; omega
  have r228 : vI V 228 t = (p : Int) := by rw [h.2.2.2.2.1 228 t (by unfold scA; omega)]; exact hp
  obtain ⟨⟨L, hP, _⟩, ho, _⟩ := h
  have p32 : p < 32 := by have := hg.1; have := ho.2.2.1; omega
  have hown : gk V 165 (5 * p) = own p := (hP.2.1.2.2.1 p p32).1
  unfold f_X16_isOwn
  have sm := v_same (V := V) (e := e) (n := n) (p := q) (e' := 165) (n' := 160) (p' := 5 * p) he hq hn m165k (by omega) (by decide)
  rw [l2_n ht (by omega), r228, Option.bind_some, c5m, show f_X16_same (e : Int) (q : Int) 165 ((5 * p : Nat) : Int) V = _ from sm, Option.bind_some, hyp, hown]
  exact bz_e (b2i_01 _)
def PSc (a i : Nat) : Prop := a = 216 ∨ (a = 156 ∧ i = 72)
theorem m249 : mA 249 660 := by unfold mA; decide
theorem m251 : mA 251 660 := by unfold mA; decide
/-- the first one of the front that has postings -/
theorem v_findHolder {q : Nat} (h : VY V m al N own sd ps sn pu rf tm Lb oth Z ev tn Y) (ht : t < 44) (hg : goW N Y t) (hyp : yp Y t = p) (hq : q < 132) (hf : FroV V m t (yl Y t).2.2.1 Ls) :
    match hldE (own p) (qK (yq Y) q) (wS (yw Y) p) (frontE m (yl Y t).2.2.1) with
    | none => ∃ U, l_X16_holder_24 (t : Int) (p : Int) (q : Int) 0 0 V = j_X16_holder_143 (t : Int) (q : Int) 0 U ∧ FrS PSc V U
    | some x => ∃ U, l_X16_holder_24 (t : Int) (p : Int) (q : Int) 0 0 V = j_X16_holder_143 (t : Int) (q : Int) 1 U ∧ FrS (fun a i => PSc a i ∨ ((a = 250 ∨ a = 252) ∧ i = q) ∨ (a = 251 ∧ 5 * q ≤ i ∧ i < 5 * q + 5)) V U ∧ vI U 250 q = eAdr x ∧ vI U 252 q = hcE (own p) (qK (yq Y) q) (wS (yw Y) p) x ∧ gk U 251 (5 * q) = eKey x := by
  obtain ⟨⟨L, hP, _⟩, ho, _⟩ := id h
  have hm : m ≤ 20 := hP.2.2.2.2.2.2.2.2
  have p32 : p < 32 := by
    have h1 := hg.1
    have h2 := ho.2.2.1
    have : (yv Y 228 t).toNat = p := hyp
    omega
  have hE := (h.2.2.2.1 t ht).1.2.2.1
  have lts := fro_lt hf hE.1 ht
  have l20 := fro_len hf hm
  obtain ⟨F, hF⟩ : ∃ F, F = frontE m (yl Y t).2.2.1 := ⟨_, rfl⟩
  have lF : F.length = Ls.length := by rw [hF, ← hf.2.2.2, List.length_map]
  obtain ⟨S, hS⟩ : ∃ S, S = wS (yw Y) p := ⟨_, rfl⟩
  have st : StV V p S := by rw [hS]; exact hP.2.2.2.1 p p32
  have s200 : S.length ≤ 200 := st.2.1.1
  obtain ⟨key, hkey⟩ : ∃ key, key = qK (yq Y) q := ⟨_, rfl⟩
  have k249 : gk V 249 (5 * q) = key := by rw [hkey]; exact (h.2.2.2.2.2.1.2.1 q hq).1
  rw [← hF, ← hS, ← hkey]
  have loop : ∀ d i fu (U : VV), d + i = Ls.length → d + 1 < fu → FrS PSc V U → match hldE (own p) key S (F.drop i) with
    | none => ∃ U', lpN (fun s : Int × Int × VV => b_X16_holder_24 (t : Int) (p : Int) (q : Int) s.1 s.2.1 s.2.2) fu (0, (i : Int), U) = j_X16_holder_143 (t : Int) (q : Int) 0 U' ∧ FrS PSc V U'
    | some x => ∃ U', lpN (fun s : Int × Int × VV => b_X16_holder_24 (t : Int) (p : Int) (q : Int) s.1 s.2.1 s.2.2) fu (0, (i : Int), U) = j_X16_holder_143 (t : Int) (q : Int) 1 U' ∧ FrS (fun a i => PSc a i ∨ ((a = 250 ∨ a = 252) ∧ i = q) ∨ (a = 251 ∧ 5 * q ≤ i ∧ i < 5 * q + 5)) V U' ∧ vI U' 250 q = eAdr x ∧ vI U' 252 q = hcE (own p) key S x ∧ gk U' 251 (5 * q) = eKey x := by
    intro d
    induction d with
    | zero =>
      intro i fu U hd hfu fU
      have e : i = Ls.length := by omega
      subst e
      rw [List.drop_of_length_le (by omega)]
      show ∃ U', _
      refine ⟨U, lpN_end (b := fun s : Int × Int × VV => b_X16_holder_24 (t : Int) (p : Int) (q : Int) s.1 s.2.1 s.2.2) (by omega) ?_, fU⟩
      dsimp only
      unfold b_X16_holder_24
      rw [v156, fU.vI (by unfold PSc; omega), hf.1, if_neg (by omega)]
    | succ d ih =>
      intro i fu U hd hfu fU
      obtain ⟨f, rfl⟩ : ∃ f, fu = f + 1 := ⟨fu - 1, by omega⟩
      obtain ⟨s, hs⟩ : ∃ s, s = Ls.getD i 0 := ⟨_, rfl⟩
      have s1 : s < 2860 := by rw [hs]; exact lts i (by omega)
      obtain ⟨x, hx⟩ : ∃ x, x = F.getD i ent0 := ⟨_, rfl⟩
      have gx : gE V s = x := by rw [hx, hs, hF]; exact fro_get hf (by omega)
      have dr : F.drop i = x :: F.drop (i + 1) := by
        rw [List.drop_eq_getElem_cons (show i < F.length by omega), hx, gd_get (by omega)]
      have m9 : ∀ a j, PSc a j → mv a j = 9 := fun a j z => by
        rcases z with z | z
        · rw [z]; rfl
        · rw [z.1, z.2]; rfl
      have YU := vy_9 h (fU.fr (fun a j z => by rw [m9 a j z]; rfl))
      have k235 : gk U 235 (5 * s) = eKey x := by rw [← gx]; exact gk_ag (fun j => fU.vI (by unfold PSc; omega))
      have r238 : (if 0 ≤ vI U 238 s then vI U 238 s else 0) = eCnt x := by rw [fU.vI (by unfold PSc; omega), ← gx]; rfl
      have io := v_isOwn (e := 235) (q := 5 * s) YU ht hg m235 (by omega) (by decide)
      rw [k235, hyp] at io
      have ok := hE.2.2 x (front_mem (k := m) (by rw [← hF, hx]; exact getD_mem (by omega)))
      -- the count
      obtain ⟨U1, v, b1, b2, b3⟩ : ∃ U1 v, b_X16_holder_24 (t : Int) (p : Int) (q : Int) 0 (i : Int) U = j_X16_holder_90 (t : Int) (p : Int) (q : Int) 0 (i : Int) (s : Int) v U1 ∧ FrS PSc V U1 ∧ ((0 < w32 v ↔ 0 < hcE (own p) key S x) ∧ (0 < hcE (own p) key S x → v = hcE (own p) key S x)) := by
        unfold b_X16_holder_24
        rw [v156, fU.vI (by unfold PSc; omega), hf.1, w32_nn (by omega), w32_nn (by omega), if_pos (by omega), if_pos (by decide), l2_n (by omega) (by omega), fU.vI (by unfold PSc; omega), show vI V 240 i = (s : Int) by rw [hs]; exact hf.2.1 i (by omega), Option.bind_some, l2_n s1 (by omega), Option.bind_some, c5m, show f_X16_isOwn (t : Int) 235 ((5 * s : Nat) : Int) U = _ from io, Option.bind_some, w32_b2i]
        unfold hcE
        by_cases c : eKey x = own p
        · obtain ⟨V', Lc, c1, c2, c3, c4, c5, c6⟩ := v_choose (V := U) (S := S) (e := 249) (q := 5 * q) (n := 660) (by
            have := YU.1
            obtain ⟨L', hP', _⟩ := this
            rw [hS]; exact hP'.2.2.2.1 p p32) p32 m249 (by omega) (by decide) (by decide)
          rw [gk_ag (V := V) (fun j => fU.vI (by unfold PSc; omega)), k249] at c6
          have lc : Lc.length = (choS key S).length := by rw [← c6, List.length_map]
          have lc2 : (choS key S).length ≤ 200 := Nat.le_trans (List.length_filter_le _ _) s200
          rw [decide_eq_true c, if_neg (by decide), show f_X16_choose (p : Int) 249 (5 * (q : Int)) U = some V' by rw [c5m]; exact c1, Option.bind_some]
          refine ⟨V', _, rfl, fU.trans (fun a j z => c2 a j (fun y => z (Or.inl y)) (fun y => z (Or.inr y))), ?_, fun _ => ?_⟩
          · rw [if_pos c, show w32 (V' 156 72) = _ from c3, w32_nn (by omega), lc]
          · rw [if_pos c, show w32 (V' 156 72) = _ from c3, lc]
        · rw [decide_eq_false c, if_pos (by decide)]
          refine ⟨U, _, rfl, fU, ?_, fun z => ?_⟩
          · rw [if_neg c, w32_vI, ← r238]
            by_cases c2 : 0 ≤ vI U 238 s
            · rw [if_pos c2]
            · rw [if_neg c2]; exact ⟨fun z => by omega, fun z => by omega⟩
          · rw [if_neg c] at z ⊢
            rw [← r238] at z ⊢
            by_cases c2 : 0 ≤ vI U 238 s
            · rw [if_pos c2]
            · rw [if_neg c2] at z; omega
      unfold hldE
      rw [dr]
      by_cases c : 0 < hcE (own p) key S x
      · rw [List.find?_cons_of_pos (by simpa using c)]
        show ∃ U', _
        have hv := b3.2 c
        obtain ⟨U2, hU2⟩ : ∃ U2, U2 = st2 U1 250 q (eAdr x) := ⟨_, rfl⟩
        have pu := e_put (V := U2) (e := 251) (n := 660) (p := 5 * q) (e' := 235) (n' := 14300) (p' := 5 * s) m251 (by omega) (by decide) m235 (by omega) (by decide) (Or.inl (by decide))
        obtain ⟨U3, hU3⟩ : ∃ U3, U3 = kput U2 251 (5 * q) 235 (5 * s) := ⟨_, rfl⟩
        rw [← hU3] at pu
        obtain ⟨U4, hU4⟩ : ∃ U4, U4 = st2 U3 252 q v := ⟨_, rfl⟩
        have ra : vI U1 236 s = eAdr x := by rw [b2.vI (by unfold PSc; omega), ← gx]; rfl
        have stp : b_X16_holder_24 (t : Int) (p : Int) (q : Int) 0 (i : Int) U = some (.inl (1, ((i + 1 : Nat) : Int), U4)) := by
          rw [b1]
          unfold j_X16_holder_90 j_X16_holder_137
          rw [if_pos (b3.1.mpr c), l2_n s1 (by omega), ra, Option.bind_some, s2_n hq (by omega), Option.bind_some, ← hU2, c5m, c5m, show f_X16_put 251 ((5 * q : Nat) : Int) 235 ((5 * s : Nat) : Int) U2 = _ from pu, Option.bind_some, s2_n hq (by omega), Option.bind_some, ← hU4]
          rfl
        rw [lpN_cnt (b := fun s : Int × Int × VV => b_X16_holder_24 (t : Int) (p : Int) (q : Int) s.1 s.2.1 s.2.2) (s := (0, (i : Int), U)) stp]
        have kp : ∀ a j, U3 a j = if a = 251 ∧ 5 * q ≤ j ∧ j < 5 * q + 5 then vI U2 235 (5 * s + (j - 5 * q)) else U2 a j := fun a j => by rw [hU3]; rfl
        have r4 : FrS (fun a i => PSc a i ∨ ((a = 250 ∨ a = 252) ∧ i = q) ∨ (a = 251 ∧ 5 * q ≤ i ∧ i < 5 * q + 5)) V U4 := fun a j z => by
          rw [hU4, st2_ne (fun y => z (Or.inr (Or.inl ⟨Or.inr y.1, y.2⟩))), kp, if_neg (fun y => z (Or.inr (Or.inr y))), hU2, st2_ne (fun y => z (Or.inr (Or.inl ⟨Or.inl y.1, y.2⟩)))]
          exact b2 a j (fun y => z (Or.inl y))
        refine ⟨U4, lpN_end (b := fun s : Int × Int × VV => b_X16_holder_24 (t : Int) (p : Int) (q : Int) s.1 s.2.1 s.2.2) (by omega) ?_, r4, ?_, ?_, ?_⟩
        · dsimp only
          unfold b_X16_holder_24
          rw [if_neg (show ¬ w32 1 = 0 by decide)]
          split <;> rfl
        · rw [hU4, vI_ne (by omega), hU3, kput_vI, if_neg (by omega), hU2, vI_eq rfl, ← ra, w32_vI]
        · rw [hU4, vI_eq rfl, hv]
          refine w32_id ?_ ?_
          · omega
          · unfold hcE
            have l2 : (choS key S).length ≤ 200 := Nat.le_trans (List.length_filter_le _ _) s200
            have := ok.2.2.2
            split <;> omega
        · rw [hU4, gk_st2 (by decide), hU3, gk_kput3, hU2, gk_st2 (by decide), ← gx]
          exact gk_ag (fun j => b2.vI (by unfold PSc; omega))
      · rw [List.find?_cons_of_neg (by simpa using c)]
        have stp : b_X16_holder_24 (t : Int) (p : Int) (q : Int) 0 (i : Int) U = some (.inl (0, ((i + 1 : Nat) : Int), U1)) := by
          rw [b1]
          unfold j_X16_holder_90 j_X16_holder_137
          rw [if_neg (fun z => c (b3.1.mp z))]
          rfl
        rw [lpN_cnt (b := fun s : Int × Int × VV => b_X16_holder_24 (t : Int) (p : Int) (q : Int) s.1 s.2.1 s.2.2) (s := (0, (i : Int), U)) stp]
        exact ih (i + 1) f U1 (by omega) (by omega) b2
  have := loop Ls.length 0 FU V (by omega) (by unfold FU; omega) FrS.refl
  rw [List.drop_zero] at this
  exact this
end VHOLD
