/-! the class's stores -/
def isPo (M : MM) (c : Nat) : Prop := kd M c = (28, 33) ∧ rR M c 0 = ((c + 1 : Nat) : Int) ∧ kd M (c + 1) = (3, 32) ∧ isK M (c + 1)
def poc (M : MM) (c : Nat) : Post := (ky (kC M (c + 1)), rI M c 1, rI M c 2, rI M c 3, rI M c 4)
def StS (M : MM) (s : Nat) : Prop := (kd M s).1 = 18 ∧ rR M s 0 = ((s + 1 : Nat) : Int) ∧ kd M (s + 1) = (569, 200) ∧ rR M s 2 = ((s + 2 : Nat) : Int) ∧ kd M (s + 2) = (3, 40) ∧ isK M (s + 2)
def StC (M : MM) (s A : Nat) (D : Nat → Nat) (S : List Post) : Prop := StS M s ∧ rI M s 1 = (S.length : Int) ∧ S.length ≤ A ∧ A ≤ 200 ∧ (∀ i, i < A → rR M (s + 1) i = ((D i : Nat) : Int) ∧ isPo M (D i)) ∧ (∀ i j, i < A → j < A → D i = D j → i = j) ∧ (∀ i, A ≤ i → i < 200 → rR M (s + 1) i = -1) ∧ okSt S ∧ ∀ i, i < S.length → poc M (D i) = S.getD i post0
def mzk (key : Ky) (o d : Nat) : Nat := kvl key * 512 + o * 16 + d
theorem filt_rng {α : Type} {p : α → Bool} {d : α} {S : List α} {n0 n1 : Nat} (h0 : n0 ≤ n1) (h1 : n1 ≤ S.length) (h : ∀ i, i < S.length → (p (S.getD i d) = true ↔ n0 ≤ i ∧ i < n1)) : S.filter p = (S.drop n0).take (n1 - n0) := by
  have e : S = S.take n0 ++ ((S.drop n0).take (n1 - n0) ++ S.drop n1) := by
    have : S.drop n1 = (S.drop n0).drop (n1 - n0) := by rw [List.drop_drop]; congr 1; omega
    rw [this, List.take_append_drop, List.take_append_drop]
  have gd : ∀ i (hi : i < S.length), S.getD i d = S[i] := fun i hi => by rw [List.getD_eq_getElem?_getD, List.getElem?_eq_getElem hi]; rfl
  have f1 : (S.take n0).filter p = [] := List.filter_eq_nil_iff.mpr (fun x hx => by
    obtain ⟨i, hi, rfl⟩ := List.mem_iff_getElem.mp hx
    simp only [List.length_take] at hi
    rw [List.getElem_take, ← gd i (by omega)]
    intro z
    have := (h i (by omega)).mp z
    omega)
  have f2 : ((S.drop n0).take (n1 - n0)).filter p = (S.drop n0).take (n1 - n0) := List.filter_eq_self.mpr (fun x hx => by
    obtain ⟨i, hi, rfl⟩ := List.mem_iff_getElem.mp hx
    simp only [List.length_take, List.length_drop] at hi
    rw [List.getElem_take, List.getElem_drop, ← gd (n0 + i) (by omega)]
    exact (h (n0 + i) (by omega)).mpr (by omega))
  have f3 : (S.drop n1).filter p = [] := List.filter_eq_nil_iff.mpr (fun x hx => by
    obtain ⟨i, hi, rfl⟩ := List.mem_iff_getElem.mp hx
    simp only [List.length_drop] at hi
    rw [List.getElem_drop, ← gd (n1 + i) (by omega)]
    intro z
    have := (h (n1 + i) (by omega)).mp z
    omega)
  calc S.filter p = (S.take n0 ++ ((S.drop n0).take (n1 - n0) ++ S.drop n1)).filter p := by rw [← e]
    _ = _ := by rw [List.filter_append, List.filter_append, f1, f2, f3]; simp
section CSTORE
variable {M M1 : MM} {s A k o d c : Nat} {D : Nat → Nat} {S : List Post} {B : Nat → Prop}
theorem isPo_lt (hu : UN M) (h : isPo M c) : c + 2 < nN M := isK_lt hu h.2.2.2
theorem StS_lt (hu : UN M) (h : StS M s) : s + 3 < nN M := isK_lt hu h.2.2.2.2.2
theorem isPo.exa (h : ExA B M M1) (hu : UN M) (h1 : ¬ B c) (h2 : ¬ B (c + 1)) (hc : isPo M c) : isPo M1 c := by
  have hl := isPo_lt hu hc
  exact ⟨by rw [h.kd (by omega)]; exact hc.1, by rw [h.rR (by omega) h1]; exact hc.2.1, by rw [h.kd (by omega)]; exact hc.2.2.1, h.isK hu h2 hc.2.2.2⟩
theorem poc.exa (h : ExA B M M1) (hu : UN M) (hc : isPo M c) (h1 : ¬ B c) (h2 : ¬ B (c + 2)) : poc M1 c = poc M c := by
  have hl := isPo_lt hu hc
  unfold poc
  rw [h.kC (by omega) h2, h.rI (by omega) h1, h.rI (by omega) h1, h.rI (by omega) h1, h.rI (by omega) h1]
theorem StS.exa (h : ExA B M M1) (hu : UN M) (h1 : ¬ B s) (h2 : ¬ B (s + 2)) (hs : StS M s) : StS M1 s := by
  have hl := StS_lt hu hs
  obtain ⟨a1, a2, a3, a4, a5, a6⟩ := hs
  exact ⟨by rw [h.kd (by omega)]; exact a1, by rw [h.rR (by omega) h1]; exact a2, by rw [h.kd (by omega)]; exact a3, by rw [h.rR (by omega) h1]; exact a4, by rw [h.kd (by omega)]; exact a5, h.isK hu h2 a6⟩
theorem StC.exa (h : ExA B M M1) (hu : UN M) (h1 : ¬ B s ∧ ¬ B (s + 1) ∧ ¬ B (s + 2)) (hd : ∀ i, i < A → ¬ B (D i) ∧ ¬ B (D i + 1) ∧ ¬ B (D i + 2)) (hs : StC M s A D S) : StC M1 s A D S := by
  obtain ⟨a1, a2, a3, a4, a5, a6, a7, a8, a9⟩ := hs
  have hl := StS_lt hu a1
  exact ⟨a1.exa h hu h1.1 h1.2.2, by rw [h.rI (by omega) h1.1]; exact a2, a3, a4, fun i hi => ⟨by rw [h.rR (by omega) h1.2.1]; exact (a5 i hi).1, (a5 i hi).2.exa h hu (hd i hi).1 (hd i hi).2.1⟩, a6, fun i hi hj => by rw [h.rR (by omega) h1.2.1]; exact a7 i hi hj, a8, fun i hi => by rw [(poc.exa h hu (a5 i (by omega)).2 (hd i (by omega)).1 (hd i (by omega)).2.2)]; exact a9 i hi⟩
theorem c_cmp (hc : isPo M c) (hp : okP (poc M c)) (hk : isK M k) (ho : o * 16 + d ≤ 512) (hd : d < 16) : ∃ v, f_X18_compare (c : Int) (k : Int) (o : Int) (d : Int) M = some v ∧ (w32 v < 0 ↔ pmz (poc M c) < mzk (ky (kC M k)) o d) ∧ (o < 32 → (w32 v = 0 ↔ pmz (poc M c) = mzk (ky (kC M k)) o d)) := by
  obtain ⟨-, ⟨p1, p2⟩, ⟨p3, p4⟩, -, -⟩ := hp
  have p1 : 0 ≤ rI M c 1 := p1
  have p2 : rI M c 1 < 32 := p2
  have p3 : 0 ≤ rI M c 2 := p3
  have p4 : rI M c 2 < 16 := p4
  have em : pmz (poc M c) = kval (kC M (c + 1)) * 512 + (rI M c 1).toNat * 16 + (rI M c 2).toNat := rfl
  have ez : mzk (ky (kC M k)) o d = kval (kC M k) * 512 + o * 16 + d := rfl
  rw [em, ez]
  unfold f_X18_compare j_X18_compare_41
  rw [gfr_e (by rw [hc.1]), hc.2.1, Option.bind_some, ck_e hc.2.2.2.1, e_X3_compare hc.2.2.2 hk, Option.bind_some]
  simp only [gfi_e (show (kd M c).1 = 28 by rw [hc.1]), Option.bind_some, w32_rI]
  have wo : w32 (o : Int) = o := w32_nn (by omega)
  have e1 : w32 (rI M c 2 - (d : Int)) = rI M c 2 - (d : Int) := w32_id (by omega) (by omega)
  have e2 : w32 (rI M c 1 - (o : Int)) = rI M c 1 - (o : Int) := w32_id (by omega) (by omega)
  unfold kcmp
  by_cases c1 : kval (kC M (c + 1)) < kval (kC M k)
  · rw [if_pos c1, if_neg (by decide)]
    exact ⟨-1, rfl, ⟨fun _ => by omega, fun _ => by decide⟩, fun h => ⟨fun z => absurd z (by decide), fun z => by omega⟩⟩
  · rw [if_neg c1]
    by_cases c2 : kval (kC M (c + 1)) = kval (kC M k)
    · rw [if_pos c2, if_pos w32_0, wo]
      by_cases c3 : rI M c 1 = (o : Int)
      · rw [if_pos c3]
        exact ⟨_, rfl, by rw [e1]; omega, fun h => by rw [e1]; omega⟩
      · rw [if_neg c3]
        exact ⟨_, rfl, by rw [e2]; omega, fun h => by rw [e2]; omega⟩
    · rw [if_neg c2, if_neg (by decide)]
      exact ⟨1, rfl, ⟨fun z => absurd z (by decide), fun _ => by omega⟩, fun h => ⟨fun z => absurd z (by decide), fun z => by omega⟩⟩
/-- where the first one is that isn't ahead -/
theorem c_place (h : StC M s A D S) (hk : isK M k) (ho : o * 16 + d ≤ 512) (hd : d < 16) : ∃ n, n ≤ S.length ∧ f_X18_place (s : Int) (k : Int) (o : Int) (d : Int) M = some (n : Int) ∧ (∀ i, i < n → pmz (S.getD i post0) < mzk (ky (kC M k)) o d) ∧ ∀ i, n ≤ i → i < S.length → mzk (ky (kC M k)) o d ≤ pmz (S.getD i post0) := by
  obtain ⟨a1, a2, a3, a4, a5, a6, a7, a8, a9⟩ := h
  have srt : ∀ i j, i < j → j < S.length → pmz (S.getD i post0) < pmz (S.getD j post0) := fun i j hij hj => by
    have := List.pairwise_iff_getElem.mp a8.2.1 i j (by omega) hj hij
    rw [List.getD_eq_getElem?_getD, List.getD_eq_getElem?_getD, List.getElem?_eq_getElem (by omega), List.getElem?_eq_getElem hj]
    exact this
  have run : ∀ m lo hi fu, hi - lo ≤ m → m < fu → lo ≤ hi → hi ≤ S.length → (∀ i, i < lo → pmz (S.getD i post0) < mzk (ky (kC M k)) o d) → (∀ i, hi ≤ i → i < S.length → mzk (ky (kC M k)) o d ≤ pmz (S.getD i post0)) → ∃ n, n ≤ S.length ∧ lpN (fun t : Int × Int => b_X18_place_9 (s : Int) (k : Int) (o : Int) (d : Int) t.1 t.2 M) fu ((lo : Int), (hi : Int)) = some (n : Int) ∧ (∀ i, i < n → pmz (S.getD i post0) < mzk (ky (kC M k)) o d) ∧ ∀ i, n ≤ i → i < S.length → mzk (ky (kC M k)) o d ≤ pmz (S.getD i post0) := by
    intro m
    induction m with
    | zero =>
      intro lo hi fu hm hf hl hh h1 h2
      obtain ⟨f, rfl⟩ : ∃ f, fu = f + 1 := ⟨fu - 1, by omega⟩
      refine ⟨lo, by omega, lpN_xit ?_, h1, fun i hi' hS => h2 i (by omega) hS⟩
      show b_X18_place_9 (s : Int) (k : Int) (o : Int) (d : Int) (lo : Int) (hi : Int) M = _
      unfold b_X18_place_9
      rw [w32_nn (by omega), w32_nn (by omega), if_neg (by omega)]
    | succ m ih =>
      intro lo hi fu hm hf hl hh h1 h2
      obtain ⟨f, rfl⟩ : ∃ f, fu = f + 1 := ⟨fu - 1, by omega⟩
      by_cases c0 : lo < hi
      · obtain ⟨q, hq⟩ : ∃ q, q = (lo + hi) / 2 := ⟨_, rfl⟩
        have hql : lo ≤ q ∧ q < hi := by omega
        have hc := (a5 q (by omega)).2
        obtain ⟨v, v1, v2, -⟩ := c_cmp (o := o) (d := d) hc (by rw [a9 q (by omega)]; exact a8.2.2 _ (getD_mem (by omega))) hk ho hd
        rw [a9 q (by omega)] at v2
        have step : b_X18_place_9 (s : Int) (k : Int) (o : Int) (d : Int) (lo : Int) (hi : Int) M = if w32 v < 0 then cnt (((q + 1 : Nat) : Int), (hi : Int)) else cnt ((lo : Int), (q : Int)) := by
          unfold b_X18_place_9 j_X18_place_54
          rw [w32_nn (by omega), w32_nn (by omega), if_pos (by omega), cadd, dvi_e (p := lo + hi) (q := 2) (w32_nn (by omega)) (by decide) (by decide), ← hq, Option.bind_some, gfr_e a1.1, a1.2.1, Option.bind_some, lar_n a1.2.2.1 (by decide) (by omega) (by decide), Option.bind_some, (a5 q (by omega)).1, v1, Option.bind_some, cadd1]
        by_cases c1 : w32 v < 0
        · rw [if_pos c1] at step
          rw [lpN_cnt (b := fun t : Int × Int => b_X18_place_9 (s : Int) (k : Int) (o : Int) (d : Int) t.1 t.2 M) (s := ((lo : Int), (hi : Int))) step]
          refine ih (q + 1) hi f (by omega) (by omega) (by omega) hh (fun i hi' => ?_) h2
          by_cases e : i = q
          · rw [e]; exact v2.mp c1
          · exact Nat.lt_trans (srt i q (by omega) (by omega)) (v2.mp c1)
        · rw [if_neg c1] at step
          rw [lpN_cnt (b := fun t : Int × Int => b_X18_place_9 (s : Int) (k : Int) (o : Int) (d : Int) t.1 t.2 M) (s := ((lo : Int), (hi : Int))) step]
          have hge : mzk (ky (kC M k)) o d ≤ pmz (S.getD q post0) := Nat.not_lt.mp (fun z => c1 (v2.mpr z))
          refine ih lo q f (by omega) (by omega) (by omega) (by omega) h1 (fun i hi' hS => ?_)
          by_cases e : i = q
          · rw [e]; exact hge
          · exact Nat.le_trans hge (Nat.le_of_lt (srt q i (by omega) hS))
      · refine ⟨lo, by omega, lpN_xit ?_, h1, fun i hi' hS => h2 i (by omega) hS⟩
        show b_X18_place_9 (s : Int) (k : Int) (o : Int) (d : Int) (lo : Int) (hi : Int) M = _
        unfold b_X18_place_9
        rw [w32_nn (by omega), w32_nn (by omega), if_neg (by omega)]
  obtain ⟨n, n1, n2, n3⟩ := run S.length 0 S.length FU (by omega) (by unfold FU; omega) (by omega) (by omega) (fun i hi => by omega) (fun i hi hj => by omega)
  refine ⟨n, n1, ?_, n3⟩
  unfold f_X18_place l_X18_place_9
  rw [gfi_e a1.1, Option.bind_some, a2]
  exact n2
/-- those of a key -/
theorem c_count (h : StC M s A D S) (hk : isK M k) : ∃ n0 : Nat, f_X18_first (s : Int) (k : Int) M = some (n0 : Int) ∧ f_X18_count (s : Int) (k : Int) M = some ((choS (ky (kC M k)) S).length : Int) ∧ n0 + (choS (ky (kC M k)) S).length ≤ S.length ∧ choS (ky (kC M k)) S = (S.drop n0).take (choS (ky (kC M k)) S).length := by
  obtain ⟨n0, b1, b2, b3, b4⟩ := c_place (o := 0) (d := 0) h hk (by decide) (by decide)
  obtain ⟨n1, d1, d2, d3, d4⟩ := c_place (o := 32) (d := 0) h hk (by decide) (by decide)
  obtain ⟨a1, a2, a3, a4, a5, a6, a7, a8, a9⟩ := h
  have hky : kyo (ky (kC M k)) := kyo_ky (kC_ok M k)
  generalize ky (kC M k) = key at *
  have z0 : mzk key 0 0 = kvl key * 512 := by unfold mzk; omega
  have z1 : mzk key 32 0 = kvl key * 512 + 512 := by unfold mzk; omega
  rw [z0] at b3 b4
  rw [z1] at d3 d4
  have ok : ∀ i, i < S.length → (decide ((S.getD i post0).1 = key) = true ↔ n0 ≤ i ∧ i < n1) := fun i hi => by
    have hp := a8.2.2 _ (getD_mem (d := post0) hi)
    obtain ⟨p1, p2, p3, -⟩ := hp
    have em : pmz (S.getD i post0) = kvl (S.getD i post0).1 * 512 + (S.getD i post0).2.1.toNat * 16 + (S.getD i post0).2.2.1.toNat := rfl
    rw [decide_eq_true_eq]
    have q1 := b3 i
    have q2 := b4 i
    have q3 := d3 i
    have q4 := d4 i
    constructor
    · intro z
      rw [z] at em
      omega
    · intro z
      have := q2 z.1 hi
      have := q3 z.2
      exact kvl_inj p1 hky (by omega)
  have hn : n0 ≤ n1 := by
    apply Nat.le_of_not_lt
    intro z
    have q1 := b3 n1 z
    have q2 := d4 n1 (Nat.le_refl _) (by omega)
    omega
  have e : choS key S = (S.drop n0).take (n1 - n0) := filt_rng (d := post0) hn d1 ok
  have el : (choS key S).length = n1 - n0 := by rw [e, List.length_take, List.length_drop]; omega
  have ef : f_X18_first (s : Int) (k : Int) M = some (n0 : Int) := by
    unfold f_X18_first
    rw [ck_e a1.1, show f_X18_place (s : Int) (k : Int) 0 0 M = _ from b2, Option.bind_some]
  refine ⟨n0, ef, ?_, by omega, by rw [el]; exact e⟩
  unfold f_X18_count
  rw [ck_e a1.1, show f_X18_place (s : Int) (k : Int) 32 0 M = _ from d2, Option.bind_some, ck_e a1.1, ef, Option.bind_some, el]
  congr 1
  omega
theorem mzk_pid {x : Post} {key : Ky} (hx : okP x) (hk : kyo key) (ho : o < 32) (hd : d < 16) : pmz x = mzk key o d ↔ pid x = (key, (o : Int), (d : Int)) := by
  obtain ⟨p1, p2, p3, -⟩ := hx
  have em : pmz x = kvl x.1 * 512 + x.2.1.toNat * 16 + x.2.2.1.toNat := rfl
  have ez : mzk key o d = kvl key * 512 + o * 16 + d := rfl
  have ep : pid x = (x.1, x.2.1, x.2.2.1) := rfl
  rw [em, ez, ep]
  simp only [Prod.mk.injEq]
  constructor
  · intro h
    exact ⟨kvl_inj p1 hk (by omega), by omega, by omega⟩
  · rintro ⟨h1, h2, h3⟩
    rw [h1, h2, h3]
    omega
/-- the place, and whether it is there -/
theorem c_at (h : StC M s A D S) (hk : isK M k) (ho : o < 32) (hd : d < 16) : ∃ n, n ≤ S.length ∧ f_X18_place (s : Int) (k : Int) (o : Int) (d : Int) M = some (n : Int) ∧ (∀ i, i < n → pmz (S.getD i post0) < mzk (ky (kC M k)) o d) ∧ (∀ i, n ≤ i → i < S.length → mzk (ky (kC M k)) o d ≤ pmz (S.getD i post0)) ∧ ((n < S.length ∧ pid (S.getD n post0) = (ky (kC M k), (o : Int), (d : Int)) ∧ ∃ v, f_X18_compare ((D n : Nat) : Int) (k : Int) (o : Int) (d : Int) M = some v ∧ w32 v = 0) ∨ ((∀ y, y ∈ S → pid y ≠ (ky (kC M k), (o : Int), (d : Int))) ∧ (n = S.length ∨ ∃ v, f_X18_compare ((D n : Nat) : Int) (k : Int) (o : Int) (d : Int) M = some v ∧ w32 v ≠ 0))) := by
  obtain ⟨n, b1, b2, b3, b4⟩ := c_place (o := o) (d := d) h hk (by omega) hd
  obtain ⟨a1, a2, a3, a4, a5, a6, a7, a8, a9⟩ := h
  have hky : kyo (ky (kC M k)) := kyo_ky (kC_ok M k)
  refine ⟨n, b1, b2, b3, b4, ?_⟩
  have mem : ∀ y, y ∈ S → pid y = (ky (kC M k), (o : Int), (d : Int)) → n < S.length ∧ pmz (S.getD n post0) = mzk (ky (kC M k)) o d := fun y hy e => by
    have ez := (mzk_pid (a8.2.2 y hy) hky ho hd).mpr e
    obtain ⟨i, hi, rfl⟩ := List.mem_iff_getElem.mp hy
    have gd : S.getD i post0 = S[i] := by rw [List.getD_eq_getElem?_getD, List.getElem?_eq_getElem hi]; rfl
    rw [← gd] at ez
    have hni : n ≤ i := Nat.le_of_not_lt (fun z => by have := b3 i z; omega)
    refine ⟨by omega, ?_⟩
    by_cases e2 : n = i
    · rw [e2]; exact ez
    · have q1 := b4 n (Nat.le_refl _) (by omega)
      have := List.pairwise_iff_getElem.mp a8.2.1 n i (by omega) hi (by omega)
      rw [← gd, show S[n] = S.getD n post0 by rw [List.getD_eq_getElem?_getD, List.getElem?_eq_getElem (by omega)]; rfl] at this
      omega
  by_cases c0 : n < S.length
  · have hok := a8.2.2 _ (getD_mem (d := post0) c0)
    obtain ⟨v, v1, v2, v3⟩ := c_cmp (o := o) (d := d) (a5 n (by omega)).2 (by rw [a9 n c0]; exact hok) hk (by omega) hd
    rw [a9 n c0] at v3
    have v3 := v3 ho
    by_cases c1 : w32 v = 0
    · exact Or.inl ⟨c0, (mzk_pid hok hky ho hd).mp (v3.mp c1), v, v1, c1⟩
    · exact Or.inr ⟨fun y hy e => c1 (v3.mpr (mem y hy e).2), Or.inr ⟨v, v1, c1⟩⟩
  · exact Or.inr ⟨fun y hy e => c0 (mem y hy e).1, Or.inl (by omega)⟩
theorem c_sfind (h : StC M s A D S) (hk : isK M k) (ho : o < 32) (hd : d < 16) : (∃ i, i < S.length ∧ f_X18_find (s : Int) (k : Int) (o : Int) (d : Int) M = some (i : Int) ∧ pid (S.getD i post0) = (ky (kC M k), (o : Int), (d : Int))) ∨ (f_X18_find (s : Int) (k : Int) (o : Int) (d : Int) M = some (-1) ∧ ∀ y, y ∈ S → pid y ≠ (ky (kC M k), (o : Int), (d : Int))) := by
  obtain ⟨n, b1, b2, b3, b4, b5⟩ := c_at h hk ho hd
  obtain ⟨a1, a2, a3, a4, a5, a6, a7, a8, a9⟩ := h
  unfold f_X18_find j_X18_find_39 j_X18_find_40
  rw [ck_e a1.1, b2, Option.bind_some, gfi_e a1.1, a2, Option.bind_some, w32_nn (by omega), w32_nn (by omega)]
  rcases b5 with ⟨c0, c1, v, v1, v2⟩ | ⟨c1, c2⟩
  · refine Or.inl ⟨n, c0, ?_, c1⟩
    rw [if_pos (by omega), gfr_e a1.1, a1.2.1, Option.bind_some, lar_n a1.2.2.1 (by decide) (by omega) (by decide), Option.bind_some, (a5 n (by omega)).1, v1, Option.bind_some, if_pos v2]
  · refine Or.inr ⟨?_, c1⟩
    by_cases c0 : n < S.length
    · rcases c2 with c2 | ⟨v, v1, v2⟩
      · omega
      · rw [if_pos (by omega), gfr_e a1.1, a1.2.1, Option.bind_some, lar_n a1.2.2.1 (by decide) (by omega) (by decide), Option.bind_some, (a5 n (by omega)).1, v1, Option.bind_some, if_neg v2]
    · rw [if_neg (by omega)]
end CSTORE
