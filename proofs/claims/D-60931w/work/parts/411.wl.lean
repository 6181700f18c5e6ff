/-! shapes of well formed datagrams -/
theorem alP_all {c : Nat → Bool} : ∀ m, alP c m = true ↔ ∀ k, k < m → c k = true
  | 0 => ⟨fun _ k hk => by omega, fun _ => rfl⟩
  | m + 1 => by
    show (alP c m && c m) = true ↔ _
    rw [Bool.and_eq_true, alP_all m]
    constructor
    · rintro ⟨h1, h2⟩ k hk
      by_cases e : k = m
      · rw [e]; exact h2
      · exact h1 k (by omega)
    · intro h
      exact ⟨fun k hk => h k (by omega), h m (by omega)⟩
theorem alP_congr {c d : Nat → Bool} : ∀ m, (∀ k, k < m → c k = d k) → alP c m = alP d m
  | 0, _ => rfl
  | m + 1, h => by show (alP c m && c m) = (alP d m && d m); rw [alP_congr m (fun k hk => h k (by omega)), h m (by omega)]
section WL
variable {n c w : Nat} {f g : Nat → Int} {lo hi : Int} {l : List Int}
theorem ndW_congr (h : ∀ i, i < n → f i = g i) : ndW n f c = ndW n g c := by
  unfold ndW
  by_cases c1 : c < n
  · rw [h c c1]
    by_cases c2 : g c ≤ 20
    · by_cases c3 : (n : Int) = c + 1 + 21 * g c
      · rw [alP_congr (d := okNd g (c + 1)) _ (fun k hk => by unfold okNd; rw [h _ (by omega)])]
      · rw [decide_eq_false c3]; simp
    · rw [decide_eq_false c2]; simp
  · rw [decide_eq_false c1]; simp
theorem psW_congr (h : ∀ i, i < n → f i = g i) (hw : w = 2 ∨ w = 3) : psW n f c lo hi w = psW n g c lo hi w := by
  unfold psW
  by_cases c1 : c < n
  · rw [h c c1]
    by_cases c3 : (n : Int) = c + 1 + w * g c
    · rw [alP_congr (c := okRw f (c + 1) w) (d := okRw g (c + 1) w) _ (fun k hk => ?_)]
      unfold okRw
      rcases hw with e | e <;> subst e
      · rw [h (c + 1 + 2 * k) (by omega), h (c + 1 + 2 * k + 1) (by omega)]; simp
      · rw [h (c + 1 + 3 * k) (by omega), h (c + 1 + 3 * k + 1) (by omega), h (c + 1 + 3 * k + 2) (by omega)]
    · rw [decide_eq_false c3]; simp
  · rw [decide_eq_false c1]; simp
theorem btW_congr (h : ∀ i, i < n → f i = g i) : btW n f c = btW n g c := by
  unfold btW
  by_cases c1 : c + 2 < n
  · rw [h c (by omega), h (c + 1) (by omega), h (c + 2) c1]
  · rw [decide_eq_false c1]; simp
theorem wellB_congr (h : ∀ i, i < n → f i = g i) : wellB n f = wellB n g := by
  unfold wellB
  by_cases c0 : 25 ≤ n
  · rw [h 0 (by omega)]
    congr 1
    unfold wellT
    rw [ndW_congr (c := 25) h, ndW_congr (c := 27) h, psW_congr (c := 45) (lo := 1) (hi := 16) h (Or.inr rfl), btW_congr (c := 27) h, btW_congr (c := 47) h, psW_congr (c := 26) (lo := 0) (hi := 30) h (Or.inr rfl), psW_congr (c := 45) (lo := 1) (hi := 30) h (Or.inl rfl), psW_congr (c := 25) (lo := 0) (hi := 30) h (Or.inr rfl)]
    by_cases c1 : 25 < n
    · rw [h 25 c1]
    · have e1 : psW n g 26 0 30 3 = false := by unfold psW; rw [decide_eq_false (show ¬ 26 < n by omega)]; rfl
      rw [e1]; simp
  · rw [decide_eq_false c0]; rfl
/-- whether a list of bytes is well formed -/
def wellL (l : List Int) : Bool := wellB l.length (fun i => l.getD i 0)
theorem c_isWell {M : MM} {x : Nat} (h : PkC M x l) : f_X4_isWell (x : Int) M = some (b2i (wellL l)) := by
  rw [e_isWell h.1 h.2.1 h.2.2.1]
  unfold wellL
  rw [wellB_congr (f := fun i => rU M (x + 1) i) (g := fun i => l.getD i 0) (fun i hi => h.2.2.2 i hi)]
theorem v_wellFormed {V : VV} (h : InV V l) (hb : isBL l) (hl : l.length ≤ 460) : f_X16_wellFormed V = some (b2i (wellL l)) := by
  rw [e_wellFormed (n := l.length) h.1 hl (fun i hi => by rw [(InV_get h hb hi).1]; exact (InV_get h hb hi).2)]
  unfold wellL
  rw [wellB_congr (f := fun i => vI V 271 i) (g := fun i => l.getD i 0) (fun i hi => (InV_get h hb hi).1)]
theorem wl_len (h : wellL l = true) : 25 ≤ l.length := by
  unfold wellL wellB at h
  simp only [Bool.and_eq_true, decide_eq_true_eq] at h
  exact h.1
theorem wl_t (h : wellL l = true) : wellT l.length (fun i => l.getD i 0) (l.getD 0 0) = true := by
  unfold wellL wellB at h
  rw [Bool.and_eq_true] at h
  exact h.2
theorem wl_ty (h : wellL l = true) : 1 ≤ l.getD 0 0 ∧ l.getD 0 0 ≤ 15 := by
  have h := wl_t h
  unfold wellT at h
  by_cases c : 1 ≤ l.getD 0 0 ∧ l.getD 0 0 ≤ 15
  · exact c
  · rw [if_neg (by omega), if_neg (by omega), if_neg (by omega), if_neg (by omega), if_neg (by omega), if_neg (by omega), if_neg (by omega), if_neg (by omega), if_neg (by omega), if_neg (by omega)] at h
    cases h
theorem wl_25 (h : wellL l = true) (ht : l.getD 0 0 = 1 ∨ l.getD 0 0 = 2 ∨ l.getD 0 0 = 8 ∨ l.getD 0 0 = 15) : l.length = 25 := by
  have h := wl_t h
  unfold wellT at h
  rw [if_pos ht] at h
  simpa using h
theorem wl_45 (h : wellL l = true) (ht : l.getD 0 0 = 3 ∨ l.getD 0 0 = 5 ∨ l.getD 0 0 = 9) : l.length = 45 := by
  have h := wl_t h
  unfold wellT at h
  rw [if_neg (by omega), if_pos ht] at h
  simpa using h
theorem nd_shape (hb : isBL l) (h : ndW l.length (fun i => l.getD i 0) c = true) : ∃ n : Nat, l.getD c 0 = (n : Int) ∧ n ≤ 20 ∧ l.length = c + 1 + 21 * n ∧ ∀ k, k < n → l.getD (c + 1 + 21 * k + 20) 0 < 32 := by
  unfold ndW at h
  simp only [Bool.and_eq_true, decide_eq_true_eq] at h
  obtain ⟨⟨⟨h1, h2⟩, h3⟩, h4⟩ := h
  have b0 := isBL_get hb c
  refine ⟨(l.getD c 0).toNat, by omega, by omega, by omega, fun k hk => ?_⟩
  have := (alP_all _).mp h4 k hk
  unfold okNd at this
  simpa using this
theorem ps_shape (hb : isBL l) (h : psW l.length (fun i => l.getD i 0) c lo hi w = true) : ∃ n : Nat, l.getD c 0 = (n : Int) ∧ lo ≤ (n : Int) ∧ (n : Int) ≤ hi ∧ l.length = c + 1 + w * n ∧ ∀ k, k < n → l.getD (c + 1 + w * k) 0 < 32 ∧ l.getD (c + 1 + w * k + 1) 0 < 16 ∧ (w ≠ 2 → 1 ≤ l.getD (c + 1 + w * k + 2) 0 ∧ l.getD (c + 1 + w * k + 2) 0 ≤ 15) := by
  unfold psW at h
  simp only [Bool.and_eq_true, decide_eq_true_eq] at h
  obtain ⟨⟨⟨⟨h1, h2⟩, h3⟩, h4⟩, h5⟩ := h
  have b0 := isBL_get hb c
  obtain ⟨n, hn⟩ : ∃ n : Nat, l.getD c 0 = (n : Int) := ⟨(l.getD c 0).toNat, by omega⟩
  rw [hn] at h2 h3 h4 h5
  refine ⟨n, hn, h2, h3, by exact_mod_cast h4, fun k hk => ?_⟩
  have := (alP_all _).mp h5 k (by omega)
  unfold okRw at this
  simp only [Bool.and_eq_true, decide_eq_true_eq, Bool.or_eq_true] at this
  refine ⟨this.1.1, this.1.2, fun hw => ?_⟩
  rcases this.2 with e | e
  · exact absurd e hw
  · omega
theorem bt_shape (hb : isBL l) (h : btW l.length (fun i => l.getD i 0) c = true) : ∃ n : Nat, (l.getD (c + 1) 0 * 256 + l.getD (c + 2) 0).toNat = n ∧ n ≤ 290 ∧ l.length = c + 3 + n ∧ 1 ≤ l.getD c 0 ∧ l.getD c 0 ≤ 8 := by
  unfold btW at h
  simp only [Bool.and_eq_true, decide_eq_true_eq] at h
  obtain ⟨⟨⟨⟨h1, h2⟩, h3⟩, h4⟩, h5⟩ := h
  have b1 := isBL_get hb (c + 1)
  have b2 := isBL_get hb (c + 2)
  exact ⟨_, rfl, by omega, by omega, h2, h3⟩
theorem wl_4 (hb : isBL l) (h : wellL l = true) (ht : l.getD 0 0 = 4) : ndW l.length (fun i => l.getD i 0) 25 = true := by
  have h := wl_t h
  unfold wellT at h
  rw [if_neg (by omega), if_neg (by omega), if_pos ht] at h
  exact h
theorem wl_6 (hb : isBL l) (h : wellL l = true) (ht : l.getD 0 0 = 6) : ndW l.length (fun i => l.getD i 0) 27 = true := by
  have h := wl_t h
  unfold wellT at h
  rw [if_neg (by omega), if_neg (by omega), if_neg (by omega), if_pos ht] at h
  exact h
theorem wl_7 (hb : isBL l) (h : wellL l = true) (ht : l.getD 0 0 = 7) : ∃ n : Nat, l.getD 45 0 = (n : Int) ∧ (1 ≤ n ∧ n ≤ 16) ∧ l.length = 46 + 3 * n ∧ okI (rdI l 46 n) := by
  have h := wl_t h
  unfold wellT at h
  rw [if_neg (by omega), if_neg (by omega), if_neg (by omega), if_neg (by omega), if_pos ht] at h
  obtain ⟨n, h1, h2, h3, h4, h5⟩ := ps_shape hb h
  refine ⟨n, h1, by omega, by omega, by unfold rdI; rw [List.length_map, List.length_range]; omega, fun z hz => ?_⟩
  unfold rdI at hz
  obtain ⟨k, hk, e⟩ := List.mem_map.mp hz
  have hk := List.mem_range.mp hk
  obtain ⟨a1, a2, a3⟩ := h5 k hk
  have b1 := isBL_get hb (46 + 3 * k)
  have b2 := isBL_get hb (46 + 3 * k + 1)
  have a3 := a3 (by decide)
  rw [← e]
  exact ⟨⟨b1.1, a1⟩, ⟨b2.1, a2⟩, a3⟩
theorem wl_10 (hb : isBL l) (h : wellL l = true) (ht : l.getD 0 0 = 10) : ∃ n : Nat, (l.getD 28 0 * 256 + l.getD 29 0).toNat = n ∧ n ≤ 290 ∧ l.length = 30 + n ∧ 1 ≤ l.getD 27 0 ∧ l.getD 27 0 ≤ 8 := by
  have h := wl_t h
  unfold wellT at h
  rw [if_neg (by omega), if_neg (by omega), if_neg (by omega), if_neg (by omega), if_neg (by omega), if_pos ht] at h
  exact bt_shape hb h
theorem wl_11 (hb : isBL l) (h : wellL l = true) (ht : l.getD 0 0 = 11) : ∃ n : Nat, (l.getD 48 0 * 256 + l.getD 49 0).toNat = n ∧ n ≤ 290 ∧ l.length = 50 + n ∧ 1 ≤ l.getD 47 0 ∧ l.getD 47 0 ≤ 8 := by
  have h := wl_t h
  unfold wellT at h
  rw [if_neg (by omega), if_neg (by omega), if_neg (by omega), if_neg (by omega), if_neg (by omega), if_neg (by omega), if_pos ht] at h
  exact bt_shape hb h
theorem wl_12 (hb : isBL l) (h : wellL l = true) (ht : l.getD 0 0 = 12) : l.getD 25 0 < 2 ∧ psW l.length (fun i => l.getD i 0) 26 0 30 3 = true := by
  have h := wl_t h
  unfold wellT at h
  rw [if_neg (by omega), if_neg (by omega), if_neg (by omega), if_neg (by omega), if_neg (by omega), if_neg (by omega), if_neg (by omega), if_pos ht, Bool.and_eq_true, decide_eq_true_eq] at h
  exact h
theorem wl_13 (hb : isBL l) (h : wellL l = true) (ht : l.getD 0 0 = 13) : ∃ n : Nat, l.getD 45 0 = (n : Int) ∧ (1 ≤ n ∧ n ≤ 30) ∧ l.length = 46 + 2 * n ∧ ∀ i, i < n → l.getD (46 + 2 * i) 0 < 32 ∧ l.getD (46 + 2 * i + 1) 0 < 16 := by
  have h := wl_t h
  unfold wellT at h
  rw [if_neg (by omega), if_neg (by omega), if_neg (by omega), if_neg (by omega), if_neg (by omega), if_neg (by omega), if_neg (by omega), if_neg (by omega), if_pos ht] at h
  obtain ⟨n, h1, h2, h3, h4, h5⟩ := ps_shape hb h
  exact ⟨n, h1, by omega, by omega, fun i hi => ⟨(h5 i hi).1, (h5 i hi).2.1⟩⟩
theorem wl_14 (hb : isBL l) (h : wellL l = true) (ht : l.getD 0 0 = 14) : psW l.length (fun i => l.getD i 0) 25 0 30 3 = true := by
  have h := wl_t h
  unfold wellT at h
  rw [if_neg (by omega), if_neg (by omega), if_neg (by omega), if_neg (by omega), if_neg (by omega), if_neg (by omega), if_neg (by omega), if_neg (by omega), if_neg (by omega), if_pos ht] at h
  exact h
end WL
