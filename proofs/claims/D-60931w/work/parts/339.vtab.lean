/-! tables: rows of contacts and reserves by when they were seen last -/
abbrev Row : Type := Ky × Int × Bool
abbrev RwV : Type := Ky × Int × Int × Int × Int
def pr (own : Ky) (c : Int) (r : Bool) (x : Row) : Bool := decide (kc x.1 own = c) && (x.2.2 == r)
def rmT (T : List Row) (key : Ky) : List Row := T.filter (fun x => decide (x.1 ≠ key))
def gR (V : VV) (r : Nat) : RwV := (gk V 190 (5 * r), vI V 191 r, vI V 192 r, vI V 193 r, vI V 194 r)
def enc (own : Ky) (y : Row × Int) : RwV := (y.1.1, y.1.2.1, kc y.1.1 own, b2i y.1.2.2, y.2)
def rowsV (V : VV) (p n : Nat) : List RwV := rws (fun i => gR V (1100 * p + i)) n
def okT (own : Ky) (T : List Row) : Prop := T.length ≤ 1100 ∧ (T.map (·.1)).Nodup ∧ ∀ x, x ∈ T → kyo x.1 ∧ w32 x.2.1 = x.2.1 ∧ x.1 ≠ own
def TabV (V : VV) (p : Nat) (own : Ky) (T : List Row) (Z : Nat) : Prop := vI V 189 p = (T.length : Int) ∧ okT own T ∧ ∃ TS : List (Row × Int), TS.map (·.1) = T ∧ TS.Pairwise (fun a b => a.2 < b.2) ∧ (∀ y, y ∈ TS → 0 ≤ y.2 ∧ y.2 < (Z : Int)) ∧ (rowsV V p T.length).Perm (TS.map (enc own))
section VTAB
variable {V W : VV} {p i : Nat} {own : Ky} {T : List Row} {Z Z' : Nat} {x x' : Row} {s : Int}
theorem okT_rm {key : Ky} (h : okT own T) : okT own (rmT T key) := by
  obtain ⟨h1, h2, h3⟩ := h
  refine ⟨Nat.le_trans (List.length_filter_le _ _) h1, ?_, fun x hx => h3 x (List.mem_filter.mp hx).1⟩
  exact h2.sublist ((List.filter_sublist).map _)
theorem okT_add (h : okT own T) (hl : T.length < 1100) (hx : kyo x.1 ∧ w32 x.2.1 = x.2.1 ∧ x.1 ≠ own) (hn : ∀ y, y ∈ T → y.1 ≠ x.1) : okT own (T ++ [x]) := by
  obtain ⟨h1, h2, h3⟩ := h
  refine ⟨by simp; omega, ?_, fun y hy => ?_⟩
  · rw [List.map_append, List.nodup_append]
    refine ⟨h2, by simp, fun a ha b hb => ?_⟩
    obtain ⟨y, hy, rfl⟩ := List.mem_map.mp ha
    simp at hb
    rw [hb]; exact hn y hy
  · rcases List.mem_append.mp hy with hy | hy
    · exact h3 y hy
    · simp at hy; rw [hy]; exact hx
theorem rmT_mem {key : Ky} {y : Row} : y ∈ rmT T key ↔ y ∈ T ∧ y.1 ≠ key := by simp [rmT]
theorem rmT_len (h : okT own T) (hx : x ∈ T) : (rmT T x.1).length + 1 = T.length := by
  obtain ⟨i, hi, e⟩ := List.mem_iff_getElem.mp hx
  have := er_filter (fun y : Row => y.1) T i hi h.2.1
  rw [e] at this
  show (T.filter _).length + 1 = _
  rw [← this, List.length_eraseIdx_of_lt hi]
  omega
theorem rmT_no {key : Ky} (h : ∀ y, y ∈ T → y.1 ≠ key) : rmT T key = T := List.filter_eq_self.mpr (fun y hy => by simpa using h y hy)
/-- a slot holds a row of the table -/
theorem tab_slot (h : TabV V p own T Z) (hi : i < T.length) : ∃ x s, x ∈ T ∧ gR V (1100 * p + i) = enc own (x, s) ∧ 0 ≤ s ∧ s < (Z : Int) := by
  obtain ⟨-, -, TS, rfl, h3, h4, h5⟩ := h
  have hm : gR V (1100 * p + i) ∈ rowsV V p (TS.map (·.1)).length := rws_mem.mpr ⟨i, hi, rfl⟩
  rw [h5.mem_iff] at hm
  obtain ⟨⟨x, s⟩, hy, e⟩ := List.mem_map.mp hm
  exact ⟨x, s, List.mem_map.mpr ⟨(x, s), hy, rfl⟩, e.symm, h4 _ hy⟩
theorem tab_row (h : TabV V p own T Z) (hx : x ∈ T) : ∃ i s, i < T.length ∧ gR V (1100 * p + i) = enc own (x, s) := by
  obtain ⟨-, -, TS, rfl, h3, h4, h5⟩ := h
  obtain ⟨⟨x', s⟩, hy, rfl⟩ := List.mem_map.mp hx
  have hm : enc own (x', s) ∈ TS.map (enc own) := List.mem_map.mpr ⟨_, hy, rfl⟩
  rw [← h5.mem_iff] at hm
  obtain ⟨i, hi, e⟩ := rws_mem.mp hm
  exact ⟨i, s, hi, e⟩
theorem tab_er (hT : okT own T) {TS : List (Row × Int)} (h2 : TS.map (·.1) = T) (h5 : (rowsV V p T.length).Perm (TS.map (enc own))) (hi : i < T.length) (hx : gR V (1100 * p + i) = enc own (x, s)) : ((rowsV V p T.length).eraseIdx i).Perm ((TS.filter (fun y => decide (y.1.1 ≠ x.1))).map (enc own)) := by
  have hk : ((TS.map (enc own)).map (·.1)).Nodup := by
    have e : (TS.map (enc own)).map (·.1) = T.map (·.1) := by rw [← h2]; simp [enc]
    rw [e]; exact hT.2.1
  have hk2 : ((rowsV V p T.length).map (·.1)).Nodup := (h5.map _).nodup_iff.mpr hk
  have hl : i < (rowsV V p T.length).length := by rw [rowsV, rws_len]; exact hi
  have e1 := er_filter (fun y : RwV => y.1) (rowsV V p T.length) i hl hk2
  rw [e1]
  have e2 : (rowsV V p T.length)[i] = enc own (x, s) := by
    show (rws _ _)[i]'(by rw [rws_len]; exact hi) = _
    rw [rws_get]; exact hx
  rw [e2]
  refine (h5.filter _).trans ?_
  rw [List.filter_map]
  exact List.Perm.refl _
/-- one becomes the last one, as it is or changed -/
theorem tab_upd (h : TabV V p own T Z) (hi : i < T.length) (hx : gR V (1100 * p + i) = enc own (x, s)) (hxT : x ∈ T) (hk : x'.1 = x.1) (hw : w32 x'.2.1 = x'.2.1) (h189 : vI W 189 p = vI V 189 p) (hg : ∀ j, j < T.length → gR W (1100 * p + j) = if j = i then enc own (x', (Z : Int)) else gR V (1100 * p + j)) : TabV W p own (rmT T x.1 ++ [x']) (Z + 1) := by
  obtain ⟨h1, hT, TS, h2, h3, h4, h5⟩ := id h
  have hlen := rmT_len hT hxT
  have hl2 : (rmT T x.1 ++ [x']).length = T.length := by simp; omega
  refine ⟨by rw [h189, h1, hl2], ?_, TS.filter (fun y => decide (y.1.1 ≠ x.1)) ++ [(x', (Z : Int))], ?_, ?_, ?_, ?_⟩
  · refine okT_add (okT_rm hT) (by have := hT.1; omega) ?_ (fun y hy => by rw [hk]; exact (rmT_mem.mp hy).2)
    rw [hk]
    exact ⟨(hT.2.2 x hxT).1, hw, (hT.2.2 x hxT).2.2⟩
  · rw [List.map_append, ← h2, rmT, List.filter_map]
    rfl
  · rw [List.pairwise_append]
    refine ⟨h3.filter _, by simp, fun a ha b hb => ?_⟩
    simp at hb
    rw [hb]
    exact (h4 a (List.mem_filter.mp ha).1).2
  · intro y hy
    rcases List.mem_append.mp hy with hy | hy
    · have := h4 y (List.mem_filter.mp hy).1; omega
    · simp at hy; rw [hy]; simp; omega
  · rw [hl2]
    have q := rws_set (f := fun j => gR V (1100 * p + j)) (g := fun j => gR W (1100 * p + j)) (b := enc own (x', (Z : Int))) hi hg
    refine q.trans ?_
    rw [List.map_append]
    refine (List.Perm.cons _ (tab_er hT h2 h5 hi hx)).trans ?_
    exact (List.perm_append_singleton _ _).symm
/-- one is taken out -/
theorem tab_del (h : TabV V p own T Z) (hi : i < T.length) (hx : gR V (1100 * p + i) = enc own (x, s)) (hxT : x ∈ T) (h189 : vI W 189 p = ((T.length - 1 : Nat) : Int)) (hg : ∀ j, j < T.length - 1 → gR W (1100 * p + j) = if j = i then gR V (1100 * p + (T.length - 1)) else gR V (1100 * p + j)) : TabV W p own (rmT T x.1) Z := by
  obtain ⟨h1, hT, TS, h2, h3, h4, h5⟩ := id h
  have hlen := rmT_len hT hxT
  refine ⟨by rw [h189]; congr 1; omega, okT_rm hT, TS.filter (fun y => decide (y.1.1 ≠ x.1)), ?_, h3.filter _, fun y hy => h4 y (List.mem_filter.mp hy).1, ?_⟩
  · rw [← h2, rmT, List.filter_map]
    rfl
  · have e : T.length = (T.length - 1) + 1 := by omega
    have q := rws_del (f := fun j => gR V (1100 * p + j)) (g := fun j => gR W (1100 * p + j)) (n := T.length - 1) (i := i) (by omega) hg
    rw [← e] at q
    have e2 : (rmT T x.1).length = T.length - 1 := by omega
    rw [e2]
    exact q.trans (tab_er hT h2 h5 hi hx)
/-- one more -/
theorem tab_add (h : TabV V p own T Z) (hl : T.length < 1100) (hx : kyo x.1 ∧ w32 x.2.1 = x.2.1 ∧ x.1 ≠ own) (hn : ∀ y, y ∈ T → y.1 ≠ x.1) (h189 : vI W 189 p = ((T.length + 1 : Nat) : Int)) (hg : ∀ j, j < T.length → gR W (1100 * p + j) = gR V (1100 * p + j)) (hgn : gR W (1100 * p + T.length) = enc own (x, (Z : Int))) : TabV W p own (T ++ [x]) (Z + 1) := by
  obtain ⟨h1, hT, TS, h2, h3, h4, h5⟩ := id h
  have hl2 : (T ++ [x]).length = T.length + 1 := by simp
  refine ⟨by rw [h189, hl2], okT_add hT hl hx hn, TS ++ [(x, (Z : Int))], by rw [List.map_append, h2]; rfl, ?_, ?_, ?_⟩
  · rw [List.pairwise_append]
    refine ⟨h3, by simp, fun a ha b hb => ?_⟩
    simp at hb
    rw [hb]
    exact (h4 a ha).2
  · intro y hy
    rcases List.mem_append.mp hy with hy | hy
    · have := h4 y hy; omega
    · simp at hy; rw [hy]; simp; omega
  · rw [hl2]
    show (rws _ _).Perm _
    rw [rws_succ, List.map_append, rws_congr (g := fun j => gR V (1100 * p + j)) hg, hgn]
    exact h5.append_right _
/-- nothing of it changes -/
theorem tab_ag (h : TabV V p own T Z) (hz : Z ≤ Z') (h189 : vI W 189 p = vI V 189 p) (hg : ∀ j, j < 1100 → gR W (1100 * p + j) = gR V (1100 * p + j)) : TabV W p own T Z' := by
  obtain ⟨h1, hT, TS, h2, h3, h4, h5⟩ := id h
  refine ⟨by rw [h189, h1], hT, TS, h2, h3, fun y hy => ?_, ?_⟩
  · have := h4 y hy; omega
  · rw [rowsV, rws_congr (g := fun j => gR V (1100 * p + j)) (fun j hj => hg j (by have := hT.1; omega))]
    exact h5
end VTAB
/-- all tables; Z stamps have been given -/
def TabsV (V : VV) (own : Nat → Ky) (Ts : Nat → List Row) (Z : Nat) : Prop := vI V 156 42 = (Z : Int) ∧ ∀ p, p < 32 → TabV V p (own p) (Ts p) Z
