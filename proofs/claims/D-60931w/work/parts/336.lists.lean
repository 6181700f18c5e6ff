/-! lists: what is put in by a measure, what is taken out, in any order -/
def insM {α : Type} (m : α → Nat) (x : α) : List α → List α
  | [] => [x]
  | y :: l => if m x < m y then x :: y :: l else y :: insM m x l
theorem insM_take {α : Type} (m : α → Nat) (x : α) : ∀ (l : List α) (k : Nat), (insM m x (l.take k)).take k = (insM m x l).take k
  | [], k => by simp
  | y :: l, 0 => by simp
  | y :: l, k + 1 => by
    have := insM_take m x l k
    grind [insM]
theorem insM_perm {α : Type} (m : α → Nat) (x : α) : ∀ (l : List α), (insM m x l).Perm (x :: l)
  | [] => List.Perm.refl _
  | y :: l => by
    unfold insM
    split
    · exact List.Perm.refl _
    · exact ((insM_perm m x l).cons y).trans (List.Perm.swap _ _ _)
theorem insM_mem {α : Type} {m : α → Nat} {x y : α} {l : List α} : y ∈ insM m x l ↔ y = x ∨ y ∈ l := by
  rw [(insM_perm m x l).mem_iff, List.mem_cons]
theorem insM_len {α : Type} {m : α → Nat} {x : α} {l : List α} : (insM m x l).length = l.length + 1 := by
  rw [(insM_perm m x l).length_eq, List.length_cons]
def SrtM {α : Type} (m : α → Nat) (l : List α) : Prop := l.Pairwise (fun a b => m a < m b)
theorem insM_srt {α : Type} (m : α → Nat) (x : α) : ∀ (l : List α), SrtM m l → (∀ y, y ∈ l → m y ≠ m x) → SrtM m (insM m x l)
  | [], _, _ => by simp [insM, SrtM]
  | y :: l, h, hn => by
    have ih := insM_srt m x l (List.pairwise_cons.mp h).2 (fun z hz => hn z (List.mem_cons_of_mem _ hz))
    have hy := (List.pairwise_cons.mp h).1
    have hxy := hn y List.mem_cons_self
    unfold insM
    split
    · refine List.pairwise_cons.mpr ⟨fun z hz => ?_, h⟩
      rcases List.mem_cons.mp hz with rfl | hz
      · omega
      · have := hy z hz; omega
    · refine List.pairwise_cons.mpr ⟨fun z hz => ?_, ih⟩
      rcases insM_mem.mp hz with rfl | hz
      · omega
      · exact hy z hz
def srt {α : Type} (m : α → Nat) (l : List α) : List α := l.foldl (fun acc x => insM m x acc) []
theorem foldl_insM_perm {α : Type} (m : α → Nat) : ∀ (l acc : List α), (l.foldl (fun acc x => insM m x acc) acc).Perm (acc ++ l)
  | [], acc => by simp
  | x :: l, acc => by
    simp only [List.foldl_cons]
    refine (foldl_insM_perm m l (insM m x acc)).trans ?_
    exact ((insM_perm m x acc).append_right l).trans (List.perm_middle.symm)
theorem srt_perm {α : Type} (m : α → Nat) (l : List α) : (srt m l).Perm l := by
  have := foldl_insM_perm m l []
  simpa [srt] using this
theorem foldl_insM_srt {α : Type} (m : α → Nat) : ∀ (l acc : List α), SrtM m acc → ((acc ++ l).map m).Nodup → SrtM m (l.foldl (fun acc x => insM m x acc) acc)
  | [], acc, h, _ => h
  | x :: l, acc, h, hn => by
    simp only [List.foldl_cons]
    refine foldl_insM_srt m l (insM m x acc) (insM_srt m x acc h (fun y hy q => ?_)) ?_
    · rw [List.map_append, List.nodup_append] at hn
      exact hn.2.2 (m y) (List.mem_map.mpr ⟨y, hy, rfl⟩) (m x) (List.mem_map.mpr ⟨x, List.mem_cons_self, rfl⟩) q
    · have p : ((insM m x acc) ++ l).Perm (acc ++ x :: l) := ((insM_perm m x acc).append_right l).trans (List.perm_middle.symm)
      exact (p.map m).nodup_iff.mpr hn
theorem srt_srt {α : Type} {m : α → Nat} {l : List α} (h : (l.map m).Nodup) : SrtM m (srt m l) := foldl_insM_srt m l [] List.Pairwise.nil (by simpa using h)
theorem SrtM_eq {α : Type} {m : α → Nat} {l l' : List α} (h : SrtM m l) (h' : SrtM m l') (hp : l.Perm l') : l = l' :=
  List.Perm.eq_of_pairwise (le := fun a b => m a < m b) (fun a b _ _ q1 q2 => by omega) h h' hp
theorem srt_eq {α : Type} {m : α → Nat} {l l' : List α} (hn : (l.map m).Nodup) (hp : l.Perm l') : srt m l = srt m l' :=
  SrtM_eq (srt_srt hn) (srt_srt ((hp.map m).nodup_iff.mp hn)) (((srt_perm m l).trans hp).trans (srt_perm m l').symm)
theorem srt_of {α : Type} {m : α → Nat} {l l' : List α} (hs : SrtM m l) (hp : l.Perm l') : srt m l' = l := by
  have hn : (l.map m).Nodup := by
    rw [List.Nodup, List.pairwise_map]
    exact hs.imp (fun q => Nat.ne_of_lt q)
  exact (SrtM_eq hs (srt_srt ((hp.map m).nodup_iff.mp hn)) (hp.trans (srt_perm m l').symm)).symm
theorem foldl_take {α : Type} (m : α → Nat) (k : Nat) : ∀ (l acc : List α), l.foldl (fun acc x => (insM m x acc).take k) (acc.take k) = (l.foldl (fun acc x => insM m x acc) acc).take k
  | [], acc => rfl
  | x :: l, acc => by
    simp only [List.foldl_cons]
    rw [insM_take, foldl_take m k l (insM m x acc)]
theorem srt_take {α : Type} (m : α → Nat) (k : Nat) (l : List α) : l.foldl (fun acc x => (insM m x acc).take k) [] = (srt m l).take k := by
  have := foldl_take m k l []
  simpa [srt] using this
theorem insM_map {α β : Type} (g : α → β) (m : β → Nat) (x : α) : ∀ l : List α, (insM (fun y => m (g y)) x l).map g = insM m (g x) (l.map g)
  | [] => rfl
  | y :: l => by
    have := insM_map g m x l
    grind [insM]
theorem foldl_insM_map {α β : Type} (g : α → β) (m : β → Nat) : ∀ (l acc : List α), (l.foldl (fun acc x => insM (fun y => m (g y)) x acc) acc).map g = (l.map g).foldl (fun acc x => insM m x acc) (acc.map g)
  | [], acc => rfl
  | x :: l, acc => by
    simp only [List.foldl_cons, List.map_cons]
    rw [foldl_insM_map g m l _, insM_map]
theorem srt_map {α β : Type} (g : α → β) (m : β → Nat) (l : List α) : (srt (fun y => m (g y)) l).map g = srt m (l.map g) := foldl_insM_map g m l []
theorem insM_congr {α : Type} {m m' : α → Nat} {x : α} : ∀ {l : List α}, m x = m' x → (∀ y, y ∈ l → m y = m' y) → insM m x l = insM m' x l
  | [], _, _ => rfl
  | y :: l, h, hl => by
    have := insM_congr (l := l) h (fun z hz => hl z (List.mem_cons_of_mem _ hz))
    have := hl y List.mem_cons_self
    grind [insM]
/-- the place from behind: ahead of all that it goes ahead of -/
def bk {α : Type} (lt : α → Bool) (d : α) (L : List α) : Nat → Nat
  | 0 => 0
  | p + 1 => if lt (L.getD p d) = true then bk lt d L p else p + 1
theorem bk_le {α : Type} (lt : α → Bool) (d : α) (L : List α) : ∀ p, bk lt d L p ≤ p
  | 0 => Nat.le_refl 0
  | p + 1 => by
    have := bk_le lt d L p
    unfold bk
    split <;> omega
theorem insM_at {α : Type} {m : α → Nat} {x d : α} : ∀ {L : List α} {q : Nat}, q ≤ L.length → (∀ j, j < q → m (L.getD j d) ≤ m x) → (∀ j, q ≤ j → j < L.length → m x < m (L.getD j d)) → L.take q ++ x :: L.drop q = insM m x L
  | [], q, _, _, _ => by simp [insM]
  | y :: l, 0, _, _, h => by
    have := h 0 (by omega) (by simp)
    have e : (y :: l).getD 0 d = y := rfl
    rw [e] at this
    show x :: y :: l = insM m x (y :: l)
    unfold insM
    rw [if_pos this]
  | y :: l, q + 1, hq, h1, h2 => by
    have := insM_at (m := m) (x := x) (d := d) (L := l) (q := q) (by simpa using hq) (fun j hj => by simpa using h1 (j + 1) (by omega)) (fun j a b => by simpa using h2 (j + 1) (by omega) (by simpa using b))
    have h0 := h1 0 (by omega)
    have e : (y :: l).getD 0 d = y := rfl
    rw [e] at h0
    show y :: (l.take q ++ x :: l.drop q) = insM m x (y :: l)
    unfold insM
    rw [if_neg (by omega), this]
theorem bk_ins {α : Type} {m : α → Nat} {x d : α} {L : List α} (hs : SrtM m L) : L.take (bk (fun y => decide (m x < m y)) d L L.length) ++ x :: L.drop (bk (fun y => decide (m x < m y)) d L L.length) = insM m x L := by
  have key : ∀ p, p ≤ L.length → (∀ j, p ≤ j → j < L.length → m x < m (L.getD j d)) → L.take (bk (fun y => decide (m x < m y)) d L p) ++ x :: L.drop (bk (fun y => decide (m x < m y)) d L p) = insM m x L := by
    intro p
    induction p with
    | zero => exact fun _ h => insM_at (d := d) (Nat.zero_le _) (fun j hj => absurd hj (Nat.not_lt_zero _)) h
    | succ p ih =>
      intro hp h
      unfold bk
      by_cases c : m x < m (L.getD p d)
      · rw [if_pos (by simpa using c)]
        refine ih (by omega) (fun j h1 h2 => ?_)
        by_cases q : j = p
        · rw [q]; exact c
        · exact h j (by omega) h2
      · rw [if_neg (by simpa using c)]
        refine insM_at (d := d) hp (fun j hj => ?_) h
        by_cases q : j = p
        · rw [q]; omega
        · have hlt := List.pairwise_iff_getElem.mp hs j p (by omega) (by omega) (by omega)
          have e1 : L.getD j d = L[j]'(by omega) := by grind
          have e2 : L.getD p d = L[p]'(by omega) := by grind
          rw [e1]; rw [e2] at c; omega
  exact key L.length (Nat.le_refl _) (fun j h1 h2 => by omega)
theorem er_filter {α β : Type} [DecidableEq β] (g : α → β) : ∀ (l : List α) (i : Nat) (h : i < l.length), (l.map g).Nodup → l.eraseIdx i = l.filter (fun x => decide (g x ≠ g (l[i]'h)))
  | [], i, h, _ => by simp at h
  | y :: l, 0, h, hn => by
    have hy : ∀ x, x ∈ l → g x ≠ g y := by grind
    show l = _
    rw [List.filter_cons_of_neg (by simp)]
    exact (List.filter_eq_self.mpr (fun x hx => by simpa using hy x hx)).symm
  | y :: l, i + 1, h, hn => by
    have := er_filter g l i (by grind) (by grind)
    grind
theorem set_perm {α : Type} : ∀ (l : List α) (i : Nat) (b : α), i < l.length → (l.set i b).Perm (b :: l.eraseIdx i)
  | [], i, b, h => by simp at h
  | y :: l, 0, b, h => by simp
  | y :: l, i + 1, b, h => by
    have := set_perm l i b (by grind)
    simp
    exact (this.cons y).trans (List.Perm.swap _ _ _)
theorem get_perm {α : Type} (l : List α) (i : Nat) (h : i < l.length) : l.Perm (l[i] :: l.eraseIdx i) := by
  have := set_perm l i l[i] h
  simpa using this
/-- rows 0 .. n - 1 as a list -/
def rws {α : Type} (f : Nat → α) (n : Nat) : List α := (List.range n).map f
theorem rws_len {α : Type} {f : Nat → α} {n : Nat} : (rws f n).length = n := by simp [rws]
theorem rws_get {α : Type} {f : Nat → α} {n i : Nat} (h : i < (rws f n).length) : (rws f n)[i] = f i := by simp [rws]
theorem rws_mem {α : Type} {f : Nat → α} {n : Nat} {x : α} : x ∈ rws f n ↔ ∃ i, i < n ∧ f i = x := by simp [rws]
theorem rws_succ {α : Type} {f : Nat → α} {n : Nat} : rws f (n + 1) = rws f n ++ [f n] := by simp [rws, List.range_succ]
theorem rws_congr {α : Type} {f g : Nat → α} {n : Nat} (h : ∀ i, i < n → f i = g i) : rws f n = rws g n := by
  apply List.ext_getElem
  · simp [rws]
  · intro i h1 h2
    rw [rws_get, rws_get]; exact h i (by simpa [rws] using h1)
theorem rws_set {α : Type} {f g : Nat → α} {n i : Nat} {b : α} (hi : i < n) (h : ∀ j, j < n → g j = if j = i then b else f j) : (rws g n).Perm (b :: (rws f n).eraseIdx i) := by
  have e : rws g n = (rws f n).set i b := by
    apply List.ext_getElem
    · simp [rws]
    · intro j h1 h2
      rw [rws_get, List.getElem_set, rws_get, h j (by simpa [rws] using h1)]
      grind
  rw [e]
  exact set_perm _ i b (by rw [rws_len]; exact hi)
/-- one is taken out, the last one comes to its place -/
theorem rws_del {α : Type} {f g : Nat → α} {n i : Nat} (hi : i < n + 1) (h : ∀ j, j < n → g j = if j = i then f n else f j) : (rws g n).Perm ((rws f (n + 1)).eraseIdx i) := by
  by_cases c : i = n
  · subst c
    rw [rws_succ, List.eraseIdx_append_of_length_le (by rw [rws_len]; omega), rws_len]
    rw [rws_congr (g := f) (fun j hj => by rw [h j hj, if_neg (by omega)])]
    simp
  · rw [rws_succ, List.eraseIdx_append_of_lt_length (by rw [rws_len]; omega)]
    refine (rws_set (i := i) (b := f n) (by omega) h).trans ?_
    exact (List.perm_append_singleton _ _).symm
