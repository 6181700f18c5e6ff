/-! what is to be stored -/
abbrev It : Type := Int × Int × Int
def it0 : It := (0, 0, 0)
def okI (its : List It) : Prop := its.length ≤ 16 ∧ ∀ z, z ∈ its → (0 ≤ z.1 ∧ z.1 < 32) ∧ (0 ≤ z.2.1 ∧ z.2.1 < 16) ∧ (1 ≤ z.2.2 ∧ z.2.2 ≤ 15)
def hasP (S : List Post) (i : Ky × Int × Int) : Bool := S.any (fun y => decide (pid y = i))
def hasI (l : List It) (o d : Int) : Bool := l.any (fun z => decide (z.1 = o) && decide (z.2.1 = d))
/-- whether the k-th one is new -/
def frs (key : Ky) (S : List Post) (its : List It) (k : Nat) : Bool := !hasP S (key, (its.getD k it0).1, (its.getD k it0).2.1) && !hasI (its.take k) (its.getD k it0).1 (its.getD k it0).2.1
def frN (key : Ky) (S : List Post) (its : List It) (k : Nat) : Nat := ((List.range k).filter (frs key S its)).length
def keepF (key : Ky) (its : List It) (en : Int) (S : List Post) : List Post := its.foldl (fun S z => putP S (key, z.1, z.2.1, z.2.2, en)) S
def keepS (key : Ky) (its : List It) (en : Int) (S : List Post) : Option (List Post) := if S.length + frN key S its its.length ≤ 200 then some (keepF key its en S) else none
theorem take_s {α : Type} {l : List α} {k : Nat} {d : α} (h : k < l.length) : l.take (k + 1) = l.take k ++ [l.getD k d] := by
  have e : l.getD k d = l[k] := by grind
  rw [e, List.take_succ_eq_append_getElem h]
theorem hasP_iff {S : List Post} {i : Ky × Int × Int} : hasP S i = true ↔ ∃ y, y ∈ S ∧ pid y = i := by simp [hasP]
theorem hasP_no {S : List Post} {i : Ky × Int × Int} : hasP S i = false ↔ ∀ y, y ∈ S → pid y ≠ i := by
  rw [← Bool.not_eq_true, hasP_iff]
  constructor
  · intro h y hy q; exact h ⟨y, hy, q⟩
  · rintro h ⟨y, hy, q⟩; exact h y hy q
theorem hasI_iff {l : List It} {o d : Int} : hasI l o d = true ↔ ∃ z, z ∈ l ∧ z.1 = o ∧ z.2.1 = d := by simp [hasI]
theorem frN_succ {key : Ky} {S : List Post} {its : List It} {k : Nat} : frN key S its (k + 1) = frN key S its k + if frs key S its k = true then 1 else 0 := by
  unfold frN
  rw [List.range_succ, List.filter_append, List.length_append]
  congr 1
  cases h : frs key S its k <;> simp [h]
theorem frN_mono {key : Ky} {S : List Post} {its : List It} {k m : Nat} (h : k ≤ m) : frN key S its k ≤ frN key S its m := by
  induction m with
  | zero => rw [show k = 0 by omega]; exact Nat.le_refl _
  | succ m ih =>
    by_cases c : k = m + 1
    · rw [c]; exact Nat.le_refl _
    · have := ih (by omega)
      rw [frN_succ]; omega
theorem keepF_succ {key : Ky} {its : List It} {en : Int} {S : List Post} {k : Nat} (hk : k < its.length) : keepF key (its.take (k + 1)) en S = putP (keepF key (its.take k) en S) (key, (its.getD k it0).1, (its.getD k it0).2.1, (its.getD k it0).2.2, en) := by
  have e : its.take (k + 1) = its.take k ++ [its.getD k it0] := take_s (by omega)
  rw [e]
  unfold keepF
  rw [List.foldl_append]
  rfl
theorem keepF_has {key : Ky} {its : List It} {en : Int} {S : List Post} {i : Ky × Int × Int} : ∀ k, k ≤ its.length → (hasP (keepF key (its.take k) en S) i = true ↔ hasP S i = true ∨ (i.1 = key ∧ hasI (its.take k) i.2.1 i.2.2 = true))
  | 0, _ => by simp [keepF, hasI]
  | k + 1, hk => by
    have ih := keepF_has (key := key) (its := its) (en := en) (S := S) (i := i) k (by omega)
    have e : its.take (k + 1) = its.take k ++ [its.getD k it0] := take_s (by omega)
    rw [keepF_succ (by omega), hasP_iff]
    have h2 : hasI (its.take (k + 1)) i.2.1 i.2.2 = true ↔ hasI (its.take k) i.2.1 i.2.2 = true ∨ ((its.getD k it0).1 = i.2.1 ∧ (its.getD k it0).2.1 = i.2.2) := by
      rw [e, hasI, List.any_append]
      simp [hasI]
    rw [h2]
    constructor
    · rintro ⟨y, hy, q⟩
      rcases putP_mem.mp hy with rfl | ⟨hy, -⟩
      · refine Or.inr ⟨?_, Or.inr ?_⟩
        · rw [← q]; rfl
        · rw [← q]; exact ⟨rfl, rfl⟩
      · rcases ih.mp (hasP_iff.mpr ⟨y, hy, q⟩) with z | z
        · exact Or.inl z
        · exact Or.inr ⟨z.1, Or.inl z.2⟩
    · intro h
      by_cases c : i = (key, (its.getD k it0).1, (its.getD k it0).2.1)
      · exact ⟨_, putP_mem.mpr (Or.inl rfl), c.symm⟩
      · have : hasP (keepF key (its.take k) en S) i = true := by
          rw [ih]
          rcases h with z | ⟨z1, z | z⟩
          · exact Or.inl z
          · exact Or.inr ⟨z1, z⟩
          · exact absurd (by rw [← z1, z.1, z.2]) c
        obtain ⟨y, hy, q⟩ := hasP_iff.mp this
        exact ⟨y, putP_mem.mpr (Or.inr ⟨hy, fun w => c (by rw [← q, w]; rfl)⟩), q⟩
/-- one is new just where the store has it not yet -/
theorem frs_iff {key : Ky} {its : List It} {en : Int} {S : List Post} {k : Nat} (hk : k < its.length) : frs key S its k = true ↔ hasP (keepF key (its.take k) en S) (key, (its.getD k it0).1, (its.getD k it0).2.1) = false := by
  have h := keepF_has (key := key) (its := its) (en := en) (S := S) (i := (key, (its.getD k it0).1, (its.getD k it0).2.1)) k (by omega)
  unfold frs
  rw [← Bool.not_eq_true, h]
  simp
def ItV (V : VV) (its : List It) : Prop := vI V 156 74 = (its.length : Int) ∧ ∀ i, i < its.length → vI V 217 i = (its.getD i it0).1 ∧ vI V 218 i = (its.getD i it0).2.1 ∧ vI V 219 i = (its.getD i it0).2.2
section VKEEP
variable {V W : VV} {p i k : Nat} {S S' : List Post} {Ss : Nat → List Post} {its : List It} {e n q : Nat}
theorem v_keep1 (h : StV V p S) (hp : p < 32) (he : mA e n) (hq : q + 5 ≤ n) (hn : n ≤ 1000000) (hI : ItV V its) (hoI : okI its) : f_X16_keep (p : Int) (e : Int) (q : Int) V = j_X16_keep_129 (p : Int) (e : Int) (q : Int) ((frN (gk V e q) S its its.length : Nat) : Int) V := by
  obtain ⟨key, hkey⟩ : ∃ key, key = gk V e q := ⟨_, rfl⟩
  rw [← hkey]
  obtain ⟨i1, i2⟩ := hI
  obtain ⟨o1, o2⟩ := hoI
  have hfl : ∀ k, frN key S its k ≤ k := fun k => by
    unfold frN
    have := List.length_filter_le (frs key S its) (List.range k)
    rw [List.length_range] at this
    exact this
  have lp := lp_seq (b := fun s : Int × Int => b_X16_keep_6 (p : Int) (e : Int) (q : Int) s.1 s.2 V) (x := j_X16_keep_129 (p : Int) (e : Int) (q : Int) ((frN key S its its.length : Nat) : Int) V) (fun k => (((frN key S its k : Nat) : Int), ((k : Nat) : Int))) its.length
    (fun k hk => by
      show b_X16_keep_6 (p : Int) (e : Int) (q : Int) ((frN key S its k : Nat) : Int) ((k : Nat) : Int) V = some (.inl (((frN key S its (k + 1) : Nat) : Int), ((k + 1 : Nat) : Int)))
      obtain ⟨j1, j2, j3⟩ := i2 k hk
      have hz := o2 _ (getD_mem (d := it0) hk)
      have hwo : w32 (its.getD k it0).1 = (its.getD k it0).1 := w32_id (by omega) (by omega)
      have hwd : w32 (its.getD k it0).2.1 = (its.getD k it0).2.1 := w32_id (by omega) (by omega)
      have hin : ∀ fl : Bool, j_X16_keep_44 (p : Int) (e : Int) (q : Int) ((frN key S its k : Nat) : Int) ((k : Nat) : Int) (b2i fl) V = some (.inl (((frN key S its k + (if (fl || hasI (its.take k) (its.getD k it0).1 (its.getD k it0).2.1) = true then 0 else 1) : Nat) : Int), ((k + 1 : Nat) : Int))) := by
        intro fl
        have lp2 := lp_seq (b := fun s : Int × Int => b_X16_keep_49 (p : Int) (e : Int) (q : Int) ((frN key S its k : Nat) : Int) ((k : Nat) : Int) s.1 s.2 V) (x := j_X16_keep_108 (p : Int) (e : Int) (q : Int) ((frN key S its k : Nat) : Int) ((k : Nat) : Int) (b2i (fl || hasI (its.take k) (its.getD k it0).1 (its.getD k it0).2.1)) V) (fun j => (b2i (fl || hasI (its.take j) (its.getD k it0).1 (its.getD k it0).2.1), ((j : Nat) : Int))) k
          (fun j hj => by
            show b_X16_keep_49 (p : Int) (e : Int) (q : Int) ((frN key S its k : Nat) : Int) ((k : Nat) : Int) (b2i (fl || hasI (its.take j) (its.getD k it0).1 (its.getD k it0).2.1)) ((j : Nat) : Int) V = some (.inl (b2i (fl || hasI (its.take (j + 1)) (its.getD k it0).1 (its.getD k it0).2.1), ((j + 1 : Nat) : Int)))
            obtain ⟨u1, u2, u3⟩ := i2 j (by omega)
            have e1 : its.take (j + 1) = its.take j ++ [its.getD j it0] := take_s (by omega)
            have e2 : hasI (its.take (j + 1)) (its.getD k it0).1 (its.getD k it0).2.1 = (hasI (its.take j) (its.getD k it0).1 (its.getD k it0).2.1 || (decide ((its.getD j it0).1 = (its.getD k it0).1) && decide ((its.getD j it0).2.1 = (its.getD k it0).2.1))) := by
              rw [e1]; simp [hasI]
            rw [e2, ← Bool.or_assoc]
            generalize (fl || hasI (its.take j) (its.getD k it0).1 (its.getD k it0).2.1) = F
            unfold b_X16_keep_49 j_X16_keep_95 j_X16_keep_99 j_X16_keep_100
            simp (disch := omega) only [w32_nn, clt, if_pos hj, w32_b2i, l2_n, Option.bind_some, w32_vI, u1, u2, j1, j2, cadd1, cnt]
            have w1 : w32 (its.getD j it0).1 = (its.getD j it0).1 := by rw [← u1, w32_vI]
            have w2 : w32 (its.getD j it0).2.1 = (its.getD j it0).2.1 := by rw [← u2, w32_vI]
            rw [hwo, hwd, w1, w2]
            cases F with
            | true => rw [if_neg (by decide)]; rfl
            | false =>
              rw [if_pos (by decide)]
              by_cases c1 : (its.getD j it0).1 = (its.getD k it0).1
              · by_cases c2 : (its.getD j it0).2.1 = (its.getD k it0).2.1
                · rw [if_pos c1, if_pos c2, decide_eq_true c1, decide_eq_true c2]; rfl
                · rw [if_pos c1, if_neg c2, decide_eq_true c1, decide_eq_false c2]; rfl
              · rw [if_neg c1, decide_eq_false c1]; rfl)
          (by
            show b_X16_keep_49 (p : Int) (e : Int) (q : Int) ((frN key S its k : Nat) : Int) ((k : Nat) : Int) (b2i (fl || hasI (its.take k) (its.getD k it0).1 (its.getD k it0).2.1)) ((k : Nat) : Int) V = _
            unfold b_X16_keep_49
            simp (disch := omega) only [w32_nn, clt, Nat.lt_irrefl, if_false]) FU 0 (by omega) (by unfold FU; omega)
        unfold j_X16_keep_44 l_X16_keep_49
        have e0 : (b2i (fl || hasI (its.take 0) (its.getD k it0).1 (its.getD k it0).2.1), ((0 : Nat) : Int)) = (b2i fl, (0 : Int)) := by simp [hasI]
        rw [e0] at lp2
        refine lp2.trans ?_
        unfold j_X16_keep_108 j_X16_keep_120
        rw [w32_b2i]
        cases hc : (fl || hasI (its.take k) (its.getD k it0).1 (its.getD k it0).2.1) with
        | true => rw [if_neg (by decide), if_pos rfl]; rfl
        | false => rw [if_pos (by decide), if_neg (by decide)]; rfl
      unfold b_X16_keep_6
      simp (disch := omega) only [w32_nn, clt, l2_n, Option.bind_some, j1, j2]
      rw [show w32 (V 156 74) = (its.length : Int) from i1, w32_nn (by omega), if_pos (by omega), frN_succ]
      have hb0 : ((0 : Int)) = b2i false := rfl
      have hb1 : ((1 : Int)) = b2i true := rfl
      rcases v_postingWith h hp he hq hn hwo hwd with ⟨i, hi, f1, f2⟩ | ⟨f1, f2⟩
      · have hl := h.2.1.1
        rw [f1, Option.bind_some, w32_nn (by omega), if_neg (by omega), hb1, hin true]
        have : frs key S its k = false := by
          unfold frs
          have : hasP S (key, (its.getD k it0).1, (its.getD k it0).2.1) = true := hasP_iff.mpr ⟨_, st_slot h hi, by rw [f2, hkey]⟩
          rw [this]; rfl
        rw [this]
        simp
      · rw [f1, Option.bind_some, w32_m1, if_pos (by decide)]
        have h2 := hin false
        rw [show b2i false = 0 from rfl] at h2
        rw [h2]
        have : frs key S its k = !hasI (its.take k) (its.getD k it0).1 (its.getD k it0).2.1 := by
          unfold frs
          rw [hasP_no.mpr (by rw [hkey]; exact f2)]; rfl
        rw [this]
        cases hasI (its.take k) (its.getD k it0).1 (its.getD k it0).2.1 <;> rfl)
    (by
      show b_X16_keep_6 (p : Int) (e : Int) (q : Int) ((frN key S its its.length : Nat) : Int) ((its.length : Nat) : Int) V = _
      unfold b_X16_keep_6
      rw [show w32 (V 156 74) = (its.length : Int) from i1, if_neg (by omega)]) FU 0 (by omega) (by unfold FU; omega)
  unfold f_X16_keep l_X16_keep_6
  exact lp
end VKEEP
