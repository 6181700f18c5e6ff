/-! libraries and publishings of the class -/
def TrC (M : MM) (x : Nat) (tr : Trm) : Prop := (kd M x).1 = 29 ∧ rR M x 0 = ((x + 1 : Nat) : Int) ∧ kd M (x + 1) = (497, 12) ∧ rI M x 1 = (tr.1.length : Int) ∧ (∀ i, i < tr.1.length → rB M (x + 1) i = tr.1.getD i 0) ∧ rR M x 2 = ((x + 2 : Nat) : Int) ∧ kd M (x + 2) = (3, 26) ∧ isK M (x + 2) ∧ ky (kC M (x + 2)) = tr.2.1 ∧ rR M x 3 = ((x + 4 : Nat) : Int) ∧ kd M (x + 4) = (512, 16) ∧ ∀ d, d < 16 → rI M (x + 4) d = tr.2.2 d
/-- where the terms of a library are, in their order -/
def LibC (M : MM) (u : Nat) (L : List Trm) (A : List Nat) (dn : Int) : Prop := (kd M u).1 = 19 ∧ rR M u 0 = ((u + 1 : Nat) : Int) ∧ kd M (u + 1) = (554, 64) ∧ rI M u 1 = (L.length : Int) ∧ rI M u 2 = dn ∧ A.length = L.length ∧ L.length ≤ 64 ∧ ∀ j, j < L.length → rR M (u + 1) j = ((A.getD j 0 : Nat) : Int) ∧ TrC M (A.getD j 0) (L.getD j trm0)
def LibsC (M : MM) (N : Nat) (pa : Nat → Nat) (Lb : Nat → List Trm) (LA : Nat → List Nat) (dn : Nat → Int) : Prop := ∀ p, p < N → LibC M (pa p + 7) (Lb p) (LA p) (dn p)
/-- where the terms are that are published -/
def pbL (lim : Nat) (L : List Trm) (A : List Nat) : List (Nat × Trm) := (A.zip L).filter (fun z => isInT lim z.2)
def PbS (M : MM) (P : Nat) : Prop := kd M P = (30, 47) ∧ rR M P 0 = ((P + 1 : Nat) : Int) ∧ kd M (P + 1) = (618, 64)
/-- a publishing: its terms -/
def PbT (M : MM) (P : Nat) (L : List (Nat × Trm)) : Prop := rI M P 1 = (L.length : Int) ∧ L.length ≤ 64 ∧ ∀ i, i < L.length → rR M (P + 1) i = (((L.getD i (0, trm0)).1 : Nat) : Int)
def PbF (M : MM) (P : Nat) (Lb : Nat → List Trm) (LA : Nat → List Nat) (sto : Nat → Int) (sc : VV) (t : Nat) : Prop :=
  PbT M P (pbL (vI sc 243 t).toNat (Lb (vI sc 228 t).toNat) (LA (vI sc 228 t).toNat)) ∧ rI M P 2 = vI sc 244 t ∧ rI M P 3 = vI sc 243 t ∧ rI M P 4 = (if vI sc 230 t = 2 then vI sc 245 t else 0) ∧ rI M P 5 = sto t ∧ rI M P 6 = vI sc 246 t
def PubsC (M : MM) (T : Nat) (pb : Nat → Option Nat) (Lb : Nat → List Trm) (LA : Nat → List Nat) (sto : Nat → Int) (sc : VV) : Prop :=
  (∀ t, t < T → ∀ P, pb t = some P → PbS M P ∧ (vI sc 226 t ≠ 0 → vI sc 227 t = 2 → PbF M P Lb LA sto sc t)) ∧ ∀ t t', t < T → t' < T → pb t ≠ none → pb t = pb t' → t = t'
section CPUB
variable {S : Nat → Bool} {M M1 M2 : MM} {m al N T p t nb n P : Nat} {pa tk : Nat → Nat} {own : Nat → Ky} {tm how : Int} {pb : Nat → Option Nat} {sc sc' : VV} {Lb : Nat → List Trm} {LA : Nat → List Nat} {dn sto sto' : Nat → Int} {tr : Trm} {x u : Nat} {B : Nat → Prop} {L : List Trm} {A : List Nat} {d : Int}
theorem TrC_mo (h : TrC M x tr) : mo M x = 4 ∧ mo M (x + 1) = 4 ∧ mo M (x + 2) = 4 ∧ mo M (x + 3) = 4 ∧ mo M (x + 4) = 4 := by
  obtain ⟨h1, h2, h3, h4, h5, h6, h7, h8, h9, h10, h11, h12⟩ := h
  exact ⟨mo_cl1 h1 (by decide) (by decide), mo_ar h3 (by decide) (by decide), mo_cl h7 (by decide) (by decide), mo_kw (q := x + 2) h8.2.2 (Or.inl rfl) h7 (by decide) (by decide), mo_ar h11 (by decide) (by decide)⟩
theorem TrC.exa (hx : ExA B M M1) (hu : UN M) (hB : ∀ z, x ≤ z → z ≤ x + 4 → ¬ B z) (h : TrC M x tr) : TrC M1 x tr := by
  obtain ⟨h1, h2, h3, h4, h5, h6, h7, h8, h9, h10, h11, h12⟩ := h
  have hl : x + 4 < nN M := hu.lt (by rw [h11]; decide)
  refine ⟨by rw [hx.kd (by omega)]; exact h1, by rw [hx.rR (by omega) (hB _ (by omega) (by omega))]; exact h2, by rw [hx.kd (by omega)]; exact h3, by rw [hx.rI (by omega) (hB _ (by omega) (by omega))]; exact h4, fun i hi => ?_, by rw [hx.rR (by omega) (hB _ (by omega) (by omega))]; exact h6, by rw [hx.kd (by omega)]; exact h7, hx.isK hu (hB _ (by omega) (by omega)) h8, by rw [hx.kC (by omega) (hB _ (by omega) (by omega))]; exact h9, by rw [hx.rR (by omega) (hB _ (by omega) (by omega))]; exact h10, by rw [hx.kd (by omega)]; exact h11, fun d hd => by rw [hx.rI (by omega) (hB _ (by omega) (by omega))]; exact h12 d hd⟩
  rw [show rB M1 (x + 1) i = rB M (x + 1) i from by show sx8 _ = sx8 _; rw [(hx.2.2.2 (x + 1) (by omega) (hB _ (by omega) (by omega))).1 i]]
  exact h5 i hi
theorem LibC_fk (f : FK S M M1) (hu : UN M) (hs : S 4 = false) (h : LibC M u L A d) : LibC M1 u L A d := by
  obtain ⟨h1, h2, h3, h4, h5, h6, h7, h8⟩ := h
  have m0 : mo M u = 4 := mo_cl1 h1 (by decide) (by decide)
  have m1 : mo M (u + 1) = 4 := mo_ar h3 (by decide) (by decide)
  have hl : u + 1 < nN M := hu.lt (by rw [h3]; decide)
  refine ⟨by rw [f.kd (by omega)]; exact h1, by rw [f.rR (by omega) (by rw [m0]; exact hs)]; exact h2, by rw [f.kd (by omega)]; exact h3, by rw [f.rI (by omega) (by rw [m0]; exact hs)]; exact h4, by rw [f.rI (by omega) (by rw [m0]; exact hs)]; exact h5, h6, h7, fun j hj => ?_⟩
  obtain ⟨a1, a2⟩ := h8 j hj
  refine ⟨by rw [f.rR (by omega) (by rw [m1]; exact hs)]; exact a1, a2.exa f hu (fun z z1 z2 => FK.no ?_)⟩
  obtain ⟨o1, o2, o3, o4, o5⟩ := TrC_mo a2
  have e : z = A.getD j 0 ∨ z = A.getD j 0 + 1 ∨ z = A.getD j 0 + 2 ∨ z = A.getD j 0 + 3 ∨ z = A.getD j 0 + 4 := by omega
  rcases e with e | e | e | e | e <;> rw [e]
  · rw [o1]; exact hs
  · rw [o2]; exact hs
  · rw [o3]; exact hs
  · rw [o4]; exact hs
  · rw [o5]; exact hs
theorem Libs_fk (f : FK S M M1) (hu : UN M) (hs : S 4 = false) (h : LibsC M N pa Lb LA dn) : LibsC M1 N pa Lb LA dn := fun p hp => LibC_fk f hu hs (h p hp)
theorem PbS_mo (h : PbS M P) : mo M P = 13 ∧ mo M (P + 1) = 13 := ⟨mo_cl1 (c := 30) (by rw [h.1]) (by decide) (by decide), mo_ar h.2.2 (by decide) (by decide)⟩
theorem PbS_lt (hu : UN M) (h : PbS M P) : P + 1 < nN M := hu.lt (by rw [h.2.2]; decide)
theorem PbF_ag (h : PbF M P Lb LA sto sc t) (h1 : ∀ i, rI M1 P i = rI M P i) (h2 : ∀ i, rR M1 (P + 1) i = rR M (P + 1) i) (hv : ∀ a, a = 228 ∨ a = 230 ∨ (243 ≤ a ∧ a ≤ 246) → vI sc' a t = vI sc a t) (hs : sto' t = sto t) : PbF M1 P Lb LA sto' sc' t := by
  obtain ⟨⟨a1, a2, a3⟩, b1, b2, b3, b4, b5⟩ := h
  unfold PbF PbT
  rw [hv 228 (by omega), hv 230 (by omega), hv 243 (by omega), hv 244 (by omega), hv 245 (by omega), hv 246 (by omega), hs, h1, h1, h1, h1, h1, h1]
  exact ⟨⟨a1, a2, fun i hi => by rw [h2]; exact a3 i hi⟩, b1, b2, b3, b4, b5⟩
theorem PbS.exa (hx : ExA B M M1) (hu : UN M) (hB : ¬ B P) (h : PbS M P) : PbS M1 P := by
  have hl := PbS_lt hu h
  exact ⟨by rw [hx.kd (by omega)]; exact h.1, by rw [hx.rR (by omega) hB]; exact h.2.1, by rw [hx.kd (by omega)]; exact h.2.2⟩
theorem Pubs_fk (f : FK S M M1) (hu : UN M) (hs : S 13 = false) (h : PubsC M T pb Lb LA sto sc) : PubsC M1 T pb Lb LA sto sc := ⟨fun t ht P hP => by
  obtain ⟨a1, a2⟩ := h.1 t ht P hP
  obtain ⟨o1, o2⟩ := PbS_mo a1
  have hl := PbS_lt hu a1
  exact ⟨a1.exa f hu (FK.no (by rw [o1]; exact hs)), fun z1 z2 => PbF_ag (a2 z1 z2) (fun i => f.rI (by omega) (by rw [o1]; exact hs) i) (fun i => f.rR (by omega) (by rw [o2]; exact hs) i) (fun _ _ => rfl) rfl⟩, h.2⟩
theorem Pubs_sc (h : PubsC M T pb Lb LA sto sc) (hv : ∀ t, t < T → vI sc' 226 t ≠ 0 → vI sc' 227 t = 2 → (vI sc 226 t ≠ 0 ∧ vI sc 227 t = 2) ∧ ∀ a, a = 228 ∨ a = 230 ∨ (243 ≤ a ∧ a ≤ 246) → vI sc' a t = vI sc a t) : PubsC M T pb Lb LA sto sc' := ⟨fun t ht P hP => by
  obtain ⟨a1, a2⟩ := h.1 t ht P hP
  refine ⟨a1, fun z1 z2 => ?_⟩
  obtain ⟨⟨y1, y2⟩, y3⟩ := hv t ht z1 z2
  exact PbF_ag (a2 y1 y2) (fun _ => rfl) (fun _ => rfl) y3 rfl, h.2⟩
/-- a publishing changes: nothing to the others -/
theorem Pubs_w (hu : UN M) (ht : t < T) (hP : pb t = some P) (h : PubsC M T pb Lb LA sto sc) (hx : ExA (fun z => z = P ∨ z = P + 1) M M1) (hv : ∀ t', t' ≠ t → ∀ a, a = 226 ∨ a = 227 ∨ a = 228 ∨ a = 230 ∨ (243 ≤ a ∧ a ≤ 246) → vI sc' a t' = vI sc a t') (hst : ∀ t', t' ≠ t → sto' t' = sto t') (hS : PbS M1 P) (hn : vI sc' 226 t ≠ 0 → vI sc' 227 t = 2 → PbF M1 P Lb LA sto' sc' t) : PubsC M1 T pb Lb LA sto' sc' := ⟨fun t' ht' P' hP' => by
  by_cases c : t' = t
  · rw [c] at hP' ⊢
    rw [hP] at hP'
    rw [← Option.some.inj hP']
    exact ⟨hS, hn⟩
  · obtain ⟨a1, a2⟩ := h.1 t' ht' P' hP'
    obtain ⟨b1, _⟩ := h.1 t ht P hP
    have hl := PbS_lt hu a1
    have nP : P' ≠ P := fun e => c (h.2 t' t ht' ht (by rw [hP']; simp) (by rw [hP', hP, e]))
    have n1 : P' ≠ P + 1 := fun e => by have := a1.1; rw [e, b1.2.2] at this; exact absurd this (by decide)
    have n2 : P' + 1 ≠ P := fun e => by have := a1.2.2; rw [e, b1.1] at this; exact absurd this (by decide)
    have q1 : ¬ (P' = P ∨ P' = P + 1) := fun z => z.elim nP n1
    have q2 : ¬ (P' + 1 = P ∨ P' + 1 = P + 1) := fun z => z.elim n2 (fun e => nP (by omega))
    refine ⟨a1.exa hx hu q1, fun z1 z2 => ?_⟩
    rw [hv t' c 226 (by omega)] at z1
    rw [hv t' c 227 (by omega)] at z2
    exact PbF_ag (a2 z1 z2) (fun i => hx.rI (by omega) q1 i) (fun i => hx.rR (by omega) q2 i) (fun a z => hv t' c a (by omega)) (hst t' c), h.2⟩
/-- terms that are published, and where they are -/
theorem pbL_len {lim : Nat} (hA : A.length = L.length) : (pbL lim L A).length = (pbT lim L).length ∧ ∀ i, i < (pbT lim L).length → ((pbL lim L A).getD i (0, trm0)).2 = (pbT lim L).getD i trm0 := by
  have e : (pbL lim L A).map (·.2) = pbT lim L := by
    unfold pbL pbT
    have : ∀ (l : List (Nat × Trm)), (l.filter (fun z => isInT lim z.2)).map (·.2) = (l.map (·.2)).filter (isInT lim) := fun l => by
      induction l with
      | nil => rfl
      | cons y l ih =>
        rw [List.map_cons]
        cases hy : isInT lim y.2 with
        | true => rw [List.filter_cons_of_pos (by rw [hy]), List.filter_cons_of_pos hy, List.map_cons, ih]
        | false => rw [List.filter_cons_of_neg (by rw [hy]; decide), List.filter_cons_of_neg (by rw [hy]; decide), ih]
    rw [this]
    have : (A.zip L).map (·.2) = L := by rw [List.map_snd_zip (by omega)]
    rw [this]
  refine ⟨by rw [← e, List.length_map], fun i hi => ?_⟩
  rw [← e, List.length_map] at hi
  rw [← e, List.getD_eq_getElem?_getD, List.getD_eq_getElem?_getD, List.getElem?_map, List.getElem?_eq_getElem hi]
  rfl
/-- a term that is published is in its place -/
theorem pbL_tr {lim i : Nat} (h : LibC M u L A d) (hi : i < (pbT lim L).length) : TrC M ((pbL lim L A).getD i (0, trm0)).1 ((pbT lim L).getD i trm0) := by
  obtain ⟨h1, h2, h3, h4, h5, h6, h7, h8⟩ := h
  obtain ⟨e1, e2⟩ := pbL_len (lim := lim) h6
  have hm : (pbL lim L A).getD i (0, trm0) ∈ A.zip L := (List.mem_filter.mp (getD_mem (d := ((0, trm0) : Nat × Trm)) (show i < (pbL lim L A).length by omega))).1
  rw [← e2 i hi]
  obtain ⟨z, hz⟩ : ∃ z, z = (pbL lim L A).getD i (0, trm0) := ⟨_, rfl⟩
  rw [← hz] at hm ⊢
  obtain ⟨j, hj, ej⟩ := List.getElem_of_mem hm
  rw [List.length_zip] at hj
  have := (h8 j (by omega)).2
  rw [List.getElem_zip] at ej
  rw [← ej]
  rw [gd_get (show j < A.length by omega), gd_get (show j < L.length by omega)] at this
  exact this
end CPUB
