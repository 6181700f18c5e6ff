/-! what is checked, what is read of a datagram, what is written into one -/
theorem find_key {α β : Type} [DecidableEq β] {g : α → β} {x : α} : ∀ {l : List α}, (l.map g).Nodup → x ∈ l → l.find? (fun y => decide (g y = g x)) = some x
  | [], _, h => by simp at h
  | y :: l, hn, hx => by
    rw [List.find?_cons]
    rw [List.map_cons, List.nodup_cons] at hn
    by_cases c : g y = g x
    · rw [decide_eq_true c]
      rcases List.mem_cons.mp hx with rfl | hx
      · rfl
      · exact absurd (c ▸ List.mem_map.mpr ⟨x, hx, rfl⟩) hn.1
    · rw [decide_eq_false c]
      rcases List.mem_cons.mp hx with rfl | hx
      · exact absurd rfl c
      · exact find_key hn.2 hx
def ChkV (V : VV) (cl : List (Int × Int)) : Prop := vI V 156 88 = (cl.length : Int) ∧ cl.length ≤ 30 ∧ ∀ i, i < cl.length → vI V 224 i = (cl.getD i (0, 0)).1 ∧ vI V 225 i = (cl.getD i (0, 0)).2
def be3 (z : It) : List Int := [z.1, z.2.1, z.2.2]
theorem be1 {x : Int} (h : 0 ≤ x ∧ x < 256) : be x 1 = [x] := by
  show [bush x (8 * ((0 : Nat) : Int)) % 256] = _
  have := by_0 x
  rw [band255] at this
  rw [show (8 * ((0 : Nat) : Int)) = ((8 * 0 : Nat) : Int) from rfl, ← this, Int.emod_eq_of_lt h.1 h.2]
theorem bd255 {x : Int} (h : 0 ≤ x ∧ x < 256) : band x 255 = x := by rw [band255, Int.emod_eq_of_lt h.1 h.2]
def kbs (x : Ky) : List Int := kby (kf x)
theorem kby_ky (x : KF) : kby x = kbs (ky x) := rfl
theorem kbs_len (x : Ky) : (kbs x).length = 20 := kbN_len _ 5
/-- postings of three bytes from a place on -/
def rdI (l : List Int) (p n : Nat) : List It := (List.range n).map (fun i => (l.getD (p + 3 * i) 0, l.getD (p + 3 * i + 1) 0, l.getD (p + 3 * i + 2) 0))
def rdF (l : List Int) (p : Nat) : List Int := (l.drop (p + 3)).take (l.getD (p + 1) 0 * 256 + l.getD (p + 2) 0).toNat
def isBL (l : List Int) : Prop := ∀ b, b ∈ l → 0 ≤ b ∧ b < 256
theorem isBL_get {l : List Int} (h : isBL l) (i : Nat) : 0 ≤ l.getD i 0 ∧ l.getD i 0 < 256 := by
  by_cases c : i < l.length
  · exact h _ (getD_mem c)
  · have : l.getD i 0 = 0 := by grind
    omega
theorem rdI_get {l : List Int} {p n i : Nat} (h : i < n) : (rdI l p n).getD i it0 = (l.getD (p + 3 * i) 0, l.getD (p + 3 * i + 1) 0, l.getD (p + 3 * i + 2) 0) := by
  unfold rdI
  rw [List.getD_eq_getElem?_getD, List.getElem?_map, List.getElem?_range h]
  rfl
theorem rdF_get {l : List Int} {p i m : Nat} (hm : (l.getD (p + 1) 0 * 256 + l.getD (p + 2) 0).toNat = m) (hl : p + 3 + m ≤ l.length) : (rdF l p).length = m ∧ (i < m → (rdF l p).getD i 0 = l.getD (p + 3 + i) 0) := by
  unfold rdF
  rw [hm]
  refine ⟨by rw [List.length_take, List.length_drop]; omega, fun hi => ?_⟩
  rw [List.getD_eq_getElem?_getD, List.getElem?_take_of_lt hi, List.getElem?_drop, List.getD_eq_getElem?_getD]
section VCHK
variable {V W : VV} {tl : List It} {l : List Int} {p : Nat}
theorem v_findChecked {S : List Post} {e q n : Nat} {cl : List (Int × Int)} (h : StV V p S) (hp : p < 32) (he : mA e n) (hq : q + 5 ≤ n) (hn : n ≤ 1000000) (hne : ∀ i, ¬ PT e i) (hc : ChkV V cl) : ∃ V', f_X16_findChecked (p : Int) (e : Int) (q : Int) V = some V' ∧ TellV V' (chkS (gk V e q) cl S) ∧ FrS PT V V' := by
  have hl := h.2.1.1
  obtain ⟨c1, c2, c3⟩ := hc
  let Tk : Nat → List It := fun k => chkS (gk V e q) (cl.take k) S
  have tkl : ∀ k, (Tk k).length ≤ k := fun k => by
    have := List.length_filterMap_le (fun c : Int × Int => (S.find? (fun y => decide (pid y = (gk V e q, c.1, c.2)))).map itm) (cl.take k)
    rw [List.length_take] at this
    show (chkS _ _ _).length ≤ k
    unfold chkS
    omega
  obtain ⟨⟨z, V'⟩, n2, hn2, ⟨rfl, g1, g2⟩, q2⟩ := lp_inv (b := fun s : Int × VV => b_X16_findChecked_8 (p : Int) (e : Int) (q : Int) s.1 s.2) (fun k s => s.1 = (k : Int) ∧ TellV s.2 (Tk k) ∧ FrS PT V s.2) cl.length
    (by
      rintro k ⟨z, U⟩ hk ⟨rfl, g1, g2⟩
      dsimp only at g1 g2 ⊢
      have hS : StV U p S := st_ag h (g2.vI (by unfold PT; omega)) (fun j hj => gP_ext (gk_ext (fun i _ => g2.vI (by unfold PT; omega))) (g2.vI (by unfold PT; omega)) (g2.vI (by unfold PT; omega)) (g2.vI (by unfold PT; omega)) (g2.vI (by unfold PT; omega)))
      have u88 : vI U 156 88 = (cl.length : Int) := by rw [g2.vI (by unfold PT; omega)]; exact c1
      have u224 : vI U 224 k = (cl.getD k (0, 0)).1 := by rw [g2.vI (by unfold PT; omega)]; exact (c3 k hk).1
      have u225 : vI U 225 k = (cl.getD k (0, 0)).2 := by rw [g2.vI (by unfold PT; omega)]; exact (c3 k hk).2
      have hkey : gk U e q = gk V e q := gk_ext (fun i _ => g2.vI (hne _))
      have hT1 : Tk (k + 1) = Tk k ++ ((S.find? (fun y => decide (pid y = (gk V e q, (cl.getD k (0, 0)).1, (cl.getD k (0, 0)).2)))).map itm).toList := by
        show chkS _ _ _ = _
        rw [take_s (d := (0, 0)) hk]
        unfold chkS
        rw [List.filterMap_append]
        congr 1
      have htl := tkl k
      have w1 : w32 (cl.getD k (0, 0)).1 = (cl.getD k (0, 0)).1 := by rw [← u224, w32_vI]
      have w2 : w32 (cl.getD k (0, 0)).2 = (cl.getD k (0, 0)).2 := by rw [← u225, w32_vI]
      unfold b_X16_findChecked_8 j_X16_findChecked_51
      rw [show w32 (U 156 88) = (cl.length : Int) from u88, w32_nn (by omega), w32_nn (by omega), if_pos (by omega), l2_n (by omega) (by decide), Option.bind_some, l2_n (by omega) (by decide), Option.bind_some, u224, u225]
      rcases v_postingWith hS hp he hq hn w1 w2 with ⟨i, hi, f1, f2⟩ | ⟨f1, f2⟩
      · rw [hkey] at f2
        rw [f1, Option.bind_some, w32_nn (by omega), if_neg (by omega)]
        obtain ⟨U2, t1, t2, t3, t4⟩ := v_tell (V := U) (X := 200 * p + i) (by omega) g1 (by omega)
        rw [t1, Option.bind_some]
        have hfd : S.find? (fun y => decide (pid y = (gk V e q, (cl.getD k (0, 0)).1, (cl.getD k (0, 0)).2))) = some (gP U (200 * p + i)) := by
          rw [← f2]
          exact find_key (okSt_nodup hS.2.1) (st_slot hS hi)
        rw [hfd] at hT1
        exact ⟨_, rfl, rfl, by rw [hT1]; exact t2, g2.trans t3⟩
      · rw [hkey] at f2
        rw [f1, Option.bind_some, w32_m1, if_pos (by decide)]
        have hfd : S.find? (fun y => decide (pid y = (gk V e q, (cl.getD k (0, 0)).1, (cl.getD k (0, 0)).2))) = none := List.find?_eq_none.mpr (fun y hy => by simpa using f2 y hy)
        rw [hfd] at hT1
        have hT2 : Tk (k + 1) = Tk k := by rw [hT1]; simp
        exact ⟨_, rfl, rfl, by rw [hT2]; exact g1, g2⟩) FU 0 (0, st2 V 156 83 0) (by omega) (by unfold FU; omega) ⟨rfl, ⟨by dsimp only; rw [vI_eq rfl]; simp [Tk, chkS, w32_0], by simp [Tk, chkS], fun i hi => by simp [Tk, chkS] at hi⟩, FrS_st (by unfold PT; omega)⟩
  dsimp only at g1 g2
  refine ⟨V', ?_, ?_, g2⟩
  · unfold f_X16_findChecked l_X16_findChecked_8
    rw [p2_e, Option.bind_some]
    refine q2.trans ?_
    refine lpN_end (b := fun s : Int × VV => b_X16_findChecked_8 (p : Int) (e : Int) (q : Int) s.1 s.2) hn2 ?_
    dsimp only
    unfold b_X16_findChecked_8
    have u88 : vI V' 156 88 = (cl.length : Int) := by rw [g2.vI (by unfold PT; omega)]; exact c1
    rw [show w32 (V' 156 88) = (cl.length : Int) from u88, if_neg (by omega)]
  · have : Tk cl.length = chkS (gk V e q) cl S := by show chkS _ _ _ = _; rw [List.take_length]
    rw [← this]; exact g1
theorem InV_get (h : InV V l) (hb : isBL l) {i : Nat} (hi : i < l.length) : vI V 271 i = l.getD i 0 ∧ (0 ≤ l.getD i 0 ∧ l.getD i 0 < 256) := ⟨h.2.2 i hi, isBL_get hb i⟩
theorem v_takeFilter {m : Nat} (h : InV V l) (hb : isBL l) (hm : (l.getD (p + 1) 0 * 256 + l.getD (p + 2) 0).toNat = m) (hm2 : m ≤ 290) (hl : p + 3 + m ≤ l.length) : ∃ V', f_X16_takeFilter (p : Int) V = some V' ∧ FltV V' (l.getD p 0).toNat (rdF l p) ∧ FrS (fun a i => a = 220 ∨ (a = 156 ∧ (i = 78 ∨ i = 79))) V V' := by
  have hll := h.2.1
  have h0 := InV_get h hb (i := p) (by omega)
  have h1 := InV_get h hb (i := p + 1) (by omega)
  have h2 := InV_get h hb (i := p + 2) (by omega)
  obtain ⟨H, hH⟩ : ∃ H, H = (l.getD p 0).toNat := ⟨_, rfl⟩
  have e0 : vI V 271 p = (H : Int) := by rw [h0.1]; omega
  let V2 := st2 (st2 V 156 79 (H : Int)) 156 78 (m : Int)
  obtain ⟨r1, r2⟩ := rdF_get (l := l) (p := p) (i := 0) hm hl
  have v2 : ∀ a j, a ≠ 156 → vI V2 a j = vI V a j := fun a j ha => by
    show vI (st2 (st2 _ _ _ _) _ _ _) _ _ = _
    rw [vI_ne (by omega), vI_ne (by omega)]
  have v78 : vI V2 156 78 = (m : Int) := by
    show vI (st2 _ 156 78 _) 156 78 = _
    rw [vI_eq rfl, w32_nn (by omega)]
  have v79 : vI V2 156 79 = (H : Int) := by
    show vI (st2 (st2 _ _ _ _) 156 78 _) 156 79 = _
    rw [vI_ne (by decide), vI_eq rfl, w32_nn (by omega)]
  obtain ⟨⟨z, V'⟩, n2, hn2, ⟨rfl, g1, g2⟩, q2⟩ := lp_inv (b := fun s : Int × VV => b_X16_takeFilter_23 (p : Int) s.1 s.2) (fun k s => s.1 = (k : Int) ∧ (∀ i, i < k → vI s.2 220 i = l.getD (p + 3 + i) 0) ∧ FrS (fun a _ => a = 220) V2 s.2) m
    (by
      rintro k ⟨z, U⟩ hk ⟨rfl, g1, g2⟩
      dsimp only at g1 g2 ⊢
      have hx := InV_get h hb (i := p + 3 + k) (by omega)
      have ux : vI U 271 (p + 3 + k) = l.getD (p + 3 + k) 0 := by rw [g2.vI (by omega), v2 _ _ (by decide)]; exact hx.1
      have u78 : vI U 156 78 = (m : Int) := by rw [g2.vI (by omega)]; exact v78
      refine ⟨(((k : Nat) : Int) + 1, st2 U 220 k (l.getD (p + 3 + k) 0)), ?_, rfl, fun i hi => ?_, g2.trans (FrS_st rfl)⟩
      · unfold b_X16_takeFilter_23
        rw [show w32 (U 156 78) = (m : Int) from u78, w32_nn (by omega), w32_nn (by omega), if_pos (by omega), cadd3, cadd, l2_n (by omega) (by decide), Option.bind_some, ux, s2_n (by omega) (by decide)]
        rfl
      · dsimp only
        rw [vI_st2]
        by_cases c : i = k
        · rw [if_pos ⟨rfl, c⟩, c, w32_id (by omega) (by omega)]
        · rw [if_neg (fun z => c z.2)]; exact g1 i (by omega)) FU 0 (0, V2) (by omega) (by unfold FU; omega) ⟨rfl, fun i hi => by omega, FrS.refl⟩
  dsimp only at g1 g2
  refine ⟨V', ?_, ⟨?_, ?_, ⟨by rw [r1]; exact hm2, fun b hb2 => ?_⟩, fun i hi => ?_⟩, ?_⟩
  · unfold f_X16_takeFilter
    rw [l2_n (by omega) (by decide), Option.bind_some, e0, p2_e, Option.bind_some, cadd1, e_pairAt (p := p + 1) rfl (by omega) (by rw [vI_ne (by omega), h1.1]; exact h1.2) (by rw [vI_ne (by omega), show p + 1 + 1 = p + 2 from rfl, h2.1]; exact h2.2), Option.bind_some, vI_ne (by omega), vI_ne (by omega), show p + 1 + 1 = p + 2 from rfl, h1.1, h2.1, p2_e, Option.bind_some, show l.getD (p + 1) 0 * 256 + l.getD (p + 2) 0 = (m : Int) by omega]
    unfold l_X16_takeFilter_23
    refine q2.trans ?_
    refine lpN_end (b := fun s : Int × VV => b_X16_takeFilter_23 (p : Int) s.1 s.2) hn2 ?_
    dsimp only
    unfold b_X16_takeFilter_23
    have u78 : vI V' 156 78 = (m : Int) := by rw [g2.vI (by omega)]; exact v78
    rw [show w32 (V' 156 78) = (m : Int) from u78, if_neg (by omega)]
  · rw [g2.vI (by omega), ← hH]; exact v79
  · rw [g2.vI (by omega), r1]; exact v78
  · exact hb b (List.mem_of_mem_drop (List.mem_of_mem_take hb2))
  · rw [r1] at hi
    rw [g1 i hi, ((rdF_get (i := i) hm hl).2 hi)]
  · refine ((FrS_st (Or.inr ⟨rfl, Or.inr rfl⟩)).trans (FrS_st (Or.inr ⟨rfl, Or.inl rfl⟩))).trans (g2.mono (fun a i q => Or.inl q))
theorem v_takeTold {n : Nat} (h : InV V l) (hb : isBL l) (hn : l.getD p 0 = (n : Int)) (hn2 : n ≤ 30) (hl : p + 1 + 3 * n ≤ l.length) : ∃ V', f_X16_takeTold (p : Int) V = some V' ∧ TellV V' (rdI l (p + 1) n) ∧ FrS (fun a i => (221 ≤ a ∧ a ≤ 223) ∨ (a = 156 ∧ i = 83)) V V' := by
  have hll := h.2.1
  have h0 := InV_get h hb (i := p) (by omega)
  let V2 := st2 V 156 83 (n : Int)
  have v83 : vI V2 156 83 = (n : Int) := by
    show vI (st2 _ 156 83 _) 156 83 = _
    rw [vI_eq rfl, w32_nn (by omega)]
  obtain ⟨⟨z, V'⟩, n2, hn2', ⟨rfl, g1, g2⟩, q2⟩ := lp_inv (b := fun s : Int × VV => b_X16_takeTold_12 (p : Int) s.1 s.2) (fun k s => s.1 = (k : Int) ∧ (∀ i, i < k → vI s.2 221 i = l.getD (p + 1 + 3 * i) 0 ∧ vI s.2 222 i = l.getD (p + 1 + 3 * i + 1) 0 ∧ vI s.2 223 i = l.getD (p + 1 + 3 * i + 2) 0) ∧ FrS (fun a _ => 221 ≤ a ∧ a ≤ 223) V2 s.2) n
    (by
      rintro k ⟨z, U⟩ hk ⟨rfl, g1, g2⟩
      dsimp only at g1 g2 ⊢
      have rd : ∀ j, j < l.length → vI U 271 j = l.getD j 0 ∧ (0 ≤ l.getD j 0 ∧ l.getD j 0 < 256) := fun j hj => by
        have := InV_get h hb (i := j) hj
        refine ⟨?_, this.2⟩
        rw [g2.vI (by omega)]
        show vI (st2 _ _ _ _) _ _ = _
        rw [vI_ne (by omega)]; exact this.1
      have u83 : vI U 156 83 = (n : Int) := by rw [g2.vI (by omega)]; exact v83
      have a0 := rd (p + 1 + 3 * k) (by omega)
      have a1 := rd (p + 2 + 3 * k) (by omega)
      have a2 := rd (p + 3 + 3 * k) (by omega)
      refine ⟨(((k : Nat) : Int) + 1, st2 (st2 (st2 U 221 k (vI U 271 (p + 1 + 3 * k))) 222 k (vI U 271 (p + 2 + 3 * k))) 223 k (vI U 271 (p + 3 + 3 * k))), ?_, rfl, fun i hi => ?_, ?_⟩
      · unfold b_X16_takeTold_12
        rw [show w32 (U 156 83) = (n : Int) from u83, w32_nn (by omega), w32_nn (by omega), if_pos (by omega)]
        simp (disch := omega) only [cadd1, cadd2, cadd3, c3m, cadd, l2_n, s2_n, Option.bind_some, vI_ne]
        rfl
      · dsimp only
        by_cases c : i = k
        · subst c
          simp (disch := omega) only [vI_ne, vI_eq, w32_vI]
          exact ⟨a0.1, by rw [show p + 1 + 3 * i + 1 = p + 2 + 3 * i by omega]; exact a1.1, by rw [show p + 1 + 3 * i + 2 = p + 3 + 3 * i by omega]; exact a2.1⟩
        · simp (disch := omega) only [vI_ne]
          exact g1 i (by omega)
      · refine ((g2.trans (FrS_st (by omega))).trans (FrS_st (by omega))).trans (FrS_st (by omega))) FU 0 (0, V2) (by omega) (by unfold FU; omega) ⟨rfl, fun i hi => by omega, FrS.refl⟩
  dsimp only at g1 g2
  have hlen : (rdI l (p + 1) n).length = n := by simp [rdI]
  refine ⟨V', ?_, ⟨by rw [g2.vI (by omega), hlen]; exact v83, by rw [hlen]; exact hn2, fun i hi => ?_⟩, ?_⟩
  · unfold f_X16_takeTold
    rw [l2_n (by omega) (by decide), Option.bind_some, h0.1, hn, p2_e, Option.bind_some]
    unfold l_X16_takeTold_12
    refine q2.trans ?_
    refine lpN_end (b := fun s : Int × VV => b_X16_takeTold_12 (p : Int) s.1 s.2) hn2' ?_
    dsimp only
    unfold b_X16_takeTold_12
    have u83 : vI V' 156 83 = (n : Int) := by rw [g2.vI (by omega)]; exact v83
    rw [show w32 (V' 156 83) = (n : Int) from u83, if_neg (by omega)]
  · rw [hlen] at hi
    rw [rdI_get hi]
    exact g1 i hi
  · exact (FrS_st (Or.inr ⟨rfl, rfl⟩)).trans (g2.mono (fun a i q => Or.inl q))
theorem OutV_frs {P : Nat → Nat → Prop} (ho : OutV V l) (f : FrS P V W) (h1 : ¬ P 156 41) (h2 : ∀ i, ¬ P 188 i) : OutV W l := ⟨by rw [f.vI h1]; exact ho.1, ho.2.1, fun i hi => by rw [f.vI (h2 i)]; exact ho.2.2 i hi⟩
def okTl (tl : List It) : Prop := ∀ z, z ∈ tl → (0 ≤ z.1 ∧ z.1 < 256) ∧ (0 ≤ z.2.1 ∧ z.2.1 < 256) ∧ (0 ≤ z.2.2 ∧ z.2.2 < 256)
theorem v_tellPostings (ho : OutV V l) (ht : TellV V tl) (hl : l.length + 1 + 3 * tl.length ≤ 460) (hk : okTl tl) : ∃ V', f_X16_tellPostings V = some V' ∧ OutV V' (l ++ ((tl.length : Int) :: tl.flatMap be3)) ∧ FrS PO V V' := by
  obtain ⟨t1, t2, t3⟩ := ht
  obtain ⟨V1, b1, b2, -, -⟩ := v_byteOut (x := (tl.length : Int)) ho (by omega) (bd255 (by omega)) (by omega)
  have f1 := byteOut_fr b1
  have lenk : ∀ k, ((tl.take k).flatMap be3).length = 3 * (tl.take k).length := fun k => by
    generalize tl.take k = t
    induction t with
    | nil => rfl
    | cons y t ih => rw [List.flatMap_cons, List.length_append, ih]; show 3 + _ = _; simp only [List.length_cons]; omega
  obtain ⟨⟨z, V'⟩, n2, hn2, ⟨rfl, g1, g2⟩, q2⟩ := lp_inv (b := fun s : Int × VV => b_X16_tellPostings_10 s.1 s.2) (fun k s => s.1 = (k : Int) ∧ OutV s.2 (l ++ [(tl.length : Int)] ++ (tl.take k).flatMap be3) ∧ FrS PO V s.2) tl.length
    (by
      rintro k ⟨z, U⟩ hk2 ⟨rfl, g1, g2⟩
      dsimp only at g1 g2 ⊢
      obtain ⟨a1, a2, a3⟩ := t3 k hk2
      have hz := hk _ (getD_mem (d := it0) hk2)
      have hlk := lenk k
      have hlt : (tl.take k).length = k := by rw [List.length_take]; omega
      have hlA : (l ++ [(tl.length : Int)] ++ (tl.take k).flatMap be3).length = l.length + 1 + 3 * k := by rw [List.length_append, List.length_append, hlk, hlt]; rfl
      have hT1 : (tl.take (k + 1)).flatMap be3 = (tl.take k).flatMap be3 ++ be3 (tl.getD k it0) := by rw [take_s (d := it0) hk2, List.flatMap_append]; simp
      have u83 : vI U 156 83 = (tl.length : Int) := by rw [g2.vI (by unfold PO; omega)]; exact t1
      generalize tl.getD k it0 = y at *
      obtain ⟨U1, c1, c2, -, -⟩ := v_byteOut (x := vI U 221 k) (y := y.1) g1 (by omega) (by rw [g2.vI (by unfold PO; omega), a1]; exact bd255 hz.1) hz.1
      have d1 := byteOut_fr c1
      obtain ⟨U2, c3, c4, -, -⟩ := v_byteOut (x := vI U1 222 k) (y := y.2.1) c2 (by rw [List.length_append, hlA]; simp; omega) (by rw [d1.vI (by unfold PO; omega), g2.vI (by unfold PO; omega), a2]; exact bd255 hz.2.1) hz.2.1
      have d2 := byteOut_fr c3
      obtain ⟨U3, c5, c6, -, -⟩ := v_byteOut (x := vI U2 223 k) (y := y.2.2) c4 (by rw [List.length_append, List.length_append, hlA]; simp; omega) (by rw [d2.vI (by unfold PO; omega), d1.vI (by unfold PO; omega), g2.vI (by unfold PO; omega), a3]; exact bd255 hz.2.2) hz.2.2
      have d3 := byteOut_fr c5
      refine ⟨(((k : Nat) : Int) + 1, U3), ?_, rfl, ?_, ((g2.trans d1).trans d2).trans d3⟩
      · unfold b_X16_tellPostings_10
        rw [show w32 (U 156 83) = (tl.length : Int) from u83, w32_nn (by omega), w32_nn (by omega), if_pos (by omega), l2_n (by omega) (by decide), Option.bind_some, c1, Option.bind_some, l2_n (by omega) (by decide), Option.bind_some, c3, Option.bind_some, l2_n (by omega) (by decide), Option.bind_some, c5, Option.bind_some]
        rfl
      · dsimp only
        rw [hT1]
        have : l ++ [(tl.length : Int)] ++ ((tl.take k).flatMap be3 ++ be3 y) = l ++ [(tl.length : Int)] ++ (tl.take k).flatMap be3 ++ [y.1] ++ [y.2.1] ++ [y.2.2] := by simp [be3]
        rw [this]; exact c6) FU 0 (0, V1) (by omega) (by unfold FU; omega) ⟨rfl, by simpa using b2, f1⟩
  dsimp only at g1 g2
  refine ⟨V', ?_, ?_, g2⟩
  · unfold f_X16_tellPostings
    rw [show w32 (V 156 83) = (tl.length : Int) from t1, b1, Option.bind_some]
    unfold l_X16_tellPostings_10
    refine q2.trans ?_
    refine lpN_end (b := fun s : Int × VV => b_X16_tellPostings_10 s.1 s.2) hn2 ?_
    dsimp only
    unfold b_X16_tellPostings_10
    have u83 : vI V' 156 83 = (tl.length : Int) := by rw [g2.vI (by unfold PO; omega)]; exact t1
    rw [show w32 (V' 156 83) = (tl.length : Int) from u83, if_neg (by omega)]
  · rw [List.take_length] at g1
    simpa using g1
end VCHK
