section VSEEN
variable {V W : VV} {p i : Nat} {own : Nat → Ky} {Ts : Nat → List Row} {T' : List Row} {Z Z' : Nat} {x x' : Row} {s ad c : Int} {e n q k : Nat} {r pb : Bool}
theorem pr_rm {o : Ky} {T : List Row} {key : Ky} {x : Row} (hT : okT o T) (hx : x ∈ T) (hr : pr o c r x = false) : (rmT T x.1).filter (pr o c r) = T.filter (pr o c r) := by
  unfold rmT
  rw [List.filter_filter]
  apply List.filter_congr
  intro y hy
  by_cases q : y.1 = x.1
  · have : y = x := by
      have a := fnd_some hT.2.1 hy
      have b := fnd_some hT.2.1 hx
      rw [q, b] at a
      exact (Option.some.inj a).symm
    rw [this, hr]; rfl
  · simp [q]
theorem v_seen (h : TabsV V own Ts Z) (hp : p < 32) (hk0 : vI V 156 0 = (k : Int)) (hk : 1 ≤ k ∧ k ≤ 20) (hown : gk V 165 (5 * p) = own p) (he : mA e n) (hq : q + 5 ≤ n) (hn : n ≤ 1000000) (hm : ∀ i, m2 (mv e i) = false) (had : w32 ad = ad) (hl : (Ts p).length < 1100) (hZ : Z + 1 < 2147483647) (hpb : ∀ W, FrV m2 V W → f_X16_probes (p : Int) (kc (gk V e q) (own p)) W = some (b2i pb)) :
    ∃ V' res Z', f_X16_seen (p : Int) (e : Int) (q : Int) ad V = some (res, V') ∧ TabsV V' own (fup Ts p (seeT k (own p) (gk V e q) ad (Ts p)).1) Z' ∧ Z ≤ Z' ∧ Z' ≤ Z + 1 ∧ FrV m2 V V' ∧ (if (seeT k (own p) (gk V e q) ad (Ts p)).2 = true then SeenV V' p (own p) (seeT k (own p) (gk V e q) ad (Ts p)).1 (kc (gk V e q) (own p)) pb res else res = -1) := by
  have hT := h.2 p hp
  have hok := hT.2.1
  obtain ⟨key, hkey⟩ : ∃ key, key = gk V e q := ⟨_, rfl⟩
  obtain ⟨C, hC⟩ : ∃ C, C = kc key (own p) := ⟨_, rfl⟩
  have hc1 : 0 ≤ C := hC ▸ kc_lo _ _
  have hc2 : C ≤ 160 := hC ▸ kc_hi _ _
  have hcw : w32 C = C := w32_id (by omega) (by omega)
  have hkok : kyo key := hkey ▸ gk_ok V e q
  have hook : kyo (own p) := hown ▸ gk_ok V 165 (5 * p)
  have hcm : f_X16_common (e : Int) (q : Int) 165 (5 * (p : Int)) V = some C := by
    have := v_common (V := V) he hq hn m165 (show 5 * p + 5 ≤ 160 by omega) (by decide)
    rw [hC, hkey, ← hown, c5m]
    exact this
  have h165 : C = 160 ↔ key = own p := by rw [hC]; exact kc_160 hkok hook
  have b0 : b2i false = 0 := rfl
  have b1 : b2i true = 1 := rfl
  rw [← hkey, ← hC] at hpb ⊢
  unfold f_X16_seen
  rw [hcm, Option.bind_some, hcw, show w32 160 = 160 by decide]
  by_cases c160 : C = 160
  · rw [if_pos c160]
    have es : seeT k (own p) key ad (Ts p) = (Ts p, false) := by unfold seeT; rw [if_pos (h165.mp c160)]
    rw [es]
    exact ⟨V, -1, Z, rfl, by rw [fup_self]; exact h, Nat.le_refl _, by omega, FrV.refl, by rw [if_neg (by simp)]⟩
  rw [if_neg c160]
  have hno : key ≠ own p := fun z => c160 (h165.mpr z)
  -- how many contacts there are
  have hib : ∀ (W : VV) (Ts' : Nat → List Row) (Z' : Nat) (r : Bool), TabsV W own Ts' Z' → f_X16_inBucket (p : Int) C (b2i r) W = some (((Ts' p).filter (pr (own p) C r)).length : Int) := fun W Ts' Z' r hW => v_inBucket (hW.2 p hp) hp hcw
  have hw0 : ∀ W, FrV m2 V W → w32 (w32 (W 156 0)) = (k : Int) := fun W hW => by
    rw [v156, w32_vI, fv hW (show m2 (mv 156 0) = false from rfl)]; exact hk0
  have hle : ∀ r, ((Ts p).filter (pr (own p) C r)).length ≤ 1100 := fun r => Nat.le_trans (List.length_filter_le _ _) hok.1
  have ib0 := hib V Ts Z false h
  have ib1 := hib V Ts Z true h
  rw [b0] at ib0
  rw [b1] at ib1
  rcases v_rowWith hT hp he hq hn with ⟨i, hi, e1, e2⟩ | ⟨e1, e2⟩
  · rw [e1, Option.bind_some, w32_nn (by omega), if_neg (by omega)]
    obtain ⟨x, s, hxT, hx, -⟩ := tab_slot hT hi
    have hxk : x.1 = key := by
      have := congrArg (fun z => z.1) hx
      have this : gk V 190 (5 * (1100 * p + i)) = x.1 := this
      rw [← this, e2, hkey]
    have hx191 : vI V 191 (1100 * p + i) = x.2.1 := congrArg (fun z => z.2.1) hx
    have hx193 : vI V 193 (1100 * p + i) = b2i x.2.2 := congrArg (fun z => z.2.2.2.1) hx
    have hf : fnd (Ts p) key = some x := by rw [← hxk]; exact fnd_some hok.2.1 hxT
    rw [l2_n (by omega) (by decide), Option.bind_some, w32_vI, hx193]
    by_cases cr : x.2.2 = false
    · rw [if_pos (by rw [cr]; rfl), l2_n (by omega) (by decide), Option.bind_some, w32_vI, hx191, had]
      have es : seeT k (own p) key ad (Ts p) = (if x.2.1 = ad then rmT (Ts p) key ++ [x] else Ts p, false) := by
        unfold seeT
        rw [if_neg hno, hf]
        show (if x.2.2 = false then _ else _) = _
        rw [if_pos cr]
      rw [es]
      unfold j_X16_seen_66
      by_cases ca : x.2.1 = ad
      · rw [if_pos ca, if_pos ca]
        obtain ⟨V', t1, t2, t3⟩ := v_touch h hp hi hx hxT (by omega)
        rw [t1, Option.bind_some]
        exact ⟨V', -1, Z + 1, rfl, by rw [hxk] at t2; exact t2, by omega, by omega, t3, by rw [if_neg (by simp)]⟩
      · rw [if_neg ca, if_neg ca]
        exact ⟨V, -1, Z, rfl, by rw [fup_self]; exact h, by omega, by omega, FrV.refl, by rw [if_neg (by simp)]⟩
    · have crt : x.2.2 = true := by cases hq : x.2.2 <;> simp_all
      rw [if_neg (by rw [crt]; decide)]
      unfold j_X16_seen_68
      rw [ib0, Option.bind_some, hw0 V FrV.refl, w32_nn (by have := hle false; omega), w32_nn (by omega), if_neg (show ¬ (((1100 * p + i : Nat) : Int) < 0) by omega)]
      by_cases cl : ((Ts p).filter (pr (own p) C false)).length < k
      · rw [if_pos (by omega)]
        have es : seeT k (own p) key ad (Ts p) = (rmT (Ts p) key ++ [(key, ad, false)], false) := by
          unfold seeT
          rw [if_neg hno, hf, ← hC]
          show (if x.2.2 = false then _ else _) = _
          rw [if_neg cr, if_pos cl]
        rw [es]
        obtain ⟨V1, t1, t2, t3⟩ := v_removeRow h hp hi hx hxT
        rw [hxk] at t2
        have gk1 : gk V1 e q = key := by rw [gk_fr t3 hm, hkey]
        have hlen : (rmT (Ts p) key).length < 1100 := by have := rmT_len hok hxT; rw [hxk] at this; omega
        obtain ⟨V2, u1, u2, u3⟩ := v_addRow (r := false) (ad := ad) t2 hp (by rw [fup_eq]; exact hlen) he hq hn hm (by rw [gk1]; exact hno) (by rw [fup_eq, gk1]; exact fun y hy => (rmT_mem.mp hy).2) had (by omega)
        rw [gk1, ← hC, b0] at u1
        rw [gk1, fup_eq, fup_fup] at u2
        rw [t1, Option.bind_some]
        unfold j_X16_seen_95 j_X16_seen_120
        rw [u1, Option.bind_some]
        dsimp only
        rw [w32_nn (by rw [fup_eq]; omega), if_neg (by omega)]
        exact ⟨V2, -1, Z + 1, rfl, u2, by omega, by omega, t3.trans u3, by rw [if_neg (by simp)]⟩
      · rw [if_neg (by omega), l2_n (by omega) (by decide), Option.bind_some, w32_vI, hx191, had]
        have es : seeT k (own p) key ad (Ts p) = (if x.2.1 = ad then rmT (Ts p) key ++ [x] else Ts p, true) := by
          unfold seeT
          rw [if_neg hno, hf, ← hC]
          show (if x.2.2 = false then _ else _) = _
          rw [if_neg cr, if_neg cl]
        rw [es]
        have hpx : pr (own p) C false x = false := by unfold pr; rw [crt]; simp
        have hne : (Ts p).filter (pr (own p) C false) ≠ [] := fun z => by rw [z] at cl; simp at cl; omega
        by_cases ca : x.2.1 = ad
        · rw [if_pos ca, if_pos ca]
          obtain ⟨V', t1, t2, t3⟩ := v_touch h hp hi hx hxT (by omega)
          rw [t1, Option.bind_some]
          rw [hxk] at t2
          have hne2 : (rmT (Ts p) key ++ [x]).filter (pr (own p) C false) ≠ [] := by
            rw [List.filter_append, ← hxk, pr_rm (key := key) hok hxT hpx]
            intro z
            exact hne (List.append_eq_nil_iff.mp z).1
          obtain ⟨res, w1, w2⟩ := v_s190 (pb := pb) t2 hp hcw (hpb V' t3) (by rw [fup_eq]; exact hne2)
          rw [fup_eq] at w2
          exact ⟨V', res, Z + 1, w1, t2, by omega, by omega, t3, by rw [if_pos rfl]; exact w2⟩
        · rw [if_neg ca, if_neg ca]
          obtain ⟨res, w1, w2⟩ := v_s190 (pb := pb) h hp hcw (hpb V FrV.refl) hne
          exact ⟨V, res, Z, w1, by rw [fup_self]; exact h, by omega, by omega, FrV.refl, by rw [if_pos rfl]; exact w2⟩
  · rw [e1, Option.bind_some, w32_m1, if_pos (by decide)]
    have hnk : ∀ y, y ∈ Ts p → y.1 ≠ key := by
      intro y hy z
      obtain ⟨i, s, hi, hg⟩ := tab_row hT hy
      refine e2 i hi ?_
      have := congrArg (fun z => z.1) hg
      have this : gk V 190 (5 * (1100 * p + i)) = y.1 := this
      rw [this, z, hkey]
    have hf : fnd (Ts p) key = none := fnd_none hnk
    unfold j_X16_seen_68
    rw [ib0, Option.bind_some, hw0 V FrV.refl, w32_nn (by have := hle false; omega), w32_m1, if_pos (show (-1 : Int) < 0 by decide), if_pos (show (-1 : Int) < 0 by decide)]
    by_cases cl : ((Ts p).filter (pr (own p) C false)).length < k
    · rw [if_pos (by omega)]
      have es : seeT k (own p) key ad (Ts p) = (Ts p ++ [(key, ad, false)], false) := by
        unfold seeT
        rw [if_neg hno, hf, ← hC]
        show (if _ < k then _ else _) = _
        rw [if_pos cl]
      rw [es]
      obtain ⟨V2, u1, u2, u3⟩ := v_addRow (r := false) (ad := ad) h hp hl he hq hn hm (by rw [← hkey]; exact hno) (by rw [← hkey]; exact hnk) had (by omega)
      rw [← hkey, ← hC, b0] at u1
      rw [← hkey] at u2
      unfold j_X16_seen_95 j_X16_seen_120
      rw [u1, Option.bind_some]
      dsimp only
      rw [w32_nn (by omega), if_neg (by omega)]
      exact ⟨V2, -1, Z + 1, rfl, u2, by omega, by omega, u3, by rw [if_neg (by simp)]⟩
    · rw [if_neg (by omega), ib1, Option.bind_some, w32_nn (by have := hle true; omega)]
      have hne : (Ts p).filter (pr (own p) C false) ≠ [] := fun z => by rw [z] at cl; simp at cl; omega
      by_cases cf : ((Ts p).filter (pr (own p) C true)).length = k
      · rw [if_pos (by omega)]
        have hed := v_edge (r := true) (fi := true) hT hp hcw
        rw [b1] at hed
        rcases hed with ⟨-, z⟩ | ⟨i, y, s, q1, q2, q3, q4, q5, q6⟩
        · rw [z] at cf; simp at cf; omega
        · rw [if_pos rfl] at q6
          have es : seeT k (own p) key ad (Ts p) = (rmT (Ts p) y.1 ++ [(key, ad, true)], true) := by
            unfold seeT
            rw [if_neg hno, hf, ← hC]
            show (if _ < k then _ else _) = _
            rw [if_neg cl, if_pos cf, q6]
          rw [es, q2, Option.bind_some]
          obtain ⟨V1, t1, t2, t3⟩ := v_removeRow h hp q1 q3 q4
          have gk1 : gk V1 e q = key := by rw [gk_fr t3 hm, hkey]
          have hlen : (rmT (Ts p) y.1).length < 1100 := by have := rmT_len hok q4; omega
          obtain ⟨V2, u1, u2, u3⟩ := v_addRow (r := true) (ad := ad) t2 hp (by rw [fup_eq]; exact hlen) he hq hn hm (by rw [gk1]; exact hno) (by rw [fup_eq, gk1]; exact fun z hz => hnk z (rmT_mem.mp hz).1) had (by omega)
          rw [gk1, ← hC, b1] at u1
          rw [gk1, fup_eq, fup_fup] at u2
          rw [t1, Option.bind_some]
          unfold j_X16_seen_155
          rw [u1, Option.bind_some]
          dsimp only
          have hpy : pr (own p) C false y = false := by
            unfold pr at q5 ⊢
            cases hq : y.2.2 <;> simp_all
          have hne2 : (rmT (Ts p) y.1 ++ [(key, ad, true)]).filter (pr (own p) C false) ≠ [] := by
            rw [List.filter_append, pr_rm (key := key) hok q4 hpy]
            intro z
            exact hne (List.append_eq_nil_iff.mp z).1
          obtain ⟨res, w1, w2⟩ := v_s190 (pb := pb) u2 hp hcw (hpb V2 (t3.trans u3)) (by rw [fup_eq]; exact hne2)
          rw [fup_eq] at w2
          exact ⟨V2, res, Z + 1, w1, u2, by omega, by omega, t3.trans u3, by rw [if_pos rfl]; exact w2⟩
      · rw [if_neg (by omega)]
        have es : seeT k (own p) key ad (Ts p) = (Ts p ++ [(key, ad, true)], true) := by
          unfold seeT
          rw [if_neg hno, hf, ← hC]
          show (if _ < k then _ else _) = _
          rw [if_neg cl, if_neg cf]
        rw [es]
        obtain ⟨V2, u1, u2, u3⟩ := v_addRow (r := true) (ad := ad) h hp hl he hq hn hm (by rw [← hkey]; exact hno) (by rw [← hkey]; exact hnk) had (by omega)
        rw [← hkey, ← hC, b1] at u1
        rw [← hkey] at u2
        unfold j_X16_seen_155
        rw [u1, Option.bind_some]
        dsimp only
        have hne2 : (Ts p ++ [(key, ad, true)]).filter (pr (own p) C false) ≠ [] := by
          rw [List.filter_append]
          intro z
          exact hne (List.append_eq_nil_iff.mp z).1
        obtain ⟨res, w1, w2⟩ := v_s190 (pb := pb) u2 hp hcw (hpb V2 u3) (by rw [fup_eq]; exact hne2)
        rw [fup_eq] at w2
        exact ⟨V2, res, Z + 1, w1, u2, by omega, by omega, u3, by rw [if_pos rfl]; exact w2⟩
end VSEEN
