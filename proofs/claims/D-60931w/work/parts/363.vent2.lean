section VENT2
variable {V W : VV} {t i : Nat} {tgt : Ky} {E E' : List Ent} {x : Ent} {e n q : Nat} {tg : Nat → Ky} {Es : Nat → List Ent} {ad stt : Int}
theorem take_last {α : Type} {l : List α} {m : Nat} (h : l.length = m + 1) : ∃ y, l = l.take m ++ [y] := by
  have hd : (l.drop m).length = 1 := by rw [List.length_drop]; omega
  obtain ⟨y, hy⟩ := List.length_eq_one_iff.mp hd
  exact ⟨y, by rw [← hy, List.take_append_drop]⟩
/-- the farthest one is the last one -/
theorem far_take {α : Type} {S : List α} {y : α} {m : α → Nat} {k : Nat} (hs : SrtM m S) (hl : S.length = k + 1) (hy : y ∈ S) (hf : ∀ z, z ∈ S → m z ≤ m y) : ∃ z, S = S.take k ++ [z] ∧ z = y := by
  obtain ⟨z, hz⟩ := take_last hl
  refine ⟨z, hz, ?_⟩
  rw [hz] at hy
  rcases List.mem_append.mp hy with h | h
  · have hs2 := hs
    rw [hz] at hs2
    have := (List.pairwise_append.mp hs2).2.2 y h z (by simp)
    have h3 := hf z (by rw [hz]; simp)
    omega
  · simp at h; exact h.symm
theorem v_addEntry (h : EnsV V tg Es) (ht : t < 44) (he : mA e n) (hq : q + 5 ≤ n) (hn : n ≤ 1000000) (hem : e < 234 ∨ 238 < e) (had : 0 ≤ ad ∧ ad < 32) (hst : 0 ≤ stt ∧ stt ≤ 3) : ∃ V', f_X16_addEntry (t : Int) (e : Int) (q : Int) ad stt V = some V' ∧ EnsV V' tg (fup Es t (addE (tg t) (Es t) (gk V e q, ad, stt, 0))) ∧ FrS PE V V' := by
  have hE := h t ht
  have hok := hE.2.2.1
  have hl := hok.1
  obtain ⟨x, hx⟩ : ∃ x : Ent, x = (gk V e q, ad, stt, 0) := ⟨_, rfl⟩
  have hxk : eKey x = gk V e q := by rw [hx]; rfl
  have hxo : okE x := by rw [hx]; exact ⟨gk_ok V e q, had, hst, by show (0 : Int) ≤ 0 ∧ (0 : Int) ≤ 65535; decide⟩
  rw [← hx]
  unfold f_X16_addEntry addE
  rcases v_entryWith hE ht he hq hn with ⟨i, hi, e1, e2⟩ | ⟨e1, e2⟩
  · have : hasE (Es t) (eKey x) = true := hasE_iff.mpr ⟨_, en_slot hE hi, by rw [e2, hxk]⟩
    rw [e1, Option.bind_some, w32_nn (by omega), if_neg (by omega), if_pos this]
    exact ⟨V, rfl, by rw [fup_self]; exact h, FrS.refl⟩
  · rw [e1, Option.bind_some, w32_m1, if_pos (by decide), if_neg (by rw [hxk, e2]; decide)]
    obtain ⟨U, u1, u2, u3, u4, u5⟩ := v_addE1 (V := V) (ad := ad) (stt := stt) hE.1 hl ht he hq hn hem (w32_id (by omega) (by omega)) (w32_id (by omega) (by omega))
    rw [u1, ]
    have hn2 := hasE_no.mp e2
    have hsI : SrtM (dE (tg t)) (insM (dE (tg t)) x (Es t)) := insM_srt _ x _ hok.2.1 (fun y hy z => hn2 y hy (by rw [← hxk]; exact dE_inj (hok.2.2 y hy) hxo z))
    have hlI : (insM (dE (tg t)) x (Es t)).length = (Es t).length + 1 := insM_len
    have pmU : (rws (fun j => gE U (65 * t + j)) ((Es t).length + 1)).Perm (insM (dE (tg t)) x (Es t)) := by
      rw [rws_succ, u2, rws_congr (g := fun j => gE V (65 * t + j)) (fun j hj => u3 _ (by omega))]
      refine (hE.2.2.2.append_right _).trans ?_
      rw [← hx]
      exact (List.perm_append_singleton _ _).trans (insM_perm _ x _).symm
    have g232 : ∀ z, gk U 232 z = gk V 232 z := fun z => gk_ext (fun i _ => u5.vI (by unfold PE; omega))
    have oth : ∀ z, z ≠ t → z < 44 → vI U 234 z = vI V 234 z ∧ gk U 232 (5 * z) = gk V 232 (5 * z) ∧ ∀ j, j < 65 → gE U (65 * z + j) = gE V (65 * z + j) := fun z hz hz2 => ⟨by rw [u4, if_neg hz], g232 _, fun j hj => u3 _ (by omega)⟩
    have okI : ∀ y, y ∈ insM (dE (tg t)) x (Es t) → okE y := fun y hy => by
      rcases insM_mem.mp hy with rfl | hy
      · exact hxo
      · exact hok.2.2 y hy
    by_cases c : (Es t).length + 1 < 65
    · rw [if_pos c]
      refine ⟨U, rfl, ens_upd h ?_ oth, u5⟩
      rw [List.take_of_length_le (by omega)]
      exact ⟨by rw [u4, if_pos rfl, hlI], by rw [g232]; exact hE.2.1, ⟨by omega, hsI, okI⟩, by rw [hlI]; exact pmU⟩
    · rw [if_neg c]
      have c64 : (Es t).length = 64 := by omega
      rw [c64] at pmU hlI u4 u1 ⊢
      obtain ⟨V', f, w1, w2, w3, w4, w5, w6⟩ := v_addE2 (V := U) (t := t) (tgt := tg t) (by rw [u4, if_pos rfl]; rfl) ht (by
        intro i j hi hj hij z
        have hnd : ((rws (fun j => gE U (65 * t + j)) 65).map (dE (tg t))).Nodup := by
          rw [(pmU.map _).nodup_iff, List.Nodup, List.pairwise_map]
          exact hsI.imp (fun q => Nat.ne_of_lt q)
        have q := List.pairwise_iff_getElem.mp hnd
        rcases Nat.lt_trichotomy i j with c | c | c
        · exact q i j (by simp [rws]; omega) (by simp [rws]; omega) c (by simp [rws]; exact z)
        · exact hij c
        · exact q j i (by simp [rws]; omega) (by simp [rws]; omega) c (by simp [rws]; exact z.symm)) (by rw [g232]; exact hE.2.1)
      have hfm : gE U (65 * t + f) ∈ insM (dE (tg t)) x (Es t) := by
        rw [← pmU.mem_iff]
        exact rws_mem.mpr ⟨f, w1, rfl⟩
      have hfar : ∀ z, z ∈ insM (dE (tg t)) x (Es t) → dE (tg t) z ≤ dE (tg t) (gE U (65 * t + f)) := by
        intro z hz
        rw [← pmU.mem_iff] at hz
        obtain ⟨j, hj, rfl⟩ := rws_mem.mp hz
        by_cases c : j = f
        · rw [c]; exact Nat.le_refl _
        · exact Nat.le_of_lt (w3 j hj c)
      obtain ⟨z, hz1, hz2⟩ := far_take (k := 64) hsI hlI hfm hfar
      have hl64 : ((insM (dE (tg t)) x (Es t)).take 64).length = 64 := by rw [List.length_take]; omega
      have pm2 : (rws (fun j => gE V' (65 * t + j)) 64).Perm ((insM (dE (tg t)) x (Es t)).take 64) := by
        have d := rws_del (f := fun j => gE U (65 * t + j)) (g := fun j => gE V' (65 * t + j)) (n := 64) (i := f) w1 (fun j hj => by
          show gE V' (65 * t + j) = if j = f then gE U (65 * t + 64) else gE U (65 * t + j)
          rw [w4]
          by_cases c : j = f
          · rw [if_pos c, if_pos (by omega)]
          · rw [if_neg c, if_neg (by omega)])
        refine d.trans ?_
        have g := get_perm (rws (fun j => gE U (65 * t + j)) 65) f (by rw [rws_len]; exact w1)
        rw [rws_get] at g
        have p1 : (gE U (65 * t + f) :: (rws (fun j => gE U (65 * t + j)) 65).eraseIdx f).Perm (gE U (65 * t + f) :: (insM (dE (tg t)) x (Es t)).take 64) := by
          refine (g.symm.trans pmU).trans ?_
          have hz3 : insM (dE (tg t)) x (Es t) = (insM (dE (tg t)) x (Es t)).take 64 ++ [gE U (65 * t + f)] := by rw [← hz2]; exact hz1
          exact (List.Perm.of_eq hz3).trans (List.perm_append_singleton _ _)
        exact List.Perm.cons_inv p1
      have g232' : ∀ z, gk V' 232 z = gk U 232 z := fun z => gk_ext (fun i _ => w6.vI (by unfold PE; omega))
      refine ⟨V', w2, ens_upd h ⟨by rw [w5, if_pos rfl, hl64]; rfl, by rw [g232', g232]; exact hE.2.1, ⟨by omega, hsI.sublist (List.take_sublist _ _), fun y hy => okI y (List.mem_of_mem_take hy)⟩, by rw [hl64]; exact pm2⟩ (fun z hz hz2 => ?_), u5.trans w6⟩
      obtain ⟨o1, o2, o3⟩ := oth z hz hz2
      exact ⟨by rw [w5, if_neg hz]; exact o1, by rw [g232']; exact o2, fun j hj => by rw [w4, if_neg (by omega)]; exact o3 j hj⟩
end VENT2
