/-! what flies, and what is waited for -/
/-- whatever is closed under the steps of works stays so all along a run -/
def ClP (P : Wd → Prop) (N : Nat) (own : Nat → Ky) (sd : Nat → Int) (tm : Int) (p t : Nat) : Prop :=
  (∀ w, P w → P (dtW t w)) ∧ (∀ w ad ty key bd, P w → P (askY N own sd tm w p ad ty key bd (some t) none).1) ∧ (∀ w X, P w → P (setS w (fup (wS w) p X))) ∧ ∀ w tl, P w → P (setL w tl)
section CLP
variable {P : Wd → Prop} {m al N p t : Nat} {own : Nat → Ky} {sd : Nat → Int} {tm how : Int} {Y : Ys} {Lb : Nat → List Trm} {ev : Nat → Nat} {w : Wd}
theorem cl_lkOn {rc : Int} {tgt : Ky} {vals : Bool} (hc : ClP P N own sd tm p t) : ∀ (n : Nat) (s : LSt), P s.1 → P (lkOn m al N own sd tm p t rc tgt vals n s).2.1 := by
  intro n
  induction n with
  | zero => intro s h; exact h
  | succ n ih =>
    intro s h
    unfold lkOn
    split
    · exact h
    · split
      · exact h
      · split
        · exact h
        · exact ih _ (hc.2.1 _ _ _ _ _ h)
theorem cl_lok (hc : ClP P N own sd tm (yp Y t) t) (h : P (yw Y)) : P (yw (lokY m al N own sd tm t Y).2) := cl_lkOn hc 65 (lsY Y t) h
theorem cl_sto {lim : Nat} {x : Trm} (hc : ClP P N own sd tm p t) : ∀ (F : List Ent) (s : Wd × VV), P s.1 → P (F.foldl (stoN N own sd tm t p lim x) s).1 := by
  intro F
  induction F with
  | nil => intro s h; exact h
  | cons e F ih =>
    intro s h
    rw [List.foldl_cons]
    refine ih _ ?_
    unfold stoN
    split
    · split
      · exact hc.2.2.1 _ _ h
      · exact hc.2.2.2 _ _ h
    · exact hc.2.1 _ _ _ _ _ h
theorem cl_rf (hc : ClP P N own sd tm p t) (h : P (yw Y)) : P (yw (rfY m own t Y)) := by
  unfold rfY
  split
  · exact hc.1 _ h
  · exact hc.1 _ h
theorem cl_hld (hc : ClP P N own sd tm p t) (h : P (yw Y)) : P (yw (hldY m own t Y)) := by
  unfold hldY
  split
  · exact hc.1 _ h
  · unfold hldZ
    split
    · exact hc.1 _ h
    · exact hc.1 _ h
theorem cl_beh (hc : ClP P N own sd tm (yp Y t) t) (h : P (yw Y)) : P (yw (behY m N own sd tm Lb t Y)) := by
  unfold behY
  split
  · split
    · unfold brY; exact cl_rf hc h
    · exact cl_rf hc h
  · split
    · exact hc.1 _ h
    · split
      · exact cl_sto hc _ _ (hc.1 _ h)
      · exact cl_hld hc h
theorem cl_nxt (hc : ClP P N own sd tm p t) (h : P (yw Y)) : P (yw (nxtY m own Lb t Y)) := by
  unfold nxtY
  split
  · exact hc.1 _ h
  · exact hc.1 _ h
theorem cl_tm {more : Bool} {tl : List It} (hc : ClP P N own sd tm p t) (h : P (yw Y)) : P (yw (tmY t more tl Y)) := by
  unfold tmY
  split
  · exact h
  · split
    · exact hc.1 _ h
    · exact h
theorem cl_tc {tl : List It} (hc : ClP P N own sd tm p t) (h : P (yw Y)) : P (yw (tcY t tl Y)) := by
  unfold tcY
  split
  · exact h
  · split
    · split
      · exact hc.1 _ h
      · exact h
    · split
      · exact hc.1 _ h
      · exact h
theorem cl_askQ {ty : Int} {bd : List Int} (hc : ClP P N own sd tm (yp Y t) t) (h : P (yw Y)) : P (yw (askQ N own sd tm t ty bd Y)) := by
  unfold askQ
  split
  · exact hc.2.1 _ _ _ _ _ (hc.1 _ h)
  · exact hc.1 _ (hc.2.1 _ _ _ _ _ (hc.1 _ h))
theorem cl_qon (hc : ClP P N own sd tm (yp Y t) t) (h : P (yw Y)) : P (yw (qonY N own sd tm t Y).2) := by
  unfold qonY
  split
  · split
    · exact hc.1 _ h
    · exact cl_askQ hc h
  · split
    · split
      · exact cl_tm hc (hc.1 _ h)
      · exact cl_askQ hc h
    · split
      · exact cl_tc hc (hc.1 _ h)
      · exact cl_askQ hc h
theorem cl_pr (ht : t < 44) : ∀ (n : Nat) (Y : Ys), RunP (fun Y => LI N own Lb Y t ∧ sdY m N own tm Lb ev Y) m al N own sd tm Lb t n Y → ClP P N own sd tm (yp Y t) t → P (yw Y) → P (yw (prY m al N own sd tm Lb t n Y)) := by
  intro n
  induction n with
  | zero => intro Y hR; exact hR.elim
  | succ n ih =>
    intro Y hR hc hP
    obtain ⟨⟨hLI, hsd⟩, hR⟩ := hR
    by_cases g : yv Y 226 t = 0
    · rw [pr_0 g]; exact hP
    · obtain ⟨hR1, hR2, hR3⟩ := hR g
      conv => arg 1; arg 1; unfold prY
      rw [if_neg g]
      by_cases c1 : yv Y 230 t = 1
      · rw [if_pos c1]
        obtain ⟨⟨LI1, sd1⟩, hRb⟩ := hR1 c1
        have hL : P (yw (lokY m al N own sd tm t Y).2) := cl_lok hc hP
        cases hb : (lokY m al N own sd tm t Y).1 with
        | false => rw [if_neg Bool.false_ne_true]; exact hL
        | true =>
          rw [if_pos rfl]
          have gL : yv (lokY m al N own sd tm t Y).2 226 t ≠ 0 := by rw [lok_v (by decide)]; exact g
          have sL : yv (lokY m al N own sd tm t Y).2 230 t = 1 := by rw [lok_v (by decide)]; exact c1
          have pL : yp (lokY m al N own sd tm t Y).2 t = yp Y t := FT_p FT_lok
          have pB : yp (behY m N own sd tm Lb t (lokY m al N own sd tm t Y).2) t = yp Y t := (FT_p (FT_beh0 LI1.1 gL sL)).trans pL
          exact ih _ (hRb hb) (by rw [pB]; exact hc) (cl_beh (by rw [pL]; exact hc) hL)
      · rw [if_neg c1]
        by_cases c2 : yv Y 230 t = 2
        · rw [if_pos c2]
          by_cases c5 : yv Y 245 t = 0
          · rw [if_pos c5]
            exact ih _ (hR2 c2 c5) (by rw [FT_p FT_nxt]; exact hc) (cl_nxt hc hP)
          · rw [if_neg c5]; exact hP
        · rw [if_neg c2]
          obtain ⟨hh, _, ht12, _⟩ := wOK_q hLI.1 g c1 c2
          have fq : FT t Y (qonY N own sd tm t Y).2 := FT_qon (hh.2.2.1 ht12)
          cases hb : (qonY N own sd tm t Y).1 with
          | false => rw [if_neg Bool.false_ne_true]; exact cl_qon hc hP
          | true => rw [if_pos rfl]; exact ih _ (hR3 c1 c2 hb) (by rw [FT_p fq]; exact hc) (cl_qon hc hP)
end CLP
/-- what is so of a datagram that flies: where it comes from, whose key it bears -/
def okD (KL : List Ky) (d : Dg) : Prop := (0 ≤ d.1 ∧ d.1 < 32) ∧ kyP d.2.2.2 5 ∈ KL
def dueN (tm : Int) (fl : List Dg) : Nat := (fl.filter (fun d => decide (d.2.2.1 ≤ tm))).length
def PI (KL : List Ky) (tm : Int) (T0 : Nat → List Row) (k : Nat) (w : Wd) : Prop := stOK (wst w) ∧ (∀ d, d ∈ wfl w → okD KL d) ∧ dueN tm (wfl w) ≤ k ∧ (∀ q y, y ∈ wQ w q → kyP (qByt y) 5 ∈ KL) ∧ wT w = T0
section PIS
variable {KL : List Ky} {tm : Int} {T0 : Nat → List Row} {k N p t : Nat} {w : Wd} {own : Nat → Ky} {sd : Nat → Int} {ad ty : Int} {key : Ky} {bd l : List Int} {wk : Option Nat} {pb : Option Int}
theorem mem_insF {fl : List Dg} {x d : Dg} (h : d ∈ insF fl x) : d ∈ fl ∨ d = x := by
  unfold insF at h
  rcases List.mem_append.mp h with z | z
  · exact Or.inl (List.mem_of_mem_take z)
  · rcases List.mem_cons.mp z with z | z
    · exact Or.inr z
    · exact Or.inl (List.mem_of_mem_drop z)
theorem due_insF {fl : List Dg} {x : Dg} (h : tm < x.2.2.1) : dueN tm (insF fl x) = dueN tm fl := by
  unfold dueN insF
  rw [List.filter_append, List.filter_cons, if_neg (by rw [decide_eq_false (by omega)]; decide), ← List.filter_append, List.take_append_drop]
theorem arr_gt {st : Nat → Int} (h : stOK st) : tm < arr st tm := by
  unfold arr drw
  have h1 := h.2.1.1
  have h2 := h.2.2.1.1
  have h3 := (sdn_lo (st 10)).1
  have : 0 ≤ sdn (st 10) / 65536 % (st 2 + 1) := Int.emod_nonneg _ (by omega)
  omega
/-- one is sent -/
theorem PI_send (hp : p < 32) (hl : kyP l 5 ∈ KL) (h : PI KL tm T0 k w) : PI KL tm T0 k (sendY N sd tm w p ad l) := by
  obtain ⟨h1, h2, h3, h4, h5⟩ := h
  have o1 := dS_ok h1
  have o2 := dS_ok o1
  have o3 := dS_ok o2
  have hd : ∀ a, okD KL ((p : Int), ad, a, l) := fun a => ⟨⟨by omega, by show (p : Int) < 32; omega⟩, hl⟩
  have key : stOK (sndS (wst w) tm (wlo w) (wfl w) (apS N sd p ad) p ad l).1 ∧ (∀ d, d ∈ (sndS (wst w) tm (wlo w) (wfl w) (apS N sd p ad) p ad l).2.2 → okD KL d) ∧ dueN tm (sndS (wst w) tm (wlo w) (wfl w) (apS N sd p ad) p ad l).2.2 ≤ k := by
    unfold sndS
    split
    · exact ⟨h1, h2, h3⟩
    · split
      · exact ⟨o1, h2, h3⟩
      · split
        · split
          · refine ⟨o3, fun d hdm => ?_, by rw [due_insF (arr_gt o1)]; exact h3⟩
            rcases mem_insF hdm with z | z
            · exact h2 d z
            · rw [z]; exact hd _
          · refine ⟨dS_ok o3, fun d hdm => ?_, by rw [due_insF (arr_gt o3), due_insF (arr_gt o1)]; exact h3⟩
            rcases mem_insF hdm with z | z
            · rcases mem_insF z with z | z
              · exact h2 d z
              · rw [z]; exact hd _
            · rw [z]; exact hd _
        · refine ⟨o3, fun d hdm => ?_, by rw [due_insF (arr_gt o1)]; exact h3⟩
          rcases mem_insF hdm with z | z
          · exact h2 d z
          · rw [z]; exact hd _
  exact ⟨key.1, key.2.1, key.2.2, h4, h5⟩
theorem kyP5 {ty num : Int} {k : Ky} {r : List Int} (hk : kyo k) : kyP (hdB ty num (kf k) ++ r) 5 = k := kyP_kbs hk (fun i hi => by
  unfold hdB
  rw [getD_app, if_pos (by rw [List.length_append, List.length_append, be_len, be_len]; have : (kby (kf k)).length = 20 := kbs_len k; omega), getD_app, if_neg (by rw [List.length_append, be_len, be_len]; omega), List.length_append, be_len, be_len, show 5 + i - (1 + 4) = i from by omega]
  rfl)
/-- one is asked -/
theorem PI_ask (hp : p < 32) (hk : kyo (own p)) (ho : own p ∈ KL) (h : PI KL tm T0 k w) : PI KL tm T0 k (askY N own sd tm w p ad ty key bd wk pb).1 := by
  have hl : kyP (hdB ty (wnx w p : Int) (kf (own p)) ++ bd) 5 ∈ KL := by rw [kyP5 hk]; exact ho
  have s := PI_send (N := N) (sd := sd) (ad := ad) hp hl h
  unfold askY
  split
  · exact h
  · refine ⟨s.1, s.2.1, s.2.2.1, fun q y hy => ?_, s.2.2.2.2⟩
    by_cases c : q = p
    · rw [c] at hy
      have hy : y ∈ fup (wQ w) p (wQ w p ++ [newY (wnx w p) ad ty (tm + wst w 4) key (hdB ty (wnx w p : Int) (kf (own p)) ++ bd) wk pb]) p := hy
      rw [fup_eq] at hy
      rcases List.mem_append.mp hy with z | z
      · exact h.2.2.2.1 p y z
      · rw [List.mem_singleton.mp z]; exact hl
    · have hy : y ∈ fup (wQ w) p (wQ w p ++ [newY (wnx w p) ad ty (tm + wst w 4) key (hdB ty (wnx w p : Int) (kf (own p)) ++ bd) wk pb]) q := hy
      rw [fup_ne c] at hy
      exact h.2.2.2.1 q y hy
theorem PI_dt (h : PI KL tm T0 k w) : PI KL tm T0 k (dtW t w) := ⟨h.1, h.2.1, h.2.2.1, fun q y hy => by
  obtain ⟨z, hz, e⟩ := List.mem_map.mp (show y ∈ (wQ w q).map (dtQ t) from hy)
  rw [← e]; exact h.2.2.2.1 q z hz, h.2.2.2.2⟩
theorem PI_cl (hp : p < 32) (hk : kyo (own p)) (ho : own p ∈ KL) : ClP (PI KL tm T0 k) N own sd tm p t := ⟨fun _ h => PI_dt h, fun _ _ _ _ _ h => PI_ask hp hk ho h, fun _ _ h => h, fun _ _ h => h⟩
end PIS
