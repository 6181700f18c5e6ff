/-! what is counted -/
section COUNT
variable {N t : Nat} {own : Nat → Ky} {Lb : Nat → List Trm} {Y Y' : Ys} {w : Wd}
theorem mu_le (h : wOK N own Lb Y t) : mu own Y t ≤ 1403 := by
  rcases h.1 with z | z
  · unfold mu; rw [if_pos z]; omega
  · rcases (h.2.2 z).2.2.2 with k | k | k | k
    · obtain ⟨k1, k2, k3, k4, k5⟩ := k
      unfold mu
      rw [if_neg (by omega), if_pos k1]
      split <;> omega
    · obtain ⟨k1, k2, k3⟩ := k
      unfold mu
      rw [if_neg (by omega), if_neg (by omega), if_pos k1]
      omega
    · obtain ⟨k1, k2, k3, k4, k5⟩ := k
      rw [mu_2 k1, if_neg (by omega)]
      split <;> omega
    · obtain ⟨k1, k2, k3, k4, k5⟩ := k
      rcases k5 with ⟨a, b, c⟩ | ⟨a, b⟩
      · rw [mu_q k1 z, if_pos a]; omega
      · by_cases c4 : yv Y 230 t = 4
        · have := mu_q4 k1 z a c4; omega
        · obtain ⟨q1, q2, q3, q4, q5, q6, q7, q8, q9, q10, q11⟩ := a
          rw [mu_q k1 z, if_neg (by omega)]
          by_cases c3 : yv Y 230 t = 3
          · rw [if_pos c3]; omega
          · rw [if_neg c3, if_neg c4]
            have c5 : yv Y 230 t = 5 := by omega
            have r1 := (q10 c5).2.1.1
            have r2 : (if yv Y 263 t = 0 then 300 else 0) ≤ 300 := by split <;> omega
            omega
theorem mu_setW : mu own (setW Y w) t = mu own Y t := by unfold mu; rfl
/-- works of the callers that go -/
def goN (Y : Ys) : Nat := sumN (fun t => if yv Y 226 t = 0 then 0 else 1) 12
theorem goN_setW : goN (setW Y w) = goN Y := rfl
/-- K events so far, nS t starts of the work t -/
def CTR (N : Nat) (own : Nat → Ky) (nb K : Nat) (nS : Nat → Nat) (B : Nat × Nat) (lf : Nat → Nat) (b0 : Nat × Nat) (Z : Nat) (ev : Nat → Nat) (oth : Nat) (tn : Nat → Nat) (Y : Ys) : Prop :=
  (∀ t, t < 44 → tn t + 2 * mu own Y t ≤ 5 * K + 4000 * nS t ∧ lf t + 2 * mu own Y t ≤ 5 * K + 4000 * nS t) ∧ sumN ev N + oth ≤ 3 * K ∧ Z ≤ 2 * K ∧ ∃ c, c + goN Y ≤ nb ∧ b0.1 ≤ B.1 + c ∧ b0.2 ≤ B.2 + 180 * c
variable {nb K K' oth oth' Z Z' : Nat} {nS lf lf' ev ev' tn tn' : Nat → Nat} {B b0 b0' : Nat × Nat}
/-- an event of the peers' part -/
theorem CTR_w (h : CTR N own nb K nS B lf b0 Z ev oth tn Y) (hK : K ≤ K') (ho : sumN ev' N + oth' + 3 * K ≤ sumN ev N + oth + 3 * K') (hZ : Z' + 2 * K ≤ Z + 2 * K') : CTR N own nb K' nS B lf b0 Z' ev' oth' tn (setW Y w) := by
  obtain ⟨h1, h2, h3, h4⟩ := h
  refine ⟨fun t ht => ?_, by omega, by omega, h4⟩
  rw [mu_setW]
  have := h1 t ht
  omega
theorem sumN_up {f g : Nat → Nat} (t : Nat) (h : ∀ i, i ≠ t → f i = g i) : ∀ n, sumN f n + (if t < n then g t else 0) = sumN g n + (if t < n then f t else 0)
  | 0 => rfl
  | n + 1 => by
    have ih := sumN_up t h n
    show sumN f n + f n + _ = sumN g n + g n + _
    by_cases c : t = n
    · subst c
      rw [if_neg (Nat.lt_irrefl t), if_neg (Nat.lt_irrefl t)] at ih
      rw [if_pos (by omega), if_pos (by omega)]
      omega
    · rw [h n (fun q => c q.symm)]
      by_cases c2 : t < n
      · rw [if_pos c2, if_pos c2] at ih
        rw [if_pos (by omega), if_pos (by omega)]; omega
      · rw [if_neg c2, if_neg c2] at ih
        rw [if_neg (by omega), if_neg (by omega)]; omega
/-- goings of other works stay -/
theorem goN_ft (h : ∀ t', t' ≠ t → yv Y' 226 t' = yv Y 226 t') : goN Y' + (if t < 12 ∧ yv Y 226 t ≠ 0 then 1 else 0) = goN Y + (if t < 12 ∧ yv Y' 226 t ≠ 0 then 1 else 0) := by
  have s := sumN_up (f := fun t => if yv Y' 226 t = 0 then 0 else 1) (g := fun t => if yv Y 226 t = 0 then 0 else 1) t (fun i hi => by rw [h i hi]) 12
  by_cases c : t < 12
  · rw [if_pos c, if_pos c] at s
    unfold goN
    rw [show (if t < 12 ∧ yv Y 226 t ≠ 0 then 1 else 0) = (if yv Y 226 t = 0 then 0 else 1) by by_cases z : yv Y 226 t = 0 <;> simp [z, c], show (if t < 12 ∧ yv Y' 226 t ≠ 0 then 1 else 0) = (if yv Y' 226 t = 0 then 0 else 1) by by_cases z : yv Y' 226 t = 0 <;> simp [z, c]]
    exact s
  · rw [if_neg c, if_neg c] at s
    rw [if_neg (fun q => c q.1), if_neg (fun q => c q.1)]
    exact s
/-- a work has run -/
theorem CTR_run (ht : t < 44) (h : CTR N own nb K nS B lf b0 Z ev oth tn Y) (hK : K ≤ K') (ho : sumN ev' N + oth' + 3 * K ≤ sumN ev N + oth + 3 * K') (hZ : Z' + 2 * K ≤ Z + 2 * K') (hg : yv Y 226 t ≠ 0) (hm : ∀ t', t' < 44 → t' ≠ t → mu own Y' t' = mu own Y t') (h6 : ∀ t', t' ≠ t → yv Y' 226 t' = yv Y 226 t') (ht1 : ∀ z, z ≠ t → tn' z = tn z) (hl1 : ∀ z, z ≠ t → lf' z = lf z) (ht2 : tn' t + 2 * mu own Y' t ≤ tn t + 2 * mu own Y t + 5 * (K' - K)) (hl2 : lf' t + 2 * mu own Y' t ≤ lf t + 2 * mu own Y t + 5 * (K' - K)) (hb : BS b0 b0' Y' t) : CTR N own nb K' nS B lf' b0' Z' ev' oth' tn' Y' := by
  obtain ⟨h1, h2, h3, c, c1, c2, c3⟩ := h
  have gn := goN_ft (Y := Y) h6
  refine ⟨fun t' ht' => ?_, by omega, by omega, ?_⟩
  · have q := h1 t' ht'
    by_cases e : t' = t
    · rw [e] at q ⊢; omega
    · rw [ht1 t' e, hl1 t' e, hm t' ht' e]; omega
  · rcases hb with rfl | ⟨rfl, z, z2⟩
    · refine ⟨c, ?_, c2, c3⟩
      by_cases q : t < 12
      · rw [if_pos ⟨q, hg⟩] at gn
        have : (if t < 12 ∧ yv Y' 226 t ≠ 0 then 1 else 0) ≤ 1 := by split <;> omega
        omega
      · rw [if_neg (fun r => q r.1), if_neg (fun r => q r.1)] at gn; omega
    · rw [if_pos ⟨z2, hg⟩, if_neg (fun r => r.2 z)] at gn
      exact ⟨c + 1, by omega, by show b0.1 + 1 ≤ _; omega, by show b0.2 + 180 ≤ _; omega⟩
theorem CTR_bdg (h : CTR N own nb K nS B lf b0 Z ev oth tn Y) (hN : N ≤ 32) (hK : K ≤ 130000000) : bdg N ev oth := ⟨by have := h.2.1; omega, hN⟩
end COUNT
section ZNINE
variable {m al N t t' n nb : Nat} {own : Nat → Ky} {sd : Nat → Int} {tm : Int} {Lb : Nat → List Trm} {Y Y1 : Ys}
theorem pr_dead (h : yv Y 226 t = 0) : ∀ n, prY m al N own sd tm Lb t n Y = Y
  | 0 => rfl
  | _ + 1 => pr_0 h
theorem rf_227 (a : Nat) (ha : a ≠ 226 ∧ a ≠ 267 ∧ a ≠ 230) : yv (rfY m own t Y) a t = yv Y a t := by
  unfold rfY
  split
  · exact clS_ne (by omega) (by omega)
  · exact lk_v (by omega)
theorem rf_st (h : yv (rfY m own t Y) 226 t ≠ 0) : yv (rfY m own t Y) 230 t = 1 := by
  unfold rfY at h ⊢
  split at h
  · exact absurd clS_0 h
  · rename_i c
    rw [if_neg c]; exact lk_1
/-- a work of kinds 0, 1, 4 tells nothing while it goes -/
theorem pr_z9 : ∀ (n : Nat) (Y : Ys), (yv Y 227 t = 0 ∨ yv Y 227 t = 1 ∨ yv Y 227 t = 4) → (yv Y 226 t ≠ 0 → yv Y 230 t = 1) → yv (prY m al N own sd tm Lb t n Y) 226 t ≠ 0 → ∀ r, yv (prY m al N own sd tm Lb t n Y) 269 r = yv Y 269 r
  | 0, Y => fun _ _ _ _ => rfl
  | n + 1, Y => fun hk hs hg r => by
    by_cases c : yv Y 226 t = 0
    · rw [pr_dead c]
    · have s1 := hs c
      unfold prY at hg ⊢
      rw [if_neg c, if_pos s1] at hg ⊢
      by_cases d : (lokY m al N own sd tm t Y).1 = true
      · rw [if_pos d] at hg ⊢
        obtain ⟨YL, hYL⟩ : ∃ YL, YL = (lokY m al N own sd tm t Y).2 := ⟨_, rfl⟩
        have vL : ∀ a i, a ≠ 268 → yv YL a i = yv Y a i := fun a i z => by rw [hYL]; exact lok_v z
        rw [← hYL] at hg ⊢
        have kL : yv YL 227 t = yv Y 227 t := vL _ _ (by decide)
        by_cases k1 : yv Y 227 t = 1
        · have e : yv (behY m N own sd tm Lb t YL) 226 t = 0 := by
            unfold behY
            rw [if_neg (by omega), if_pos (by omega)]
            exact clS_0
          rw [pr_dead e] at hg
          exact absurd e hg
        · have kk : yv YL 227 t = 0 ∨ yv YL 227 t = 4 := by omega
          have eb : ∃ Yx, behY m N own sd tm Lb t YL = rfY m own t Yx ∧ yv Yx 227 t = yv YL 227 t ∧ ∀ r, yv Yx 269 r = yv YL 269 r := by
            unfold behY
            rw [if_pos kk]
            by_cases q : yv YL 242 t < 0
            · rw [if_pos q]
              refine ⟨_, rfl, ?_, fun r => ?_⟩
              · show vI (st2 (st2 (ys YL) 241 t _) 242 t 0) 227 t = _
                rw [vI_ne (by omega), vI_ne (by omega)]
              · show vI (st2 (st2 (ys YL) 241 t _) 242 t 0) 269 r = _
                rw [vI_ne (by omega), vI_ne (by omega)]
            · rw [if_neg q]
              exact ⟨_, rfl, vI_ne (by omega), fun r => vI_ne (by omega)⟩
          obtain ⟨Yx, e1, e2, e3⟩ := eb
          rw [e1] at hg ⊢
          rw [pr_z9 n (rfY m own t Yx) (by rw [rf_227 227 (by decide)]; omega) rf_st hg r, rf_269, e3, vL _ _ (by decide)]
      · rw [if_neg d]; exact lok_v (by decide)
end ZNINE
