/-! an answer or a failure comes to a work, on both sides -/
section JRUN
variable {S : Nat → Bool} {M M1 : MM} {V V' W : VV} {m al N p t t' nb oth oth' oth0 Z Z' Z0 L L' k k' kx n F s K : Nat} {pa tk : Nat → Nat} {own : Nat → Ky} {sd ps sn pu rf : Nat → Int} {tm ad x1 : Int} {lf : Nat → Nat} {b0 B : Nat × Nat} {h h' : Gh} {eg : EG} {pb as : Nat → Option Nat} {mn sto : Nat → Int} {fa : Nat → Nat} {Y Y0 Y1 Ya Y' : Ys} {Lb : Nat → List Trm} {LA : Nat → List Nat} {dn : Nat → Int} {ev ev' ev0 tn tn1 tn' nS : Nat → Nat} {w w' : Wd} {KL : List Ky} {key : Ky} {l : List Int} {r : Option MM} {P : Wd → Prop}
theorem mu_ft (h : wOK N own Lb Y t') (f : FT t Y Y1) (hne : t' ≠ t) : mu own Y1 t' = mu own Y t' := by
  have g : ∀ x, (226 ≤ x ∧ x ≤ 264 ∧ x ≠ 250 ∧ x ≠ 252) → yv Y1 x t' = yv Y x t' := fun x y => f.2.2.1 x t' (by unfold wrT; omega)
  have gq := f.2.2.2.2.1 t' hne
  have yy : yp Y1 t' = yp Y t' := by unfold yp; rw [show vI (ys Y1) 228 t' = vI (ys Y) 228 t' from g 228 (by omega)]
  unfold mu
  rw [g 226 (by omega), g 227 (by omega), g 230 (by omega), g 242 (by omega), g 244 (by omega), g 247 (by omega), g 248 (by omega), g 254 (by omega), g 263 (by omega), g 264 (by omega), gq.2.2.2, yy]
  by_cases z1 : yv Y 226 t' = 0
  · rw [if_pos z1, if_pos z1]
  rw [if_neg z1, if_neg z1]
  by_cases z2 : yv Y 227 t' = 0 ∨ yv Y 227 t' = 4
  · rw [if_pos z2, if_pos z2]
  rw [if_neg z2, if_neg z2]
  by_cases z3 : yv Y 227 t' = 1
  · rw [if_pos z3, if_pos z3]
  rw [if_neg z3, if_neg z3]
  by_cases z4 : yv Y 227 t' = 2
  · rw [if_pos z4, if_pos z4]
  rw [if_neg z4, if_neg z4]
  by_cases z5 : yv Y 230 t' = 1
  · rw [if_pos z5, if_pos z5]
  rw [if_neg z5, if_neg z5]
  by_cases z6 : yv Y 230 t' = 3
  · rw [if_pos z6, if_pos z6]
  rw [if_neg z6, if_neg z6]
  by_cases z7 : yv Y 230 t' = 4
  · rw [if_pos z7, if_pos z7]
    have hq := (wOK_q h z1 (by omega) (by omega)).2.2.2.2.1
    have i2 := hq.2.2.1.1
    have i1 := hq.1
    have i3 := hq.2.2.1.2 _ (getD_mem (L := qO (yq Y) t') (j := if yv Y 247 t' = 1 then 0 else 1) (d := 0) (by split <;> omega))
    rw [f.2.2.2.2.2.2.1 _ (by omega)]
  · rw [if_neg z7, if_neg z7]
theorem FT_ans0 (hr : 3 ≤ yv Y 230 t → 0 ≤ yv Y 229 t) (h1 : 1 ≤ yv Y 230 t) : FT t Y (ans0 t key l Y) := by
  unfold ans0
  by_cases z : yv Y 230 t = 1
  · rw [if_pos z]; exact ⟨.refl, fun t' z => fup_ne z, .refl, ⟨rfl, rfl, rfl⟩, .refl⟩
  rw [if_neg z]
  by_cases z : yv Y 230 t = 2
  · rw [if_pos z]; exact FT_std
  rw [if_neg z]
  by_cases z : yv Y 230 t = 3
  · rw [if_pos z]; exact FT_tb
  rw [if_neg z]
  by_cases z : yv Y 230 t = 4
  · rw [if_pos z]; exact FT_tm (hr (by omega))
  rw [if_neg z]
  exact FT_tc (hr (by omega))
theorem FT_fai0 : FT t Y (fai0 t key Y) := by
  unfold fai0
  by_cases z : yv Y 230 t = 1
  · rw [if_pos z]; exact ⟨.refl, fun t' z => fup_ne z, .refl, ⟨rfl, rfl, rfl⟩, .refl⟩
  rw [if_neg z]
  by_cases z : yv Y 230 t = 2
  · rw [if_pos z]; exact FT_std
  rw [if_neg z]; exact FT_cl
theorem FT_6 (f : FT t Y Y1) (hne : t' ≠ t) : yv Y1 226 t' = yv Y 226 t' := f.2.2.1 226 t' (by unfold wrT; omega)
theorem cn_le (hE : EvI N ev w) (hp : p < N) : cnA p t w ≤ 1000 := by
  have := (hE p hp).2.2
  have := List.countP_le_length (p := fun y => decide (qWrk y = some t)) (l := wQ w p)
  unfold cnA
  omega
/-- stages, by kinds -/
theorem wOK_st (h : wOK N own Lb Y t) (hg : yv Y 226 t = 1) : (1 ≤ yv Y 230 t ∧ yv Y 230 t ≤ 5) ∧ (3 ≤ yv Y 230 t → 0 ≤ yv Y 229 t) := by
  have hh := h.2.2 hg
  rcases hh.2.2.2 with k | k | k | k
  · have := k.2.1; exact ⟨by omega, by omega⟩
  · have := k.2.1; exact ⟨by omega, by omega⟩
  · have := k.2.1; exact ⟨by omega, by omega⟩
  · have r := hh.2.1 k.2.1
    rcases k.2.2.2.2 with ⟨a, _⟩ | ⟨a, _⟩
    · exact ⟨by omega, fun _ => r⟩
    · have := a.2.1
      exact ⟨by omega, fun _ => r⟩
theorem tg_st {y : Rq} (h : qTyp y = tyS Y t) : tgQ y = if yv Y 230 t = 1 then 0 else 1 := by
  unfold tgQ
  rw [h]
  unfold tyS
  by_cases z : yv Y 230 t = 1
  · rw [if_pos z, if_pos z]
    unfold tyL
    rw [if_pos]
    split <;> decide
  · rw [if_neg z, if_neg z, if_neg]
    split
    · decide
    · split
      · decide
      · split <;> decide
/-- a work that goes has told nothing yet -/
def z9 (Y : Ys) (t : Nat) : Prop := yv Y 226 t ≠ 0 → yv Y 227 t ≠ 2 → yv Y 269 (yv Y 229 t).toNat = 0
theorem z9_fin (hw : wOK N own Lb Y' t) (h : (yv Y' 227 t = 0 ∨ yv Y' 227 t = 1 ∨ yv Y' 227 t = 4) → yv Y' 226 t ≠ 0 → yv Y' 269 (yv Y' 229 t).toNat = 0) : z9 Y' t := fun g k => by
  have g1 : yv Y' 226 t = 1 := by rcases hw.1 with q | q; exact absurd q g; exact q
  rcases (hw.2.2 g1).2.2.2 with q | q | q | q
  · exact h (by have := q.1; omega) g
  · exact h (by have := q.1; omega) g
  · exact absurd q.1 k
  · exact q.2.2.1
theorem z9_ev (hw0 : wOK N own Lb Y0 t) (hg : yv Y0 226 t = 1) (hy : yv Y0 230 t = 1 → ys Ya = ys Y0) (e7 : yv Y' 227 t = yv Y0 227 t) (e9 : yv Y' 229 t = yv Y0 229 t) (eY : Y' = prY m al N own sd tm Lb t n Ya) (hw : wOK N own Lb Y' t) (z : z9 Y0 t) : z9 Y' t := z9_fin hw (fun kk g => by
  rw [e7] at kk
  have s1 : yv Y0 230 t = 1 := by
    rcases (hw0.2.2 hg).2.2.2 with q | q | q | q
    · exact q.2.1
    · exact q.2.1
    · have := q.1; omega
    · have := q.1; omega
  have y := hy s1
  have ye : ∀ a i, yv Ya a i = yv Y0 a i := fun a i => by show vI (ys Ya) a i = vI (ys Y0) a i; rw [y]
  rw [eY] at g
  rw [e9, eY, pr_z9 n Ya (by rw [ye]; exact kk) (fun _ => by rw [ye]; exact s1) g, ye]
  exact z (by rw [hg]; decide) (by omega))
/-- what of the works' words stays, but at a start -/
def YR (Y Y' : Ys) : Prop := (∀ a i, (a = 227 ∨ a = 228 ∨ a = 229 ∨ a = 265 ∨ a = 266 ∨ a = 156) → yv Y' a i = yv Y a i) ∧ (∀ t, yv Y 226 t = 0 → yv Y' 226 t = 0) ∧ ∀ t, t < 12 → z9 Y t → z9 Y' t
theorem YR.refl : YR Y Y := ⟨fun _ _ _ => rfl, fun _ => id, fun _ _ => id⟩
theorem YR.trans (h : YR Y Y1) (h2 : YR Y1 Y') : YR Y Y' := ⟨fun a i z => (h2.1 a i z).trans (h.1 a i z), fun t z => h2.2.1 t (h.2.1 t z), fun t ht z => h2.2.2 t ht (h.2.2 t ht z)⟩
theorem YR_ft (f : FT t Y Y1) (hg : yv Y 226 t ≠ 0) (hrec : recY nb Y) (hh : hdW N Y t) (hz : t < 12 → z9 Y t → z9 Y1 t) : YR Y Y1 := by
  refine ⟨fun a i z => ?_, fun t' z => ?_, fun t' ht' z => ?_⟩
  · by_cases c : i = t
    · rcases z with z | z | z | z | z | z
      · rw [z, c]; exact f.2.2.2.1.1
      · rw [z, c]; exact f.2.2.2.1.2.1
      · rw [z, c]; exact f.2.2.2.1.2.2
      · exact f.2.2.1 a i (by unfold wrT; omega)
      · exact f.2.2.1 a i (by unfold wrT; omega)
      · exact f.2.2.1 a i (by unfold wrT; omega)
    · exact f.2.2.1 a i (by unfold wrT; omega)
  · by_cases c : t' = t
    · rw [c] at z; exact absurd z hg
    · rw [FT_6 f c]; exact z
  · by_cases c : t' = t
    · rw [c] at z ⊢; exact hz (by omega) z
    · intro g k
      have e : ∀ a, 226 ≤ a → a ≤ 229 → yv Y1 a t' = yv Y a t' := fun a h1 h2 => f.2.2.1 a t' (by unfold wrT; omega)
      rw [e 226 (by omega) (by omega)] at g
      rw [e 227 (by omega) (by omega)] at k
      rw [e 229 (by omega) (by omega)]
      refine (f.2.2.1 269 _ ?_).trans (z g k)
      have r1 := (hrec.2 t' ht' g).1
      have ne := rec_ne hrec hh c
      unfold wrT
      intro w
      by_cases t12 : 12 ≤ t
      · have := (hh.2.2.2 t12).1; omega
      · have := (hrec.2 t (by omega) hg).2.2 t' ht' c g
        omega
/-- a peer that has nothing -/
def Em (w : Wd) (q : Nat) : Prop := wT w q = [] ∧ wS w q = [] ∧ wQ w q = []
/-- other peers that have nothing go on so -/
def EQ (p : Nat) (w w' : Wd) : Prop := ∀ q, q ≠ p → Em w q → Em w' q
theorem EQ.refl : EQ p w w := fun _ _ h => h
theorem EQ.trans {w2 : Wd} (h : EQ p w w') (h2 : EQ p w' w2) : EQ p w w2 := fun q hq e => h2 q hq (h q hq e)
theorem EQ_T {T' : List Row} : EQ p w (setT w (fup (wT w) p T')) := fun q hq h => ⟨(fup_ne hq).trans h.1, h.2.1, h.2.2⟩
theorem EQ_S {T' : List Post} : EQ p w (setS w (fup (wS w) p T')) := fun q hq h => ⟨h.1, (fup_ne hq).trans h.2.1, h.2.2⟩
theorem EQ_Q {T' : List Rq} : EQ p w (setQ w (fup (wQ w) p T')) := fun q hq h => ⟨h.1, h.2.1, (fup_ne hq).trans h.2.2⟩
theorem EQ_ask {ty : Int} {bd : List Int} {wk : Option Nat} {pr : Option Int} : EQ p w (askY N own sd tm w p ad ty key bd wk pr).1 := by
  unfold askY
  split
  · exact .refl
  · exact fun q hq h => ⟨h.1, h.2.1, (fup_ne hq).trans h.2.2⟩
theorem EQ_see : EQ p w (seeY m N own sd tm w p key ad) := by
  unfold seeY
  split
  · split
    · exact EQ_T.trans EQ_ask
    · exact EQ_T
  · exact EQ_T
theorem EQ_ans {l : List Int} : EQ p w (ansZ m N own sd tm w p ad key l) := by
  have e : EQ p w (ansW tm w p l).1 := by
    unfold ansW
    split
    · split
      · exact EQ_S
      · exact .refl
    · exact .refl
  unfold ansZ
  split
  · exact e
  · exact e
theorem EQ_cl {w0 : Wd} : ClP (EQ p w0) N own sd tm p t := by
  refine ⟨fun w h => h.trans (fun q hq e => ⟨e.1, e.2.1, ?_⟩), fun w ad ty key bd h => h.trans EQ_ask, fun w X h => h.trans EQ_S, fun w tl h => h⟩
  show (wQ w q).map (dtQ t) = []
  rw [e.2.2]; rfl
/-- what both sides have after an event of a work -/
def JE (r : Option MM) (r2 : Option VV) (M : MM) (V : VV) (m al N : Nat) (pa : Nat → Nat) (own : Nat → Ky) (sd ps sn pu rf : Nat → Int) (tm : Int) (tk : Nat → Nat) (pb as : Nat → Option Nat) (nb : Nat) (Lb : Nat → List Trm) (LA : Nat → List Nat) (dn : Nat → Int) (KL : List Ky) (k Z : Nat) (ev : Nat → Nat) (oth K : Nat) (nS : Nat → Nat) (B : Nat × Nat) (Y0 : Ys) (t : Nat) (w : Wd) : Prop :=
  ∃ M' V' Y' h lf b0 eg mn sto fa tn, r = some M' ∧ r2 = some V' ∧ JX M' V' m al N pa own sd ps sn pu rf tm tk pb as nb Lb LA dn KL k h lf b0 eg mn sto fa Z ev oth tn Y' ∧ CTR N own nb K nS B lf b0 Z ev oth tn Y' ∧ FK F11 M M' ∧ KpV V V' ∧ YR Y0 Y' ∧ ∀ P : Wd → Prop, ClP P N own sd tm (yp Y0 t) t → P w → P (yw Y')
/-- an answer -/
theorem j_ans (hN : 12 + N ≤ 44) (hal : al ≤ 8) (ht : t < 12 + N) (hw : ∀ t, t < 44 → wE N own Lb Y0 t) (h44 : ∀ t', t' < 44 → 12 + N ≤ t' → yv Y0 226 t' = 0) (h6 : KL.length ≤ 96) (h7 : ∀ p, p < N → own p ∈ KL ∧ okTK KL (wT (yw Y0) p)) (hE0 : EvI N ev (yw Y0)) (hCT : CTR N own nb K nS B lf b0 Z0 ev0 oth0 tn Y0) (hK : K ≤ 130000000) (hnS : nS t ≤ 70000) (hO2 : sumN ev' N + oth + 3 * K ≤ sumN ev0 N + oth0 + 3 * (K + 1)) (hZ2 : Z + 2 * K ≤ Z0 + 2 * (K + 1)) (hB : bdg N ev' oth)
    (c1 : CW M m al N pa own sd ps sn pu rf tm lf b0 eg tk pb as nb mn fa Lb LA dn sto (setW Y0 w) h) (c2 : VY V m al N own sd ps sn pu rf tm Lb oth Z ev' tn (setW Y0 w)) (c3 : ∀ t', t' < 44 → t' ≠ t → wE N own Lb (setW Y0 w) t') (c4 : PI KL tm (wT (yw Y0)) k w) (hr : rmR t Y0 (setW Y0 w)) (hg : yv Y0 226 t = 1)
    (hq : PkC M 22 l) (hI : InV V l) (hb : isBL l) (hwl : wellL l = true) (hty : l.getD 0 0 = tyS Y0 t + 1) (hx1 : x1 = if yv Y0 230 t = 1 then 0 else 1) (hk : isK M kx) (hkx : kd M kx ≠ (3, 30) ∧ kd M kx ≠ (3, 12)) (hkey : ky (kC M kx) = key) (h22 : mo M 22 = 9 ∧ mo M 23 = 9) (hs : s < 1280) (hkv : gk V 200 (5 * s) = key) :
    JE (f_X11_answered ((wa pa t : Nat) : Int) x1 (kx : Int) ((22 : Nat) : Int) M) (f_X16_answered (t : Int) (s : Int) V) M V m al N pa own sd ps sn pu rf tm tk pb as nb Lb LA dn KL k Z ev' oth (K + 1) nS B Y0 t w := by
  have t44 : t < 44 := by omega
  have wt := hw t t44
  have hg0 : yv Y0 226 t ≠ 0 := by omega
  have ct := hCT.1 t t44
  have m1 := mu_le wt.1
  have pN : yp Y0 t < N := by
    have g := (wt.1.2.2 hg).1.1
    unfold yp
    have g1 : 0 ≤ vI (ys Y0) 228 t := g.1
    have g2 : vI (ys Y0) 228 t < (N : Int) := g.2
    omega
  have hh : hdW N Y0 t := by
    obtain ⟨a, b, c, _⟩ := wt.1.2.2 hg
    exact ⟨hg, a, b, c⟩
  have hst := wOK_st wt.1 hg
  have eT : wT w = wT (yw Y0) := c4.2.2.2.2
  obtain ⟨V', tn1, tn', a1, a2, a3, a4, a5, a6⟩ := v_answered (s := s) c2 hB hal t44 (by omega) (by omega) hs hkv hI hb hwl hr wt hg0 hty (cn_le hE0 pN)
  have g := c_answered (n := 2000) hB hal ht hN c1 (fun t ht z1 z2 => wE_h3 (Y := Y0) hN hw t ht z1 z2) hr wt hg0 hq hb hI.2.1 hwl hty hx1 hk hkx hkey h22 a6 (by omega) (by omega) (by omega)
  have f0 : FT t (setW Y0 w) (ans0 t key l (setW Y0 w)) := FT_ans0 hst.2 hst.1.1
  have okp : kyo (own (yp Y0 t)) := (c2.2.1.2.2.2 (yp Y0 t) pN).1
  have hcl : ClP (PI KL tm (wT (yw Y0)) k) N own sd tm (yp Y0 t) t := PI_cl (by have := hB.2; omega) okp (h7 _ pN).1
  have hPI : PI KL tm (wT (yw (setW Y0 w))) k (yw (prY m al N own sd tm Lb t 2000 (ans0 t key l (setW Y0 w)))) := by
    rw [show wT (yw (setW Y0 w)) = wT (yw Y0) from eT]
    refine cl_pr t44 2000 _ a6 ?_ (cl_ans0 hcl c4)
    rw [FT_p f0]; exact hcl
  obtain ⟨M', h', lf', b0', eg', mn', sto', fa', e1, e2, e3, ⟨e4, e5, e6⟩, e7⟩ := j_ran hN ht c1.1.2.2.2.1 hh c3 h44 ⟨h6, fun q hq => ⟨(h7 q hq).1, by show okTK KL (wT w q); rw [eT]; exact (h7 q hq).2⟩⟩ hPI f0 a3 g
  refine ⟨M', V', _, h', lf', b0', eg', mn', sto', fa', tn', e1, a1, e2, ?_, e3, a2, YR_ft (Y := setW Y0 w) (f0.trans a3.2.2.2.2.2.2) hg0 c1.1.2.2.2.1 hh (fun _ z => z9_ev (Y0 := Y0) wt.1 hg (fun s1 => by unfold ans0; rw [if_pos (show yv (setW Y0 w) 230 t = 1 from s1)]; rfl) (f0.trans a3.2.2.2.2.2.2).2.2.2.1.1 (f0.trans a3.2.2.2.2.2.2).2.2.2.1.2.2 rfl a3.2.2.2.2.2.1.1 z), fun P hc hw => cl_pr t44 2000 _ a6 (by rw [FT_p f0]; exact hc) (cl_ans0 hc hw)⟩
  obtain ⟨_, _, b3, b4, b5, b6, b7⟩ := a3
  have fa := f0.trans b7
  have a4a := a4.1
  have a4b := a4.2
  exact CTR_run (Y := Y0) t44 hCT (by omega) hO2 hZ2 hg0 (fun t' q hne => by rw [mu_ft (c3 t' q hne).1 fa hne, mu_setW]) (fun t' hne => (FT_6 fa hne).trans rfl) (fun z hz => (b3 z hz).trans (a4a z hz)) e4 (by omega) (by omega) e7
/-- a failure -/
theorem j_fai (hN : 12 + N ≤ 44) (hal : al ≤ 8) (ht : t < 12 + N) (hw : ∀ t, t < 44 → wE N own Lb Y0 t) (h44 : ∀ t', t' < 44 → 12 + N ≤ t' → yv Y0 226 t' = 0) (h6 : KL.length ≤ 96) (h7 : ∀ p, p < N → own p ∈ KL ∧ okTK KL (wT (yw Y0) p)) (hE0 : EvI N ev (yw Y0)) (hCT : CTR N own nb K nS B lf b0 Z0 ev0 oth0 tn Y0) (hK : K ≤ 130000000) (hnS : nS t ≤ 70000) (hO2 : sumN ev' N + oth + 3 * K ≤ sumN ev0 N + oth0 + 3 * (K + 1)) (hZ2 : Z + 2 * K ≤ Z0 + 2 * (K + 1)) (hB : bdg N ev' oth)
    (c1 : CW M m al N pa own sd ps sn pu rf tm lf b0 eg tk pb as nb mn fa Lb LA dn sto (setW Y0 w) h) (c2 : VY V m al N own sd ps sn pu rf tm Lb oth Z ev' tn (setW Y0 w)) (c3 : ∀ t', t' < 44 → t' ≠ t → wE N own Lb (setW Y0 w) t') (c4 : PI KL tm (wT (yw Y0)) k w) (hr : rmR t Y0 (setW Y0 w)) (hg : yv Y0 226 t = 1)
    (hx1 : x1 = if yv Y0 230 t = 1 then 0 else 1) (hk : isK M kx) (hkey : ky (kC M kx) = key) (hs : s < 1280) (hkv : gk V 200 (5 * s) = key) :
    JE (f_X11_failed ((wa pa t : Nat) : Int) x1 (kx : Int) M) (f_X16_failed (t : Int) (s : Int) V) M V m al N pa own sd ps sn pu rf tm tk pb as nb Lb LA dn KL k Z ev' oth (K + 1) nS B Y0 t w := by
  have t44 : t < 44 := by omega
  have wt := hw t t44
  have hg0 : yv Y0 226 t ≠ 0 := by omega
  have ct := hCT.1 t t44
  have m1 := mu_le wt.1
  have pN : yp Y0 t < N := by
    have g := (wt.1.2.2 hg).1.1
    unfold yp
    have g1 : 0 ≤ vI (ys Y0) 228 t := g.1
    have g2 : vI (ys Y0) 228 t < (N : Int) := g.2
    omega
  have hh : hdW N Y0 t := by
    obtain ⟨a, b, c, _⟩ := wt.1.2.2 hg
    exact ⟨hg, a, b, c⟩
  have hst := wOK_st wt.1 hg
  have eT : wT w = wT (yw Y0) := c4.2.2.2.2
  obtain ⟨V', tn1, tn', a1, a2, a3, a4, a5, a6⟩ := v_failed (s := s) c2 hB hal t44 (by omega) (by omega) hs hkv hr wt hg0 (cn_le hE0 pN)
  have g := c_failed (n := 2000) hB hal ht hN c1 (fun t ht z1 z2 => wE_h3 (Y := Y0) hN hw t ht z1 z2) hr wt hg0 hx1 hk hkey a6 (by omega) (by omega) (by omega)
  have f0 : FT t (setW Y0 w) (fai0 t key (setW Y0 w)) := FT_fai0
  have okp : kyo (own (yp Y0 t)) := (c2.2.1.2.2.2 (yp Y0 t) pN).1
  have hcl : ClP (PI KL tm (wT (yw Y0)) k) N own sd tm (yp Y0 t) t := PI_cl (by have := hB.2; omega) okp (h7 _ pN).1
  have hPI : PI KL tm (wT (yw (setW Y0 w))) k (yw (prY m al N own sd tm Lb t 2000 (fai0 t key (setW Y0 w)))) := by
    rw [show wT (yw (setW Y0 w)) = wT (yw Y0) from eT]
    refine cl_pr t44 2000 _ a6 ?_ (cl_fai0 hcl c4)
    rw [FT_p f0]; exact hcl
  obtain ⟨M', h', lf', b0', eg', mn', sto', fa', e1, e2, e3, ⟨e4, e5, e6⟩, e7⟩ := j_ran hN ht c1.1.2.2.2.1 hh c3 h44 ⟨h6, fun q hq => ⟨(h7 q hq).1, by show okTK KL (wT w q); rw [eT]; exact (h7 q hq).2⟩⟩ hPI f0 a3 g
  refine ⟨M', V', _, h', lf', b0', eg', mn', sto', fa', tn', e1, a1, e2, ?_, e3, a2, YR_ft (Y := setW Y0 w) (f0.trans a3.2.2.2.2.2.2) hg0 c1.1.2.2.2.1 hh (fun _ z => z9_ev (Y0 := Y0) wt.1 hg (fun s1 => by unfold fai0; rw [if_pos (show yv (setW Y0 w) 230 t = 1 from s1)]; rfl) (f0.trans a3.2.2.2.2.2.2).2.2.2.1.1 (f0.trans a3.2.2.2.2.2.2).2.2.2.1.2.2 rfl a3.2.2.2.2.2.1.1 z), fun P hc hw => cl_pr t44 2000 _ a6 (by rw [FT_p f0]; exact hc) (cl_fai0 hc hw)⟩
  obtain ⟨_, _, b3, b4, b5, b6, b7⟩ := a3
  have fa := f0.trans b7
  have a4a := a4.1
  have a4b := a4.2
  exact CTR_run (Y := Y0) t44 hCT (by omega) hO2 hZ2 hg0 (fun t' q hne => by rw [mu_ft (c3 t' q hne).1 fa hne, mu_setW]) (fun t' hne => (FT_6 fa hne).trans rfl) (fun z hz => (b3 z hz).trans (a4a z hz)) e4 (by omega) (by omega) e7
end JRUN
