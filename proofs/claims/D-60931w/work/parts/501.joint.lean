/-! both sides at once -/
def JX (M : MM) (V : VV) (m al N : Nat) (pa : Nat → Nat) (own : Nat → Ky) (sd ps sn pu rf : Nat → Int) (tm : Int) (tk : Nat → Nat) (pb as : Nat → Option Nat) (nb : Nat) (Lb : Nat → List Trm) (LA : Nat → List Nat) (dn : Nat → Int) (KL : List Ky) (k : Nat) (h : Gh) (lf : Nat → Nat) (b0 : Nat × Nat) (eg : EG) (mn sto : Nat → Int) (fa : Nat → Nat) (Z : Nat) (ev : Nat → Nat) (oth : Nat) (tn : Nat → Nat) (Y : Ys) : Prop :=
  CW M m al N pa own sd ps sn pu rf tm lf b0 eg tk pb as nb mn fa Lb LA dn sto Y h ∧ VY V m al N own sd ps sn pu rf tm Lb oth Z ev tn Y ∧ (∀ t, t < 44 → wE N own Lb Y t) ∧ (∀ t, t < 44 → 12 + N ≤ t → yv Y 226 t = 0) ∧ PI KL tm (wT (yw Y)) k (yw Y) ∧ KL.length ≤ 96 ∧ ∀ p, p < N → own p ∈ KL ∧ okTK KL (wT (yw Y) p)
/-- what a step of the peers' part may do to a state -/
def OKw (N : Nat) (own : Nat → Ky) (tm : Int) (KL : List Ky) (k : Nat) (ev : Nat → Nat) (w w' : Wd) : Prop :=
  okW N own tm w' ∧ EvI N ev w' ∧ PI KL tm (wT w') k w' ∧ (∀ p, p < N → okTK KL (wT w' p)) ∧ ∀ t q, t < 44 → rqv t (wQ w' q) = rqv t (wQ w q)
section JOINT
variable {S : Nat → Bool} {M M1 : MM} {V W : VV} {m al N p t nb oth oth' Z Z' L' k k' kx : Nat} {pa tk : Nat → Nat} {own : Nat → Ky} {sd ps sn pu rf : Nat → Int} {tm ad : Int} {lf : Nat → Nat} {b0 : Nat × Nat} {h h' : Gh} {eg : EG} {pb as : Nat → Option Nat} {mn sto : Nat → Int} {fa : Nat → Nat} {Y : Ys} {Lb : Nat → List Trm} {LA : Nat → List Nat} {dn : Nat → Int} {ev ev' tn : Nat → Nat} {w w' : Wd} {KL : List Ky} {key : Ky} {l : List Int} {T' : List Row}
theorem wE_h3 (hN : 12 + N ≤ 44) (hw : ∀ t, t < 44 → wE N own Lb Y t) : ∀ t, t < 12 + N → yv Y 226 t ≠ 0 → yv Y 227 t = 3 → yv Y 247 t ≤ 3 := fun t ht z1 z2 => by
  rcases (wOK_hd (hw t (by omega)).1 z1).2 with k | k | k | ⟨k1, k2, k3, k4, k5⟩
  · omega
  · omega
  · omega
  · exact k4.2
theorem JX_w (hJ : JX M V m al N pa own sd ps sn pu rf tm tk pb as nb Lb LA dn KL k h lf b0 eg mn sto fa Z ev oth tn Y) (hN : 12 + N ≤ 44) (hp : CPs M1 m al N pa own sd ps sn pu rf tm lf (eb b0 eg (12 + N)) w h') (f : FK S M M1) (hs : S 4 = false ∧ S 6 = false ∧ S 11 = false ∧ S 12 = false ∧ S 13 = false ∧ S 14 = false) (fV : FrV G5 V W) (hP : VP W m al N own sd ps sn pu rf tm w L' Z') (hL : L' ≤ 2 * (sumN (wnx w) N + oth')) (hO : OKw N own tm KL k' ev' (yw Y) w) : JX M1 W m al N pa own sd ps sn pu rf tm tk pb as nb Lb LA dn KL k' h' lf b0 eg mn sto fa Z' ev' oth' tn (setW Y w) := by
  obtain ⟨j1, j2, j3, j4, j5, j6, j7⟩ := hJ
  obtain ⟨o1, o2, o3, o4, o5⟩ := hO
  exact ⟨CW_w j1 (wE_h3 hN j3) hp f hs, vy_w j2 fV hP hL o1 o2, fun t ht => wE_w (j3 t ht) (fun q => o5 t q ht), j4, o3, j6, fun p hp => ⟨(j7 p hp).1, o4 p hp⟩⟩
/-- scratch of both sides changes -/
theorem JX_s (hJ : JX M V m al N pa own sd ps sn pu rf tm tk pb as nb Lb LA dn KL k h lf b0 eg mn sto fa Z ev oth tn Y) (hN : 12 + N ≤ 44) (hp : CPs M1 m al N pa own sd ps sn pu rf tm lf (eb b0 eg (12 + N)) (yw Y) h') (f : FK S M M1) (hs : S 4 = false ∧ S 6 = false ∧ S 11 = false ∧ S 12 = false ∧ S 13 = false ∧ S 14 = false) (fV : FrV (fun z => z == 9) V W) : JX M1 W m al N pa own sd ps sn pu rf tm tk pb as nb Lb LA dn KL k h' lf b0 eg mn sto fa Z ev oth tn Y := by
  obtain ⟨j1, j2, j3, j4, j5⟩ := hJ
  exact ⟨CW_w j1 (wE_h3 hN j3) hp f hs, vy_9 j2 fV, j3, j4, j5⟩
/-- tables change -/
theorem ok_T (hO : okW N own tm w) (h6 : KL.length ≤ 96) (hT : ∀ q, q < N → okTK KL (wT w q)) (ht : okTK KL T') : okW N own tm (setT w (fup (wT w) p T')) := by
  obtain ⟨h1, h2, h3, h4⟩ := hO
  refine ⟨h1, h2, h3, fun q hq => ?_⟩
  obtain ⟨a1, a2, a3, a4⟩ := h4 q hq
  refine ⟨a1, ?_, ?_, a4⟩
  · show (fup (wT w) p T' q).length ≤ 100
    by_cases c : q = p
    · rw [c, fup_eq]; have := tk_len ht; omega
    · rw [fup_ne c]; exact a2
  · show ∀ x, x ∈ fup (wT w) p T' q → 0 ≤ x.2.1 ∧ x.2.1 < 32
    by_cases c : q = p
    · rw [c, fup_eq]; exact fun x hx => (ht.2 x hx).2
    · rw [fup_ne c]; exact a3
theorem OKw_T (hO : okW N own tm w) (hE : EvI N ev w) (hP : PI KL tm (wT w) k w) (h6 : KL.length ≤ 96) (hT : ∀ q, q < N → okTK KL (wT w q)) (ht : okTK KL T') : OKw N own tm KL k ev w (setT w (fup (wT w) p T')) := by
  refine ⟨ok_T hO h6 hT ht, hE, ⟨hP.1, hP.2.1, hP.2.2.1, hP.2.2.2.1, rfl⟩, fun q hq => ?_, fun _ _ _ => rfl⟩
  show okTK KL (fup (wT w) p T' q)
  by_cases c : q = p
  · rw [c, fup_eq]; exact ht
  · rw [fup_ne c]; exact hT q hq
/-- a request that no work waits for -/
theorem OKw_ask0 {ty : Int} {bd : List Int} {pb : Option Int} (hp : p < N) (hO : OKw N own tm KL k ev w w') (hB : bdg N ev oth) (ho : own p ∈ KL) (ha : 0 ≤ ad ∧ ad < 32) (hty : 0 ≤ ty ∧ ty < 256) (hbl : isBL bd) (hbd : bd.length ≤ 325) : OKw N own tm KL k ev w (askY N own sd tm w' p ad ty key bd none pb).1 := by
  obtain ⟨o1, o2, o3, o4, o5⟩ := hO
  have p32 : p < 32 := by have := hB.2; omega
  have eT : wT (askY N own sd tm w' p ad ty key bd none pb).1 = wT w' := by unfold askY; split <;> rfl
  refine ⟨ok_ask o1 o2 hB hp ha hty hbl hbd, ev_ask o2, by rw [eT]; exact PI_ask p32 (o1.2.2.2 p hp).1 ho o3, by rw [eT]; exact o4, fun t q ht => ?_⟩
  rw [(FTw_ask (t := 44) (w := w') (Or.inr rfl)) q t (by omega)]
  exact o5 t q ht
theorem OKw_see (hp : p < N) (hO : okW N own tm w) (hE : EvI N ev w) (hP : PI KL tm (wT w) k w) (h6 : KL.length ≤ 96) (hT : ∀ q, q < N → own q ∈ KL ∧ okTK KL (wT w q)) (hB : bdg N ev oth) (hk : key ∈ KL) (ha : 0 ≤ ad ∧ ad < 32) : OKw N own tm KL k ev w (seeY m N own sd tm w p key ad) ∧ okW N own tm (setT w (fup (wT w) p (seeT m (own p) key ad (wT w p)).1)) := by
  have ts := tk_see (k := m) (own := own p) (hT p hp).2 hk ha
  have o := OKw_T (p := p) hO hE hP h6 (fun q hq => (hT q hq).2) ts
  refine ⟨?_, o.1⟩
  unfold seeY
  split
  · split
    · rename_i x hx
      have xm : x ∈ (seeT m (own p) key ad (wT w p)).1 := (List.mem_filter.mp (List.mem_of_head? hx)).1
      exact OKw_ask0 hp o hB (hT p hp).1 (ts.2 x xm).2 (by decide) (fun b hb => absurd hb (by simp)) (by decide)
    · exact o
  · exact o
end JOINT
