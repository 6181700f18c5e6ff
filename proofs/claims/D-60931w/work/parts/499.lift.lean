/-! steps of the peers' part, both sides -/
def G5 : Nat → Bool := fun z => z == 1 || z == 2 || z == 3 || z == 5 || z == 9
section LIFT
variable {S : Nat → Bool} {M M1 : MM} {V W : VV} {m al N p t nb oth oth' Z Z' L' : Nat} {pa tk : Nat → Nat} {own : Nat → Ky} {sd ps sn pu rf : Nat → Int} {tm : Int} {lf : Nat → Nat} {b0 : Nat × Nat} {h h' : Gh} {eg : EG} {pb as : Nat → Option Nat} {mn sto : Nat → Int} {fa : Nat → Nat} {Y : Ys} {Lb : Nat → List Trm} {LA : Nat → List Nat} {dn : Nat → Int} {ev ev' tn : Nat → Nat} {w : Wd}
/-- peers' words of the class change -/
theorem CW_w (hW : CW M m al N pa own sd ps sn pu rf tm lf b0 eg tk pb as nb mn fa Lb LA dn sto Y h) (h3 : ∀ t, t < 12 + N → yv Y 226 t ≠ 0 → yv Y 227 t = 3 → yv Y 247 t ≤ 3) (hp : CPs M1 m al N pa own sd ps sn pu rf tm lf (eb b0 eg (12 + N)) w h') (f : FK S M M1) (hs : S 4 = false ∧ S 6 = false ∧ S 11 = false ∧ S 12 = false ∧ S 13 = false ∧ S 14 = false) : CW M1 m al N pa own sd ps sn pu rf tm lf b0 eg tk pb as nb mn fa Lb LA dn sto (setW Y w) h' := by
  obtain ⟨⟨hC, hPub, hLb, hrec, hmn, hst⟩, hA⟩ := hW
  have hu := hC.2.1.1
  exact ⟨⟨CB_w hC hp (LksC_fk f ⟨hs.2.1, hs.2.2.2.1⟩ hC.2.1) f ⟨hs.2.2.1, hs.2.2.2.1⟩, Pubs_fk f hu hs.2.2.2.2.1 hPub, Libs_fk f hu hs.1 hLb, hrec, hmn, hst⟩, Asks_fk f hu hs.2.2.2.2.2 h3 hA⟩
/-- peers' words of the reference change -/
theorem vy_w (h : VY V m al N own sd ps sn pu rf tm Lb oth Z ev tn Y) (f : FrV G5 V W) (hP : VP W m al N own sd ps sn pu rf tm w L' Z') (hL : L' ≤ 2 * (sumN (wnx w) N + oth')) (ho : okW N own tm w) (hE : EvI N ev' w) : VY W m al N own sd ps sn pu rf tm Lb oth' Z' ev' tn (setW Y w) := by
  obtain ⟨h1, h2, h3, h4, h5, h6, h7, h8⟩ := h
  have g : ∀ a i, G5 (mv a i) = false → vI W a i = vI V a i := fun a i z => fv f z
  have m6 : ∀ a i, (226 ≤ a ∧ a ≤ 270 ∧ a ≠ 240) → G5 (mv a i) = false := fun a i z => by
    unfold mv
    rw [if_neg (by omega)]
    unfold mvA
    rw [if_neg (by omega), if_neg (by omega), if_neg (by omega), if_neg (by omega), if_neg (by omega)]
    by_cases c1 : 226 ≤ a ∧ a ≤ 264 ∧ a ≠ 240
    · rw [if_pos c1]; decide
    · rw [if_neg c1, if_pos (by omega)]; decide
  have m4 : ∀ a i, (173 ≤ a ∧ a ≤ 178) → G5 (mv a i) = false := fun a i z => by
    unfold mv
    rw [if_neg (by omega)]
    unfold mvA
    rw [if_neg (by omega), if_neg (by omega), if_neg (by omega), if_pos (by omega)]; decide
  refine ⟨⟨L', hP, hL⟩, ho, hE, LksV_ag h4 (fun a i z => g a i (m6 a i (by omega))), sc_ag h5 (fun a i z => ?_), QsV_ag h6 (fun a i z => g a i (m6 a i (by omega))), LbV_ag h7 (fun a i z => g a i (m4 a i (by omega))), TmV_ag h8 (fun a i z => ?_) (fun t _ z1 z2 => ⟨⟨z1, z2⟩, rfl, rfl, rfl⟩)⟩
  · by_cases c : a = 156
    · have e : a = 156 ∧ i = 91 := by unfold scA at z; omega
      rw [e.1, e.2]; exact g 156 91 rfl
    · exact g a i (m6 a i (by unfold scA at z; omega))
  · rcases z with z | z
    · exact g a i (m4 a i (by omega))
    · exact g a i (m6 a i (by omega))
/-- works see their own requests alone -/
theorem wE_w (hw : wE N own Lb Y t) (hr : ∀ q, rqv t (wQ w q) = rqv t (wQ (yw Y) q)) : wE N own Lb (setW Y w) t := by
  obtain ⟨⟨a1, a2, a3⟩, b, c⟩ := hw
  have hcn : ∀ q, cnA q t w = cnA q t (yw Y) := fun q => by rw [cnA_rqv, cnA_rqv, hr]
  refine ⟨⟨a1, fun p y hy hw => ?_, fun z => ?_⟩, b, fun z => ?_⟩
  · obtain ⟨x, x1, x2, x3⟩ := rqv_mem (hr p) hy hw
    obtain ⟨c1, c2, c3⟩ := a2 p x x1 x2
    exact ⟨c1, c2, x3.symm.trans c3⟩
  · obtain ⟨d1, d2, d3, d4⟩ := a3 z
    refine ⟨d1, d2, d3, ?_⟩
    rcases d4 with k | k | ⟨k1, k2, k3, k4, k5, k6, k7⟩ | ⟨k1, k2, k3, k4, k5⟩
    · exact Or.inl k
    · exact Or.inr (Or.inl k)
    · refine Or.inr (Or.inr (Or.inl ⟨k1, k2, k3, k4, k5, k6, fun z => ?_⟩))
      rw [show cnA (yp (setW Y w) t) t (yw (setW Y w)) = cnA (yp Y t) t (yw Y) from hcn _]
      exact k7 z
    · refine Or.inr (Or.inr (Or.inr ⟨k1, k2, k3, k4, ?_⟩))
      rcases k5 with k5 | ⟨k5, k6⟩
      · exact Or.inl k5
      · exact Or.inr ⟨k5, by rw [show cnA (yp (setW Y w) t) t (yw (setW Y w)) = cnA (yp Y t) t (yw Y) from hcn _]; exact k6⟩
  · exact ⟨(c z).1, fun z4 o => absurd o (b z (by have z4 : yv Y 230 t = 4 := z4; omega))⟩
end LIFT
