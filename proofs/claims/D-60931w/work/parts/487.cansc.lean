/-! a query of the class takes a CHECK -/
section CANSC
variable {S : Nat → Bool} {M M1 M2 : MM} {m al N p t nb n Q pk k : Nat} {pa tk : Nat → Nat} {own : Nat → Ky} {sd ps sn pu rf : Nat → Int} {tm how : Int} {lf : Nat → Nat} {b0 : Nat × Nat} {h : Gh} {eg : EG} {pb as : Nat → Option Nat} {mn : Nat → Int} {fa : Nat → Nat} {Y Y1 Yf : Ys} {l : List Int} {sc sc' : VV} {q q' : Qs} {r : Option MM} {B : MM}
theorem QE_b1 (z : QE r B m al N pa own sd ps sn pu rf tm lf b0 eg tk pb as nb Q t Yf) : QE (r.bind fun M2 => some M2) B m al N pa own sd ps sn pu rf tm lf b0 eg tk pb as nb Q t Yf := by
  obtain ⟨x1, x2, x3, x4, x5, x6, y1, y2⟩ := z
  exact ⟨x1, x2, x3, x4, x5, x6, by rw [y1]; rfl, y2⟩
theorem AsL_ex {L : List It} {Z : Nat → Prop} (hL : AsL M Q L) (hx : Ex Z M M1) (h13 : rI M1 Q 13 = rI M Q 13) (hZ : ¬ Z (Q + 6) ∧ ¬ Z (Q + 7) ∧ ¬ Z (Q + 8)) : AsL M1 Q L := by
  refine ⟨by rw [h13]; exact hL.1, hL.2.1, fun i hi => ?_⟩
  rw [hx.rI hZ.1, hx.rI hZ.2.1, hx.rI hZ.2.2]; exact hL.2.2 i hi
/-- CHECKED -/
theorem c_ansC (hC : CB M m al N pa own sd ps sn pu rf tm lf b0 eg tk pb as nb mn fa Y h) (hS : AsS M Q) (hF : AsF M Q (ys Y) (yq Y) t) (hmn : ∀ r, r < nb → mn r = yv Y 269 r) (hq : qOK own Y t) (h5 : yv Y 230 t = 5) (hpk : PkC M pk l) (hsh : shp 5 l) (hpq : ¬ AQs Q pk ∧ ¬ AQs Q (pk + 1)) (hrec : recY nb Y) (hh : hdW N Y t) (ht : t < 12) (hlf : lf t + 1 < 2147483648) (hk3 : yv Y 227 t = 3)
    (cont : ∀ M1, yv (tcY t (rdI l 26 (l.getD 25 0).toNat) Y) 226 t ≠ 0 → PQ M1 m al N pa own sd ps sn pu rf tm lf b0 eg tk pb as nb mn fa Q t (tcY t (rdI l 26 (l.getD 25 0).toNat) Y) h → QE (fREC k 1 (Q : Int) ((wa pa t : Nat) : Int) 0 M1) M1 m al N pa own sd ps sn pu rf tm lf b0 eg tk pb as nb Q t Yf)
    (clo : yv (tcY t (rdI l 26 (l.getD 25 0).toNat) Y) 226 t = 0 → Yf = tcY t (rdI l 26 (l.getD 25 0).toNat) Y) :
    QE (fREC (k + 2) 0 (Q : Int) ((wa pa t : Nat) : Int) (pk : Int) M) M m al N pa own sd ps sn pu rf tm lf b0 eg tk pb as nb Q t Yf := by
  obtain ⟨n, s1, s2, s3, s4⟩ := hsh.2.2.2.2 rfl
  have hb := hsh.1
  have k31 : (kd M Q).1 = 31 := by rw [hS.1]
  have sn1 : vI (ys Y) 230 t ≠ 1 := by rw [show vI (ys Y) 230 t = 5 from h5]; decide
  have n3 := hq.1
  have oks := hq.2.2.2.2.2.2.2.2.1
  have n2 := hq.2.2.2.1 (by rw [h5]; decide)
  obtain ⟨⟨q63, q63'⟩, q64, qfl, qsc⟩ := hq.2.2.2.2.2.2.2.2.2.1 h5
  obtain ⟨b1, b2, b3, b4, b5, b6, b7, b8⟩ := hF.2.2.2.2 sn1
  obtain ⟨b16, b9⟩ := b6 h5
  have i7 : rI M Q 7 = 2 := by rw [b2, show vI (ys Y) 230 t = 5 from h5]; rfl
  rw [show (l.getD 25 0).toNat = n from by rw [s1]; rfl] at cont clo
  have l200 := oks.1
  obtain ⟨f, hf⟩ : ∃ f, f = (yv Y 264 t).toNat := ⟨_, rfl⟩
  have hf2 : yv Y 264 t = (f : Int) := by omega
  have i15 : rI M Q 15 = (if yv Y 263 t = 0 then 0 else 1) := by rw [b5, if_pos (show vI (ys Y) 230 t = 5 from h5)]
  rw [show vI (ys Y) 264 t = (f : Int) from hf2] at b16
  have sc8 : ∀ z, z ∈ qL (yq Y) t → z.2.2 ≤ 800 := fun z hz => by
    obtain ⟨i, hi, ei⟩ := List.getElem_of_mem hz
    have := qsc i hi
    rw [gd_get hi, ei] at this
    split at this <;> split at this <;> omega
  obtain ⟨M', c1, c2, c3, c4, c5⟩ := c_checked0 (R := fREC k) (x1 := ((wa pa t : Nat) : Int)) (F := qF (yq Y) t) (f := f) hS b4 oks b16 (by omega) sc8 (by omega) b9 hpk hb s1 s2 s3 s4 hpq
  obtain ⟨tl, htl⟩ : ∃ tl, tl = rdI l 26 n := ⟨_, rfl⟩
  rw [← htl] at cont clo s4 c2 c3 c4
  obtain ⟨L, hL⟩ : ∃ L, L = qL (yq Y) t := ⟨_, rfl⟩
  obtain ⟨L', hL'⟩ : ∃ L', L' = tcL f tl (qL (yq Y) t) := ⟨_, rfl⟩
  obtain ⟨F', hF'⟩ : ∃ F', F' = tcF f tl (qL (yq Y) t) (qF (yq Y) t) := ⟨_, rfl⟩
  rw [← hL'] at c2
  rw [← hF'] at c3 c4
  have okL' : okL L' := by rw [hL']; exact okL_tc oks s4 sc8
  have len' : L'.length = (qL (yq Y) t).length := by rw [hL']; exact tcL_len
  have S' : AsS M' Q := hS.ex c5
  have k31' : (kd M' Q).1 = 31 := by rw [S'.1]
  have i' : ∀ i, rI M' Q i = rI M Q i := fun i => c5.rI (by unfold A9; omega) i
  have eT : tcY t tl Y = if f + 30 < (qL (yq Y) t).length then (yw Y, yl Y, st2 (ys Y) 264 t (yv Y 264 t + 30), lstQ t L' F' (yq Y)) else if sftL L' F' = [] ∨ yv Y 247 t ≤ (if yv Y 263 t = 0 then 2 else 3) then rnkY t (yw Y, yl Y, st2 (st2 (ys Y) 263 t (if yv Y 263 t = 0 then 2 else 3)) 264 t 0, lstQ t (sftL L' F') [] (yq Y)) else (yw Y, yl Y, st2 (st2 (ys Y) 263 t (if yv Y 263 t = 0 then 2 else 3)) 264 t 0, lstQ t (sftL L' F') [] (yq Y)) := by
    unfold tcY
    rw [← hf, ← hL', ← hF']
  rw [eT] at cont clo
  have run : fREC (k + 2) 0 (Q : Int) ((wa pa t : Nat) : Int) (pk : Int) M = (j_X31_checked_148 (fREC k) (Q : Int) ((wa pa t : Nat) : Int) ((min (f + 30) (qL (yq Y) t).length : Nat) : Int) M').bind fun M2 => some M2 := by
    show f_X31_answered (fREC (k + 1)) (Q : Int) ((wa pa t : Nat) : Int) (pk : Int) M = _
    have e5 : fREC (k + 1) 2 (Q : Int) ((wa pa t : Nat) : Int) (pk : Int) M = f_X31_checked (fREC k) (Q : Int) ((wa pa t : Nat) : Int) (pk : Int) M := rfl
    unfold f_X31_answered j_X31_answered_48
    rw [gfi_e k31, i7, Option.bind_some, if_neg (by decide), Option.bind_some, if_neg (by decide), ck_e k31, e5, c1]
  rw [run]
  have F14 : FltC M' (Q + 14) (yv Y 256 t).toNat (qB (yq Y) t) := (b7 (by rw [show vI (ys Y) 230 t = 5 from h5]; decide) n2).ex c5 (by unfold A9; omega) (by unfold A9; omega)
  by_cases c : f + 30 < (qL (yq Y) t).length
  · rw [if_pos c] at cont
    have e30 : min (f + 30) (qL (yq Y) t).length = f + 30 := by omega
    rw [e30] at c4 ⊢
    obtain ⟨U, hU⟩ : ∃ U, U = sI M' Q 16 ((f + 30 : Nat) : Int) := ⟨_, rfl⟩
    have exU : Ex (fun z => A9 Q z ∨ z = Q) M U := by rw [hU]; exact (c5.mono (fun z hz => Or.inl hz)).trans (Ex.st (A := fun z => A9 Q z ∨ z = Q) (Or.inr rfl))
    have exZ : ∀ z, (A9 Q z ∨ z = Q) → AQs Q z := fun z hz => hz.elim A9_AQ (fun e => by unfold AQs; omega)
    have SU : AsS U Q := hS.ex exU
    have iU : ∀ i, i ≠ 16 → rI U Q i = rI M Q i := fun i z => by rw [hU, rI_ne (by omega)]; exact i' i
    have run2 : j_X31_checked_148 (fREC k) (Q : Int) ((wa pa t : Nat) : Int) ((f + 30 : Nat) : Int) M' = (fREC k 1 (Q : Int) ((wa pa t : Nat) : Int) 0 U).bind fun M1 => some M1 := by
      have k31U : (kd U Q).1 = 31 := by rw [SU.1]
      unfold j_X31_checked_148
      rw [pfi_e k31', Option.bind_some, ← hU, gfi_e k31U, show rI U Q 16 = ((f + 30 : Nat) : Int) from by rw [hU, rI_eq rfl]; exact w32_nn (by omega), Option.bind_some, gfi_e k31U, iU 13 (by decide), b4.1, Option.bind_some, w32_nn (by omega), w32_nn (by omega), if_neg (by omega)]
      unfold j_X31_checked_183 j_X31_checked_216
      rw [gfi_e k31U, iU 13 (by decide), b4.1, Option.bind_some, w32_nn (by omega), if_neg (by omega), gfi_e k31U, iU 15 (by decide), i15, Option.bind_some, gfi_e k31U, show rI U Q 5 = yv Y 247 t from (iU 5 (by decide)).trans hF.1, Option.bind_some, ck_e k31U]
      by_cases d : yv Y 263 t = 0
      · rw [if_pos d, if_neg (show ¬ w32 0 = w32 (yv Y 247 t - 1) from by rw [w32s (v := yv Y 247 t - 1) (by omega)]; show ¬ (0 : Int) = yv Y 247 t - 1; omega)]
      · rw [if_neg d, if_neg (show ¬ w32 1 = w32 (yv Y 247 t - 1) from by rw [w32s (v := yv Y 247 t - 1) (by omega)]; show ¬ (1 : Int) = yv Y 247 t - 1; omega)]
    rw [run2]
    obtain ⟨CU, _⟩ := CB_14 hC hS exU exZ
    obtain ⟨Y0, hY0⟩ : ∃ Y0 : Ys, Y0 = (yw Y, yl Y, st2 (ys Y) 264 t (yv Y 264 t + 30), lstQ t L' F' (yq Y)) := ⟨_, rfl⟩
    rw [← hY0] at cont
    have v0 : ∀ a i, a ≠ 264 → yv Y0 a i = yv Y a i := fun a i z => by rw [hY0]; exact vI_ne (by omega)
    have v4 : yv Y0 264 t = ((f + 30 : Nat) : Int) := by rw [hY0]; show vI (st2 (ys Y) 264 t (yv Y 264 t + 30)) 264 t = _; rw [vI_eq rfl, hf2, w32s (by omega)]; omega
    have C0 : CB U m al N pa own sd ps sn pu rf tm lf b0 eg tk pb as nb mn fa Y0 h := by
      rw [hY0]; exact CB_sc CU (fun a i z => vI_ne (by omega)) rfl
    have z0 : yv Y0 230 t = 5 := by rw [v0 _ _ (by decide)]; exact h5
    refine QE_pre (XQ_ex hS exU exZ) (QE_b1 (QE_b1 (cont U (by rw [v0 _ _ (by decide), hh.1]; decide) ⟨C0, SU, ?_, fun r hr => by rw [v0 _ _ (by decide)]; exact hmn r hr⟩)))
    rw [z0]
    have J : ∀ z i, ¬ (z = Q ∧ i = 7) → rI (sI U Q 7 (5 - 3)) z i = rI U z i := fun z i c => rI_ne c
    refine AsF_nx hF n3.2 sn1 (by rw [show vI (ys Y0) 230 t = 5 from z0]; decide) (fun z i hz => ?_) (v0 _ _ (by decide)) (fun i _ => ⟨v0 _ _ (by decide), v0 _ _ (by decide)⟩) (by rw [hY0]; exact ⟨rfl, rfl, rfl⟩) ?_ ?_ ?_ ?_ ?_ ?_ (fun z => by rw [show vI (ys Y0) 247 t = yv Y 247 t from v0 _ _ (by decide)] at z; rw [show qB (yq Y0) = qB (yq Y) from by rw [hY0]; rfl]; exact b8 z)
    · rcases hz with ⟨e1, e2⟩ | ⟨j, e1, e2⟩
      · rw [e1, e2, J _ _ (by omega)]; exact iU 5 (by decide)
      · rw [J _ _ (by omega)]; exact exU.rI (by unfold A9; omega) i
    · rw [rI_eq rfl, show vI (ys Y0) 230 t = 5 from z0]; rfl
    · rw [J _ _ (by omega), iU 14 (by decide), show vI (ys Y0) 254 t = vI (ys Y) 254 t from v0 _ _ (by decide)]; exact b3
    · rw [show qL (yq Y0) t = L' from by rw [hY0]; exact fup_eq]
      refine ⟨by rw [J _ _ (by omega), iU 13 (by decide), ← i' 13]; exact c2.1, c2.2.1, fun i hi => ?_⟩
      rw [J _ _ (by omega), J _ _ (by omega), J _ _ (by omega), hU, rI_ne (by omega), rI_ne (by omega), rI_ne (by omega)]; exact c2.2.2 i hi
    · rw [J _ _ (by omega), iU 15 (by decide), b5, show vI (ys Y0) 230 t = 5 from z0, show vI (ys Y) 230 t = 5 from h5, show vI (ys Y0) 263 t = vI (ys Y) 263 t from v0 _ _ (by decide)]
    · intro _
      refine ⟨by rw [J _ _ (by omega), show vI (ys Y0) 264 t = ((f + 30 : Nat) : Int) from v4, hU, rI_eq rfl]; exact w32_nn (by omega), ?_⟩
      rw [show qF (yq Y0) t = F' from by rw [hY0]; exact fup_eq]
      intro i hi
      rw [J _ _ (by omega), hU, rI_ne (by omega)]
      exact c3 i hi
    · intro _ z
      rw [show vI (ys Y0) 256 t = yv Y 256 t from v0 _ _ (by decide), show qB (yq Y0) = qB (yq Y) from by rw [hY0]; rfl, hU]
      exact (F14.ex (Ex.st (A := fun z => z = Q) rfl) (by omega) (by omega)).ex (Ex.st (A := fun z => z = Q) rfl) (by omega) (by omega)
  · rw [if_neg c] at cont clo
    have e30 : min (f + 30) (qL (yq Y) t).length = (qL (yq Y) t).length := by omega
    rw [e30] at c4 ⊢
    obtain ⟨G, hG⟩ : ∃ G, G = sI M' Q 16 (((qL (yq Y) t).length : Nat) : Int) := ⟨_, rfl⟩
    have exG : Ex (fun z => z = Q) M' G := by rw [hG]; exact Ex.st (A := fun z => z = Q) rfl
    have SG : AsS G Q := S'.ex exG
    have k31G : (kd G Q).1 = 31 := by rw [SG.1]
    have iG : ∀ i, i ≠ 16 → rI G Q i = rI M Q i := fun i z => by rw [hG, rI_ne (by omega)]; exact i' i
    have LG : AsL G Q L' := AsL_ex c2 exG (by rw [iG 13 (by decide), i']) ⟨by omega, by omega, by omega⟩
    obtain ⟨U0, d1, d2, d3, d4⟩ := c_sift (F := F') SG LG okL' (by omega) (fun i hi => by rw [exG.rI (by omega)]; exact c3 i hi)
    obtain ⟨L2, hL2⟩ : ∃ L2, L2 = sftL L' F' := ⟨_, rfl⟩
    rw [← hL2] at cont clo d2
    have okL2 : okL L2 := by rw [hL2]; exact okL_sft okL'
    obtain ⟨w, hw⟩ : ∃ w : Int, w = (if yv Y 263 t = 0 then 1 else 2) := ⟨_, rfl⟩
    have w2 : w = 1 ∨ w = 2 := by rw [hw]; split; exact Or.inl rfl; exact Or.inr rfl
    obtain ⟨U, hU⟩ : ∃ U, U = sI (sI U0 Q 15 w) Q 16 0 := ⟨_, rfl⟩
    have ex0 : Ex (fun z => z = Q) U0 U := by rw [hU]; exact (Ex.st (A := fun z => z = Q) rfl).trans (Ex.st (A := fun z => z = Q) rfl)
    have exU : Ex (fun z => A9 Q z ∨ A6 Q z) M U := ((c5.mono (fun z hz => Or.inl hz)).trans (exG.mono (fun z hz => Or.inr (Or.inl hz)))).trans ((d3.mono (fun z hz => Or.inr hz)).trans (ex0.mono (fun z hz => Or.inr (Or.inl hz))))
    have exZ : ∀ z, (A9 Q z ∨ A6 Q z) → AQs Q z := fun z hz => hz.elim A9_AQ A6_AQ
    have SU0 : AsS U0 Q := SG.ex d3
    have SU : AsS U Q := hS.ex exU
    have k31U0 : (kd U0 Q).1 = 31 := by rw [SU0.1]
    have k31U : (kd U Q).1 = 31 := by rw [SU.1]
    have iU : ∀ i, i ≠ 13 → i ≠ 15 → i ≠ 16 → rI U Q i = rI M Q i := fun i z1 z2 z3 => by rw [hU, rI_ne (by omega), rI_ne (by omega), d4 i z1]; exact iG i z3
    have u15 : rI U Q 15 = w := by rw [hU, rI_ne (by omega), rI_eq rfl]; rcases w2 with e | e <;> rw [e] <;> rfl
    have LU : AsL U Q L2 := AsL_ex d2 ex0 (by rw [hU, rI_ne (by omega), rI_ne (by omega)]) ⟨by omega, by omega, by omega⟩
    have u5 : rI U Q 5 = yv Y 247 t := by rw [iU 5 (by decide) (by decide) (by decide)]; exact hF.1
    have run2 : j_X31_checked_148 (fREC k) (Q : Int) ((wa pa t : Nat) : Int) (((qL (yq Y) t).length : Nat) : Int) M' = if L2 = [] ∨ w = yv Y 247 t - 1 then (f_X31_finish (Q : Int) ((wa pa t : Nat) : Int) U).bind fun M1 => some M1 else (fREC k 1 (Q : Int) ((wa pa t : Nat) : Int) 0 U).bind fun M1 => some M1 := by
      have a15 : rI U0 Q 15 + 1 = w := by
        rw [d4 15 (by decide), iG 15 (by decide), i15, hw]
        split <;> rfl
      unfold j_X31_checked_148
      rw [pfi_e k31', Option.bind_some, ← hG, gfi_e k31G, show rI G Q 16 = (((qL (yq Y) t).length : Nat) : Int) from by rw [hG, rI_eq rfl]; exact w32_nn (by omega), Option.bind_some, gfi_e k31G, iG 13 (by decide), b4.1, Option.bind_some, if_pos rfl, ck_e k31G, d1, Option.bind_some, gfi_e k31U0, Option.bind_some, a15, pfi_e k31U0, Option.bind_some, pfi_e (by rw [kd_sI]; exact k31U0), Option.bind_some, ← hU]
      unfold j_X31_checked_183 j_X31_checked_203 j_X31_checked_216
      rw [gfi_e k31U, LU.1, Option.bind_some, w32_nn (by have := LU.2.1; omega)]
      by_cases e : L2 = []
      · rw [if_pos (by rw [e]; rfl), ck_e k31U, if_pos (Or.inl e)]
      · rw [if_neg (by
          intro z
          exact e (List.length_eq_zero_iff.mp (by omega))), gfi_e k31U, u15, Option.bind_some, gfi_e k31U, u5, Option.bind_some, w32s (v := w) (by omega), w32s (v := yv Y 247 t - 1) (by omega)]
        by_cases e2 : w = yv Y 247 t - 1
        · rw [if_pos e2, ck_e k31U, if_pos (Or.inr e2)]
        · rw [if_neg e2, ck_e k31U, if_neg (fun z => z.elim e e2)]
    rw [run2]
    obtain ⟨u, hu⟩ : ∃ u : Int, u = (if yv Y 263 t = 0 then 2 else 3) := ⟨_, rfl⟩
    have uw : u = w + 1 := by rw [hu, hw]; split <;> rfl
    rw [← hu] at cont clo
    obtain ⟨CU, _⟩ := CB_14 hC hS exU exZ
    obtain ⟨Y0, hY0⟩ : ∃ Y0 : Ys, Y0 = (yw Y, yl Y, st2 (st2 (ys Y) 263 t u) 264 t 0, lstQ t L2 [] (yq Y)) := ⟨_, rfl⟩
    rw [← hY0] at cont clo
    have v0 : ∀ a i, a ≠ 263 → a ≠ 264 → yv Y0 a i = yv Y a i := fun a i z1 z2 => by rw [hY0]; show vI (st2 (st2 (ys Y) 263 t u) 264 t 0) a i = _; rw [vI_ne (by omega), vI_ne (by omega)]
    have v4 : yv Y0 264 t = 0 := by rw [hY0]; show vI (st2 (st2 (ys Y) 263 t u) 264 t 0) 264 t = _; rw [vI_eq rfl]; rfl
    have v3 : yv Y0 263 t = u := by rw [hY0]; show vI (st2 (st2 (ys Y) 263 t u) 264 t 0) 263 t = _; rw [vI_ne (by omega), vI_eq rfl, w32s (by omega)]
    have C0 : CB U m al N pa own sd ps sn pu rf tm lf b0 eg tk pb as nb mn fa Y0 h := by
      rw [hY0]; exact CB_sc CU (fun a i z => by rw [vI_ne (by omega), vI_ne (by omega)]) rfl
    have qL0 : qL (yq Y0) t = L2 := by rw [hY0]; exact fup_eq
    have mn0 : ∀ r, r < nb → mn r = yv Y0 269 r := fun r hr => by rw [v0 _ _ (by decide) (by decide)]; exact hmn r hr
    by_cases d : L2 = [] ∨ w = yv Y 247 t - 1
    · rw [if_pos d]
      rw [if_pos (show L2 = [] ∨ yv Y 247 t ≤ u from by
        rcases d with d | d
        · exact Or.inl d
        · exact Or.inr (by omega))] at clo
      have := c_fin C0 SU (by rw [qL0]; exact LU) (by rw [qL0]; exact okL2) mn0 (recY_ag hrec (fun a i z => v0 _ _ (by omega) (by omega))) (hdW_ag hh (fun a z => v0 _ _ (by omega) (by omega))) ht hlf (by rw [v0 _ _ (by decide) (by decide)]; exact hk3)
      rw [← clo clS_0] at this
      exact QE_pre (XQ_ex hS exU exZ) (QE_b1 (QE_b1 this))
    · rw [if_neg d]
      have d3' : ¬ (L2 = [] ∨ yv Y 247 t ≤ u) := by
        intro z
        rcases z with z | z
        · exact d (Or.inl z)
        · apply d
          right
          by_cases e : yv Y 263 t = 0
          · rw [if_pos e] at hw hu; omega
          · rw [if_neg e] at hw hu; omega
      rw [if_neg d3'] at cont
      have wz : w = 1 := by
        by_cases e : yv Y 263 t = 0
        · rw [hw, if_pos e]
        · exact absurd (Or.inr (by rw [if_neg e] at hu; omega)) d3'
      have z0 : yv Y0 230 t = 5 := by rw [v0 _ _ (by decide) (by decide)]; exact h5
      refine QE_pre (XQ_ex hS exU exZ) (QE_b1 (QE_b1 (cont U (by rw [v0 _ _ (by decide) (by decide), hh.1]; decide) ⟨C0, SU, ?_, mn0⟩)))
      rw [z0]
      have J : ∀ z i, ¬ (z = Q ∧ i = 7) → rI (sI U Q 7 (5 - 3)) z i = rI U z i := fun z i c => rI_ne c
      refine AsF_nx hF n3.2 sn1 (by rw [show vI (ys Y0) 230 t = 5 from z0]; decide) (fun z i hz => ?_) (v0 _ _ (by decide) (by decide)) (fun i _ => ⟨v0 _ _ (by decide) (by decide), v0 _ _ (by decide) (by decide)⟩) (by rw [hY0]; exact ⟨rfl, rfl, rfl⟩) ?_ ?_ ?_ ?_ ?_ ?_ (fun z => by rw [show vI (ys Y0) 247 t = yv Y 247 t from v0 _ _ (by decide) (by decide)] at z; rw [show qB (yq Y0) = qB (yq Y) from by rw [hY0]; rfl]; exact b8 z)
      · rcases hz with ⟨e1, e2⟩ | ⟨j, e1, e2⟩
        · rw [e1, e2, J _ _ (by omega)]; exact iU 5 (by decide) (by decide) (by decide)
        · rw [J _ _ (by omega)]; exact exU.rI (by unfold A9 A6; omega) i
      · rw [rI_eq rfl, show vI (ys Y0) 230 t = 5 from z0]; rfl
      · rw [J _ _ (by omega), iU 14 (by decide) (by decide) (by decide), show vI (ys Y0) 254 t = vI (ys Y) 254 t from v0 _ _ (by decide) (by decide)]; exact b3
      · rw [qL0]
        exact AsL_ex LU (Ex.st (A := fun z => z = Q) rfl) (J _ _ (by omega)) ⟨by omega, by omega, by omega⟩
      · rw [J _ _ (by omega), u15, show vI (ys Y0) 230 t = 5 from z0, if_pos rfl, show vI (ys Y0) 263 t = u from v3, if_neg (by omega)]; exact wz
      · intro _
        refine ⟨by rw [J _ _ (by omega), show vI (ys Y0) 264 t = 0 from v4, hU, rI_eq rfl]; rfl, ?_⟩
        rw [show qF (yq Y0) t = [] from by rw [hY0]; exact fup_eq]
        intro i hi
        exact absurd hi (by simp)
      · intro _ z
        rw [show vI (ys Y0) 256 t = yv Y 256 t from v0 _ _ (by decide) (by decide), show qB (yq Y0) = qB (yq Y) from by rw [hY0]; rfl]
        exact (((F14.ex exG (by omega) (by omega)).ex d3 (by unfold A6; omega) (by unfold A6; omega)).ex ex0 (by omega) (by omega)).ex (Ex.st (A := fun z => z = Q) rfl) (by omega) (by omega)
end CANSC
