/-! a query of the class takes MATCHES -/
section CANSM
variable {S : Nat → Bool} {M M1 M2 : MM} {m al N p t nb n Q pk k : Nat} {pa tk : Nat → Nat} {own : Nat → Ky} {sd ps sn pu rf : Nat → Int} {tm how : Int} {lf : Nat → Nat} {b0 : Nat × Nat} {h : Gh} {eg : EG} {pb as : Nat → Option Nat} {mn : Nat → Int} {fa : Nat → Nat} {Y Y1 Yf : Ys} {l : List Int} {sc sc' : VV} {q q' : Qs}
/-- the query's cells that its run never changes once the holders are known -/
def AQk (Q z i : Nat) : Prop := z = Q ∧ i = 5 ∨ (∃ j, z = Q + j ∧ 1 ≤ j ∧ j ≤ 30 ∧ j ≠ 6 ∧ j ≠ 7 ∧ j ≠ 8 ∧ j ≠ 9 ∧ j ≠ 14 ∧ j ≠ 15)
theorem AQk_5 {z i : Nat} (hz : AQk Q z i) (hi : i ≠ 5) : z ≠ Q := by
  rcases hz with ⟨e1, e2⟩ | ⟨j, e1, e2, _⟩
  · exact absurd e2 hi
  · omega
theorem hdW_ag (hh : hdW N Y t) (v : ∀ a, a = 226 ∨ a = 228 ∨ a = 229 → yv Y1 a t = yv Y a t) : hdW N Y1 t := by
  unfold hdW goW yp
  rw [v 226 (by omega), v 229 (by omega), v 228 (by omega), show vI (ys Y1) 228 t = yv Y 228 t from v 228 (by omega)]
  exact hh
theorem recY_ag (hr : recY nb Y) (v : ∀ a i, a = 226 ∨ a = 227 ∨ a = 229 ∨ a = 265 → yv Y1 a i = yv Y a i) : recY nb Y1 := by
  unfold recY
  simp only [v 226 _ (by omega), v 229 _ (by omega), v 265 _ (by omega), v 227 _ (by omega)]
  exact hr
theorem AsF_nx (hF : AsF M Q sc q t) (h3 : vI sc 247 t ≤ 3) (s1 : vI sc 230 t ≠ 1) (s2 : vI sc' 230 t ≠ 1) (hI : ∀ z i, AQk Q z i → rI M1 z i = rI M z i) (h7 : vI sc' 247 t = vI sc 247 t) (h5 : ∀ i, i < 3 → vI sc' 250 (3 * t + i) = vI sc 250 (3 * t + i) ∧ vI sc' 252 (3 * t + i) = vI sc 252 (3 * t + i)) (hq : qO q' = qO q ∧ qK q' = qK q ∧ qH q' = qH q)
    (b2 : rI M1 Q 7 = vI sc' 230 t - 3) (b3 : rI M1 Q 14 = vI sc' 254 t) (b4 : AsL M1 Q (qL q' t)) (b5 : rI M1 Q 15 = (if vI sc' 230 t = 5 then (if vI sc' 263 t = 0 then 0 else 1) else 0)) (b6 : vI sc' 230 t = 5 → rI M1 Q 16 = vI sc' 264 t ∧ ∀ i, i < (qF q' t).length → rI M1 (Q + 9) i = b2i ((qF q' t).getD i false)) (b7 : vI sc' 230 t ≠ 3 → 2 ≤ vI sc' 247 t → FltC M1 (Q + 14) (vI sc' 256 t).toNat (qB q' t)) (b8 : vI sc' 247 t = 1 → qB q' t = []) : AsF M1 Q sc' q' t := by
  obtain ⟨a1, a2, a3, a4, a5⟩ := hF
  have I : ∀ j i, 1 ≤ j → j ≤ 30 → j ≠ 6 → j ≠ 7 → j ≠ 8 → j ≠ 9 → j ≠ 14 → j ≠ 15 → rI M1 (Q + j) i = rI M (Q + j) i := fun j i z1 z2 z3 z4 z5 z6 z7 z8 => hI _ _ (Or.inr ⟨j, rfl, z1, z2, z3, z4, z5, z6, z7, z8⟩)
  have C : ∀ j, 18 ≤ j → j + 1 ≤ 30 → kC M1 (Q + j) = kC M (Q + j) := fun j z1 z2 => by funext i; exact I (j + 1) i (by omega) z2 (by omega) (by omega) (by omega) (by omega) (by omega) (by omega)
  refine ⟨by rw [hI _ _ (Or.inl ⟨rfl, rfl⟩), h7]; exact a1, fun i hi => ?_, fun i hi3 hi => ?_, fun z => absurd z s2, fun _ => ⟨fun j hj => ?_, b2, b3, b4, b5, b6, b7, b8⟩⟩
  · rw [h7] at hi
    rw [show Q + 19 + 4 * i = Q + (19 + 4 * i) from by omega, C _ (by omega) (by omega), hq.2.1, show Q + (19 + 4 * i) = Q + 19 + 4 * i from by omega]; exact a2 i hi
  · rw [if_neg s2, h7] at hi
    obtain ⟨c1, c2, c3⟩ := a3 i hi3 (by rw [if_neg s1]; exact hi)
    rw [I 4 i (by omega) (by omega) (by omega) (by omega) (by omega) (by omega) (by omega) (by omega), I 3 i (by omega) (by omega) (by omega) (by omega) (by omega) (by omega) (by omega) (by omega), show Q + 21 + 4 * i = Q + (21 + 4 * i) from by omega, C _ (by omega) (by omega), hq.2.2, (h5 i hi3).1, (h5 i hi3).2, show Q + (21 + 4 * i) = Q + 21 + 4 * i from by omega]
    exact ⟨c1, c2, c3⟩
  · rw [h7] at hj
    rw [I 5 j (by omega) (by omega) (by omega) (by omega) (by omega) (by omega) (by omega) (by omega), hq.1]
    exact (a5 s1).1 j hj
/-- MATCHES -/
theorem c_ansM (hC : CB M m al N pa own sd ps sn pu rf tm lf b0 eg tk pb as nb mn fa Y h) (hS : AsS M Q) (hF : AsF M Q (ys Y) (yq Y) t) (hmn : ∀ r, r < nb → mn r = yv Y 269 r) (hq : qOK own Y t) (h4 : yv Y 230 t = 4) (hpk : PkC M pk l) (hsh : shp 4 l) (hpq : ¬ AQs Q pk ∧ ¬ AQs Q (pk + 1)) (hrec : recY nb Y) (hh : hdW N Y t) (ht : t < 12) (hlf : lf t + 1 < 2147483648) (hk3 : yv Y 227 t = 3)
    (cont : ∀ M1 sel, yv (tmY t (decide (l.getD 25 0 = 1)) (rdI l 27 (l.getD 26 0).toNat) Y) 226 t ≠ 0 → ((yv (tmY t (decide (l.getD 25 0 = 1)) (rdI l 27 (l.getD 26 0).toNat) Y) 230 t = 4 ∧ sel = 4) ∨ (yv (tmY t (decide (l.getD 25 0 = 1)) (rdI l 27 (l.getD 26 0).toNat) Y) 230 t = 5 ∧ sel = 1)) → PQ M1 m al N pa own sd ps sn pu rf tm lf b0 eg tk pb as nb mn fa Q t (tmY t (decide (l.getD 25 0 = 1)) (rdI l 27 (l.getD 26 0).toNat) Y) h → QE (fREC k sel (Q : Int) ((wa pa t : Nat) : Int) 0 M1) M1 m al N pa own sd ps sn pu rf tm lf b0 eg tk pb as nb Q t Yf)
    (clo : yv (tmY t (decide (l.getD 25 0 = 1)) (rdI l 27 (l.getD 26 0).toNat) Y) 226 t = 0 → Yf = tmY t (decide (l.getD 25 0 = 1)) (rdI l 27 (l.getD 26 0).toNat) Y) :
    QE (fREC (k + 2) 0 (Q : Int) ((wa pa t : Nat) : Int) (pk : Int) M) M m al N pa own sd ps sn pu rf tm lf b0 eg tk pb as nb Q t Yf := by
  obtain ⟨n, s1, s2, s3, s4⟩ := hsh.2.2.2.1 rfl
  have hb := hsh.1
  have k31 : (kd M Q).1 = 31 := by rw [hS.1]
  have sn1 : vI (ys Y) 230 t ≠ 1 := by rw [show vI (ys Y) 230 t = 4 from h4]; decide
  have n3 := hq.1
  have oks := hq.2.2.2.2.2.2.2.2.1
  obtain ⟨b1, b2, b3, b4, b5, b6, b7, b8⟩ := hF.2.2.2.2 sn1
  have i7 : rI M Q 7 = 1 := by rw [b2, show vI (ys Y) 230 t = 4 from h4]; rfl
  rw [show (l.getD 26 0).toNat = n from by rw [s1]; rfl] at cont clo
  obtain ⟨mo', hmo⟩ : ∃ mo', mo' = decide (l.getD 25 0 = 1) := ⟨_, rfl⟩
  rw [← hmo] at cont clo
  obtain ⟨v, hv⟩ : ∃ v, v = yv Y 254 t + (n : Int) := ⟨_, rfl⟩
  have rl : (rdI l 27 n).length = n := by unfold rdI; rw [List.length_map, List.length_range]
  obtain ⟨L', hL'⟩ : ∃ L', L' = (rdI l 27 n).foldl addL (qL (yq Y) t) := ⟨_, rfl⟩
  have okL' : okL L' := by rw [hL']; exact okL_adds oks s4.2
  obtain ⟨U, hU⟩ : ∃ U, U = sI M Q 14 v := ⟨_, rfl⟩
  have exU : Ex (A6 Q) M U := by rw [hU]; exact Ex.st (A := A6 Q) (Or.inl rfl)
  have SU : AsS U Q := hS.ex exU
  have LU : AsL U Q (qL (yq Y) t) := by
    rw [hU]
    refine ⟨by rw [rI_ne (by omega)]; exact b4.1, b4.2.1, fun i hi => ?_⟩
    rw [rI_ne (by omega), rI_ne (by omega), rI_ne (by omega)]; exact b4.2.2 i hi
  have pkU : PkC U pk l := hpk.ex exU (fun z => hpq.1 (A6_AQ z)) (fun z => hpq.2 (A6_AQ z))
  obtain ⟨M', c1, c2, c3, c4⟩ := c_listLoop (R := fREC k) (x1 := ((wa pa t : Nat) : Int)) SU LU oks pkU hb s1 s2 s3 s4 hpq
  rw [← hL'] at c2
  have ex : Ex (A6 Q) M M' := exU.trans c3
  have S' : AsS M' Q := hS.ex ex
  have k31' : (kd M' Q).1 = 31 := by rw [S'.1]
  have pk' : PkC M' pk l := hpk.ex ex (fun z => hpq.1 (A6_AQ z)) (fun z => hpq.2 (A6_AQ z))
  obtain ⟨C', _⟩ := CB_14 hC hS ex (fun z hz => A6_AQ hz)
  have X' : XQ Q M M' := XQ_ex hS ex (fun z hz => A6_AQ hz)
  have i14 : rI M' Q 14 = w32 v := by rw [c4 _ (by decide), hU, rI_eq rfl]
  have i' : ∀ i, i ≠ 13 → i ≠ 14 → rI M' Q i = rI M Q i := fun i z1 z2 => by rw [c4 i z1, hU, rI_ne (by omega)]
  have I' : ∀ z i, AQk Q z i → rI M' z i = rI M z i := fun z i hz => by
    rcases hz with ⟨e1, e2⟩ | ⟨j, e1, e2⟩
    · rw [e1, e2]; exact i' 5 (by decide) (by decide)
    · exact ex.rI (by unfold A6; omega) i
  have F14 : 2 ≤ yv Y 247 t → FltC M' (Q + 14) (yv Y 256 t).toNat (qB (yq Y) t) := fun z => (b7 (by rw [show vI (ys Y) 230 t = 4 from h4]; decide) z).ex ex (by unfold A6; omega) (by unfold A6; omega)
  obtain ⟨Y0, hY0⟩ : ∃ Y0 : Ys, Y0 = (yw Y, yl Y, st2 (ys Y) 254 t v, lstQ t L' [] (yq Y)) := ⟨_, rfl⟩
  have qL0 : qL (yq Y0) t = L' := by rw [hY0]; exact fup_eq
  have v0 : ∀ a i, a ≠ 254 → yv Y0 a i = yv Y a i := fun a i z => by rw [hY0]; exact vI_ne (by omega)
  have C0 : CB M' m al N pa own sd ps sn pu rf tm lf b0 eg tk pb as nb mn fa Y0 h := by
    rw [hY0]; exact CB_sc C' (fun a i z => vI_ne (by omega)) rfl
  have mn0 : ∀ r, r < nb → mn r = yv Y0 269 r := fun r hr => by rw [v0 _ _ (by decide)]; exact hmn r hr
  have eT : tmY t mo' (rdI l 27 n) Y = if mo' = true ∧ L'.length < 200 then Y0 else if L' = [] ∨ yv Y 247 t = 1 then rnkY t Y0 else (yw Y, yl Y, st2 (st2 (st2 (st2 (ys Y) 254 t v) 263 t 0) 264 t 0) 230 t 5, lstQ t L' [] (yq Y)) := by
    unfold tmY
    rw [rl, ← hv, ← hL', ← hY0]
  rw [eT] at cont clo
  have run : fREC (k + 2) 0 (Q : Int) ((wa pa t : Nat) : Int) (pk : Int) M = (j_X31_listed_146 (fREC k) (Q : Int) ((wa pa t : Nat) : Int) (pk : Int) M').bind fun M2 => some M2 := by
    show f_X31_answered (fREC (k + 1)) (Q : Int) ((wa pa t : Nat) : Int) (pk : Int) M = _
    have e5 : fREC (k + 1) 5 (Q : Int) ((wa pa t : Nat) : Int) (pk : Int) M = f_X31_listed (fREC k) (Q : Int) ((wa pa t : Nat) : Int) (pk : Int) M := rfl
    unfold f_X31_answered j_X31_answered_48
    rw [gfi_e k31, i7, Option.bind_some, if_neg (by decide), Option.bind_some, if_pos rfl, ck_e k31, e5]
    unfold f_X31_listed
    rw [ck_e hpk.1.1, pk_get1 (q := 26) (i := 26) hpk rfl (by omega), s1, Option.bind_some, gfi_e k31, b3, Option.bind_some, pfi_e k31, Option.bind_some, show vI (ys Y) 254 t + (n : Int) = v from hv.symm, ← hU, c1]
  have g25 : f_X4_get (pk : Int) 25 1 M' = some (l.getD 25 0) := pk_get1 (q := 25) (i := 25) pk' rfl (by omega)
  have w25 : w32 (l.getD 25 0) = l.getD 25 0 := by
    have := hb (l.getD 25 0) (getD_mem (by omega))
    exact w32s (by omega)
  have run2 : j_X31_listed_146 (fREC k) (Q : Int) ((wa pa t : Nat) : Int) (pk : Int) M' = if mo' = true ∧ L'.length < 200 then (fREC k 4 (Q : Int) ((wa pa t : Nat) : Int) 0 M').bind fun M1 => some M1 else j_X31_listed_175 (fREC k) (Q : Int) ((wa pa t : Nat) : Int) M' := by
    unfold j_X31_listed_146 j_X31_listed_208
    rw [ck_e pk'.1.1, g25, Option.bind_some, w25]
    by_cases c : l.getD 25 0 = 1
    · have : mo' = true := by rw [hmo]; exact decide_eq_true c
      rw [if_pos (show l.getD 25 0 = w32 1 from c), gfi_e k31', c2.1, Option.bind_some, w32_nn (by have := c2.2.1; omega)]
      by_cases c5 : L'.length < 200
      · rw [if_pos (show ((L'.length : Nat) : Int) < w32 200 from by show ((L'.length : Nat) : Int) < 200; omega), ck_e k31', if_pos ⟨this, c5⟩]
      · rw [if_neg (show ¬ ((L'.length : Nat) : Int) < w32 200 from by show ¬ ((L'.length : Nat) : Int) < 200; omega), if_neg (fun z => c5 z.2)]
    · have : mo' = false := by rw [hmo]; exact decide_eq_false c
      rw [if_neg (show ¬ l.getD 25 0 = w32 1 from c), if_neg (fun z => by rw [this] at z; exact absurd z.1 (by decide))]
  rw [run, run2]
  have fin : ∀ {r : Option MM} {B : MM} , QE r B m al N pa own sd ps sn pu rf tm lf b0 eg tk pb as nb Q t Yf → QE ((r.bind fun M1 => some M1).bind fun M2 => some M2) B m al N pa own sd ps sn pu rf tm lf b0 eg tk pb as nb Q t Yf := fun {r B} z => by
    obtain ⟨x1, x2, x3, x4, x5, x6, y1, y2⟩ := z
    exact ⟨x1, x2, x3, x4, x5, x6, by rw [y1]; rfl, y2⟩
  have fin1 : ∀ {r : Option MM} {B : MM} , QE r B m al N pa own sd ps sn pu rf tm lf b0 eg tk pb as nb Q t Yf → QE (r.bind fun M2 => some M2) B m al N pa own sd ps sn pu rf tm lf b0 eg tk pb as nb Q t Yf := fun {r B} z => by
    obtain ⟨x1, x2, x3, x4, x5, x6, y1, y2⟩ := z
    exact ⟨x1, x2, x3, x4, x5, x6, by rw [y1]; rfl, y2⟩
  by_cases c : mo' = true ∧ L'.length < 200
  · rw [if_pos c]
    rw [if_pos c] at cont
    have z0 : yv Y0 230 t = 4 := by rw [v0 _ _ (by decide)]; exact h4
    refine QE_pre X' (fin (cont M' 4 (by rw [v0 _ _ (by decide), hh.1]; decide) (Or.inl ⟨z0, rfl⟩) ⟨C0, S', ?_, mn0⟩))
    rw [z0]
    have J : ∀ z i, ¬ (z = Q ∧ i = 7) → rI (sI M' Q 7 (4 - 3)) z i = rI M' z i := fun z i c => rI_ne c
    refine AsF_nx hF n3.2 sn1 (by rw [show vI (ys Y0) 230 t = 4 from z0]; decide) (fun z i hz => ?_) (v0 _ _ (by decide)) (fun i _ => ⟨v0 _ _ (by decide), v0 _ _ (by decide)⟩) (by rw [hY0]; exact ⟨rfl, rfl, rfl⟩) ?_ ?_ ?_ ?_ ?_ ?_ (fun z => by rw [show vI (ys Y0) 247 t = yv Y 247 t from v0 _ _ (by decide)] at z; rw [show qB (yq Y0) = qB (yq Y) from by rw [hY0]; rfl]; exact b8 z)
    · rw [J _ _ (fun y => AQk_5 hz (by omega) y.1)]; exact I' z i hz
    · rw [rI_eq rfl, show vI (ys Y0) 230 t = 4 from z0]; rfl
    · rw [J _ _ (by omega), i14, hY0]; exact (vI_eq rfl).symm
    · rw [qL0]
      refine ⟨by rw [J _ _ (by omega)]; exact c2.1, c2.2.1, fun i hi => ?_⟩
      rw [J _ _ (by omega), J _ _ (by omega), J _ _ (by omega)]; exact c2.2.2 i hi
    · rw [J _ _ (by omega), i' 15 (by decide) (by decide), b5, show vI (ys Y0) 230 t = 4 from z0, show vI (ys Y) 230 t = 4 from h4, if_neg (by decide), if_neg (by decide)]
    · intro z; rw [show vI (ys Y0) 230 t = 4 from z0] at z; exact absurd z (by decide)
    · intro _ z
      rw [show vI (ys Y0) 247 t = yv Y 247 t from v0 _ _ (by decide)] at z
      have := F14 z
      rw [show vI (ys Y0) 256 t = yv Y 256 t from v0 _ _ (by decide), show qB (yq Y0) = qB (yq Y) from by rw [hY0]; rfl]
      exact this.ex (Ex.st (A := fun z => z = Q) rfl) (by omega) (by omega)
  · rw [if_neg c]
    rw [if_neg c] at cont clo
    have i5 : rI M' Q 5 = yv Y 247 t := by rw [i' 5 (by decide) (by decide)]; exact hF.1
    have run3 : j_X31_listed_175 (fREC k) (Q : Int) ((wa pa t : Nat) : Int) M' = if L' = [] ∨ yv Y 247 t = 1 then (f_X31_finish (Q : Int) ((wa pa t : Nat) : Int) M').bind fun M1 => some M1 else (fREC k 1 (Q : Int) ((wa pa t : Nat) : Int) 0 (sI M' Q 16 0)).bind fun M1 => some M1 := by
      unfold j_X31_listed_175 j_X31_listed_190 j_X31_listed_208
      rw [gfi_e k31', i5, Option.bind_some, w32s (by omega)]
      by_cases d : yv Y 247 t = 1
      · rw [if_pos (show yv Y 247 t = w32 1 from d), ck_e k31', if_pos (Or.inr d)]
      · rw [if_neg (show ¬ yv Y 247 t = w32 1 from d), gfi_e k31', c2.1, Option.bind_some, w32_nn (by have := c2.2.1; omega)]
        by_cases d2 : L' = []
        · rw [if_pos (by rw [d2]; rfl), ck_e k31', if_pos (Or.inl d2)]
        · rw [if_neg (by
            intro z
            exact d2 (List.length_eq_zero_iff.mp (by omega))), pfi_e k31', Option.bind_some, ck_e (by rw [kd_sI]; exact k31'), if_neg (fun z => z.elim d2 d)]
    rw [run3]
    by_cases d : L' = [] ∨ yv Y 247 t = 1
    · rw [if_pos d]
      rw [if_pos d] at clo
      have h0 : hdW N Y0 t := hdW_ag hh (fun a z => v0 _ _ (by omega))
      have r0 : recY nb Y0 := recY_ag hrec (fun a i z => v0 _ _ (by omega))
      have := c_fin C0 S' (by rw [qL0]; exact c2) (by rw [qL0]; exact okL') mn0 r0 h0 ht hlf (by rw [v0 _ _ (by decide)]; exact hk3)
      rw [← clo clS_0] at this
      exact QE_pre X' (fin this)
    · rw [if_neg d]
      rw [if_neg d] at cont
      obtain ⟨Y5, hY5⟩ : ∃ Y5 : Ys, Y5 = (yw Y, yl Y, st2 (st2 (st2 (st2 (ys Y) 254 t v) 263 t 0) 264 t 0) 230 t 5, lstQ t L' [] (yq Y)) := ⟨_, rfl⟩
      rw [← hY5] at cont
      have v5 : ∀ a i, a ≠ 254 → a ≠ 263 → a ≠ 264 → a ≠ 230 → yv Y5 a i = yv Y a i := fun a i z1 z2 z3 z4 => by rw [hY5]; show vI (st2 (st2 (st2 (st2 (ys Y) 254 t v) 263 t 0) 264 t 0) 230 t 5) a i = _; rw [vI_ne (by omega), vI_ne (by omega), vI_ne (by omega), vI_ne (by omega)]
      have z0 : yv Y5 230 t = 5 := by rw [hY5]; show vI (st2 (st2 (st2 (st2 (ys Y) 254 t v) 263 t 0) 264 t 0) 230 t 5) 230 t = _; rw [vI_eq rfl]; rfl
      have z3 : yv Y5 263 t = 0 := by rw [hY5]; show vI (st2 (st2 (st2 (st2 (ys Y) 254 t v) 263 t 0) 264 t 0) 230 t 5) 263 t = _; rw [vI_ne (by omega), vI_ne (by omega), vI_eq rfl]; rfl
      have z4 : yv Y5 264 t = 0 := by rw [hY5]; show vI (st2 (st2 (st2 (st2 (ys Y) 254 t v) 263 t 0) 264 t 0) 230 t 5) 264 t = _; rw [vI_ne (by omega), vI_eq rfl]; rfl
      have z54 : yv Y5 254 t = w32 v := by rw [hY5]; show vI (st2 (st2 (st2 (st2 (ys Y) 254 t v) 263 t 0) 264 t 0) 230 t 5) 254 t = _; rw [vI_ne (by omega), vI_ne (by omega), vI_ne (by omega), vI_eq rfl]
      have ex16 : Ex (A6 Q) M (sI M' Q 16 0) := ex.trans (Ex.st (A := A6 Q) (Or.inl rfl))
      have S16 : AsS (sI M' Q 16 0) Q := hS.ex ex16
      obtain ⟨C16, _⟩ := CB_14 hC hS ex16 (fun z hz => A6_AQ hz)
      have C5 : CB (sI M' Q 16 0) m al N pa own sd ps sn pu rf tm lf b0 eg tk pb as nb mn fa Y5 h := by
        rw [hY5]; exact CB_sc C16 (fun a i z => by rw [vI_ne (by omega), vI_ne (by omega), vI_ne (by omega), vI_ne (by omega)]) rfl
      refine QE_pre (XQ_ex hS ex16 (fun z hz => A6_AQ hz)) (fin (cont _ 1 (by rw [v5 _ _ (by decide) (by decide) (by decide) (by decide), hh.1]; decide) (Or.inr ⟨z0, rfl⟩) ⟨C5, S16, ?_, fun r hr => by rw [v5 _ _ (by decide) (by decide) (by decide) (by decide)]; exact hmn r hr⟩))
      rw [z0]
      have J : ∀ z i, ¬ (z = Q ∧ (i = 7 ∨ i = 16)) → rI (sI (sI M' Q 16 0) Q 7 (5 - 3)) z i = rI M' z i := fun z i c => by rw [rI_ne (by omega), rI_ne (by omega)]
      refine AsF_nx hF n3.2 sn1 (by rw [show vI (ys Y5) 230 t = 5 from z0]; decide) (fun z i hz => ?_) (v5 _ _ (by decide) (by decide) (by decide) (by decide)) (fun i _ => ⟨v5 _ _ (by decide) (by decide) (by decide) (by decide), v5 _ _ (by decide) (by decide) (by decide) (by decide)⟩) (by rw [hY5]; exact ⟨rfl, rfl, rfl⟩) ?_ ?_ ?_ ?_ ?_ ?_ (fun z => by rw [show vI (ys Y5) 247 t = yv Y 247 t from v5 _ _ (by decide) (by decide) (by decide) (by decide)] at z; rw [show qB (yq Y5) = qB (yq Y) from by rw [hY5]; rfl]; exact b8 z)
      · rw [J _ _ (fun z => AQk_5 hz (by omega) z.1)]; exact I' z i hz
      · rw [rI_eq rfl, show vI (ys Y5) 230 t = 5 from z0]; rfl
      · rw [J _ _ (by omega), i14]; exact z54.symm
      · rw [show qL (yq Y5) t = L' from by rw [hY5]; exact fup_eq]
        refine ⟨by rw [J _ _ (by omega)]; exact c2.1, c2.2.1, fun i hi => ?_⟩
        rw [J _ _ (by omega), J _ _ (by omega), J _ _ (by omega)]; exact c2.2.2 i hi
      · rw [J _ _ (by omega), i' 15 (by decide) (by decide), b5, show vI (ys Y5) 230 t = 5 from z0, show vI (ys Y) 230 t = 4 from h4, if_neg (by decide), if_pos rfl, show vI (ys Y5) 263 t = 0 from z3, if_pos rfl]
      · intro _
        refine ⟨by rw [rI_ne (by omega), rI_eq rfl]; exact z4.symm, fun i hi => ?_⟩
        rw [show qF (yq Y5) t = [] from by rw [hY5]; exact fup_eq] at hi
        exact absurd hi (by simp)
      · intro _ z
        rw [show vI (ys Y5) 247 t = yv Y 247 t from v5 _ _ (by decide) (by decide) (by decide) (by decide)] at z
        have := F14 z
        rw [show vI (ys Y5) 256 t = yv Y 256 t from v5 _ _ (by decide) (by decide) (by decide) (by decide), show qB (yq Y5) = qB (yq Y) from by rw [hY5]; rfl]
        exact (this.ex (Ex.st (A := fun z => z = Q) rfl) (by omega) (by omega)).ex (Ex.st (A := fun z => z = Q) rfl) (by omega) (by omega)
end CANSM
