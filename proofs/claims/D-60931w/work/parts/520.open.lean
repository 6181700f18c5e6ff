/-! a work opens -/
/-- words of a background work that opens -/
def opB (t : Nat) (kind : Int) (p : Nat) (sc : VV) : VV := st2 (st2 (st2 (st2 sc 226 t 1) 227 t kind) 228 t (p : Int)) 229 t (-1)
section OPEN
variable {S : Nat → Bool} {M M1 : MM} {V W sc : VV} {m al N p t t' nb oth Z L k K kx n : Nat} {pa tk : Nat → Nat} {own : Nat → Ky} {sd ps sn pu rf : Nat → Int} {tm kind x2 x3 : Int} {lf : Nat → Nat} {b b0 B : Nat × Nat} {h h' : Gh} {eg : EG} {pb as : Nat → Option Nat} {mn sto : Nat → Int} {fa : Nat → Nat} {Y Y1 : Ys} {Lb : Nat → List Trm} {LA : Nat → List Nat} {dn : Nat → Int} {ev tn nS : Nat → Nat} {w : Wd}
/-- the class's work opens -/
theorem CB_op (hC : CB M m al N pa own sd ps sn pu rf tm lf b0 eg tk pb as nb mn fa Y h) (ht : t < 12 + N) (hx : ExA (A12 (wa pa t)) M M1) (hnn : nN M1 = nN M ∧ nU M1 = nU M) (hr : ∀ i, i = 0 ∨ i = 1 ∨ i = 7 ∨ i = 8 ∨ i = 9 → rR M1 (wa pa t) i = rR M (wa pa t) i) (hl : rI M1 (wa pa t) 5 = ((lf t + 1 : Nat) : Int)) (hv : ∀ t', t' ≠ t → ∀ a, a = 226 ∨ a = 227 ∨ a = 228 ∨ a = 229 ∨ a = 241 ∨ a = 242 → vI sc a t' = yv Y a t') (hv2 : ∀ r, r < nb → ∀ a, a = 265 ∨ a = 266 ∨ a = 267 ∨ a = 268 → vI sc a r = yv Y a r) (hn : Wk12 M1 pa tk pb as sc t) :
    CB M1 m al N pa own sd ps sn pu rf tm (fup lf t (lf t + 1)) b0 eg tk pb as nb mn fa (dtW t (yw Y), yl Y, sc, yq Y) h ∧ FK (fun z => z == 12) M M1 := by
  obtain ⟨hp, hL, hW, hT⟩ := hC
  obtain ⟨hu, u1, u2, u3⟩ := id hL
  obtain ⟨w1, w2, w3, w4, w5⟩ := u2 t ht
  have f := FK_w12 w1 hx
  exact ⟨⟨cp_life (cp_11 hp f (by decide) hnn) ht, LksC_w hL ht hx hr (by rw [hl, fup_eq]) (fun t' z => fup_ne z), Wks_w hL ht hx hW hv hn, Tks_sc (Tks_fk hu f (by decide) hT) hv2⟩, f⟩
/-- the fields of the class's work -/
def opM (M : MM) (a q : Nat) (x2 x3 : Int) (l : Nat) : MM := sI (sI (sR (sR (sR M a 2 (q : Int)) a 3 x2) a 4 x3) a 6 1) a 5 ((l : Int) + 1)
theorem c_start0 (hk : (kd M (wa pa t)).1 = 11) (h5 : rI M (wa pa t) 5 = (lf t : Int)) : f_X11_start ((wa pa t : Nat) : Int) ((pa p : Nat) : Int) (kx : Int) x3 M = ckE 13 (kx : Int) (opM M (wa pa t) (pa p) (kx : Int) x3 (lf t)) (Option.bind (f_X13_begin (kx : Int) ((wa pa t : Nat) : Int) (opM M (wa pa t) (pa p) (kx : Int) x3 (lf t))) fun r => j_X11_start_38 ((wa pa t : Nat) : Int) r.1 r.2) (ckE 14 (kx : Int) (opM M (wa pa t) (pa p) (kx : Int) x3 (lf t)) (Option.bind (f_X14_begin (kx : Int) ((wa pa t : Nat) : Int) (opM M (wa pa t) (pa p) (kx : Int) x3 (lf t))) fun r => j_X11_start_38 ((wa pa t : Nat) : Int) r.1 r.2) (ckE 30 (kx : Int) (opM M (wa pa t) (pa p) (kx : Int) x3 (lf t)) (Option.bind (f_X30_begin (kx : Int) ((wa pa t : Nat) : Int) (opM M (wa pa t) (pa p) (kx : Int) x3 (lf t))) fun r => j_X11_start_38 ((wa pa t : Nat) : Int) r.1 r.2) (ckE 31 (kx : Int) (opM M (wa pa t) (pa p) (kx : Int) x3 (lf t)) (Option.bind (f_X31_begin (kx : Int) ((wa pa t : Nat) : Int) (opM M (wa pa t) (pa p) (kx : Int) x3 (lf t))) fun r => j_X11_start_38 ((wa pa t : Nat) : Int) r.1 r.2) none))) := by
  unfold f_X11_start
  rw [pfr_e hk, Option.bind_some, pfr_e (by exact hk), Option.bind_some, pfr_e (by exact hk), Option.bind_some, pfz_e (by exact hk) (Or.inr rfl), Option.bind_some, gfi_e (by exact hk), Option.bind_some, show rI (sI (sR (sR (sR M (wa pa t) 2 ((pa p : Nat) : Int)) (wa pa t) 3 (kx : Int)) (wa pa t) 4 x3) (wa pa t) 6 1) (wa pa t) 5 = (lf t : Int) by rw [rI_ne (by omega)]; exact h5, pfi_e (by exact hk), Option.bind_some, gfr_e (by exact hk), Option.bind_some]
  rw [show rR (sI (sI (sR (sR (sR M (wa pa t) 2 ((pa p : Nat) : Int)) (wa pa t) 3 (kx : Int)) (wa pa t) 4 x3) (wa pa t) 6 1) (wa pa t) 5 ((lf t : Int) + 1)) (wa pa t) 3 = (kx : Int) by rw [rR_sI, rR_sI, rR_sR, if_neg (by omega), rR_sR, if_pos ⟨rfl, rfl⟩]]
  rfl
theorem opM_f {a q l : Nat} (hl : l + 1 < 2147483648) : (rR (opM M a q x2 x3 l) a 2 = (q : Int) ∧ rR (opM M a q x2 x3 l) a 3 = x2 ∧ rR (opM M a q x2 x3 l) a 4 = x3 ∧ rI (opM M a q x2 x3 l) a 6 = 1 ∧ rI (opM M a q x2 x3 l) a 5 = ((l + 1 : Nat) : Int)) ∧ (∀ i, i ≠ 2 → i ≠ 3 → i ≠ 4 → rR (opM M a q x2 x3 l) a i = rR M a i) ∧ (∀ z i, z ≠ a → rR (opM M a q x2 x3 l) z i = rR M z i ∧ rI (opM M a q x2 x3 l) z i = rI M z i) ∧ ∀ z, kd (opM M a q x2 x3 l) z = kd M z := by
  unfold opM
  refine ⟨⟨?_, ?_, ?_, ?_, ?_⟩, fun i h2 h3 h4 => ?_, fun z i hz => ⟨?_, ?_⟩, fun z => rfl⟩
  · rw [rR_sI, rR_sI, rR_sR, if_neg (by omega), rR_sR, if_neg (by omega), rR_sR, if_pos ⟨rfl, rfl⟩]
  · rw [rR_sI, rR_sI, rR_sR, if_neg (by omega), rR_sR, if_pos ⟨rfl, rfl⟩]
  · rw [rR_sI, rR_sI, rR_sR, if_pos ⟨rfl, rfl⟩]
  · rw [rI_ne (by omega), rI_eq rfl]; rfl
  · rw [rI_eq rfl, w32_id (by omega) (by omega)]; omega
  · rw [rR_sI, rR_sI, rR_sR, if_neg (by omega), rR_sR, if_neg (by omega), rR_sR, if_neg (by omega)]
  · rw [rR_sI, rR_sI, rR_sR, if_neg (by omega), rR_sR, if_neg (by omega), rR_sR, if_neg (by omega)]
  · rw [rI_ne (by omega), rI_ne (by omega)]; rfl
/-- words of the reference -/
theorem vy_op (h : VY V m al N own sd ps sn pu rf tm Lb oth Z ev tn Y) (ht : t < 44) (htn : tn t < 2000000000) (g : ∀ a i, ¬ ((226 ≤ a ∧ a ≤ 270 ∧ a ≠ 231) ∨ mv a i = 9) → W a i = (st2 V 231 t ((tn t : Int) + 1)) a i) (gl : ∀ a i, (232 ≤ a ∧ a ≤ 239) → vI W a i = vI V a i) (hs : ScV W sc) (gq : ∀ a i, (a = 249 ∨ a = 251 ∨ a = 253 ∨ a = 255 ∨ (257 ≤ a ∧ a ≤ 262) ∨ a = 270) → vI W a i = vI V a i) (hT : TmV W sc Lb) : VY W m al N own sd ps sn pu rf tm Lb oth Z ev (fup tn t (tn t + 1)) (dtW t (yw Y), yl Y, sc, yq Y) := by
  obtain ⟨_, v1, _⟩ := vy_turn h ht htn
  have ne : ∀ b j, b ≠ 231 → vI (st2 V 231 t ((tn t : Int) + 1)) b j = vI V b j := fun b j z => by rw [vI_st2, if_neg (fun e => z e.1)]
  refine vy_mk v1 g (LksV_ag v1.2.2.2.1 (fun a i z => ?_)) hs (QsV_ag v1.2.2.2.2.2.1 (fun a i z => by rw [ne a i (by omega)]; exact gq a i z)) hT
  by_cases c : a = 231
  · show w32 _ = w32 _
    rw [g a i (by rw [c, show mv 231 i = 6 from rfl]; omega)]
  · rw [ne a i c]; exact gl a i (by omega)
theorem opB_ne {a i : Nat} (hz : ¬ ((a = 226 ∨ a = 227 ∨ a = 228 ∨ a = 229) ∧ i = t)) : vI (opB t kind p sc) a i = vI sc a i := by
  unfold opB
  rw [vI_ne (by omega), vI_ne (by omega), vI_ne (by omega), vI_ne (by omega)]
theorem opB_eq (hk : 0 ≤ kind ∧ kind ≤ 5) (hp : p < 32) : vI (opB t kind p sc) 226 t = 1 ∧ vI (opB t kind p sc) 227 t = kind ∧ vI (opB t kind p sc) 228 t = (p : Int) ∧ vI (opB t kind p sc) 229 t = -1 := by
  unfold opB
  refine ⟨?_, ?_, ?_, ?_⟩
  · rw [vI_ne (by omega), vI_ne (by omega), vI_ne (by omega), vI_eq rfl]; rfl
  · rw [vI_ne (by omega), vI_ne (by omega), vI_eq rfl, w32_id (by omega) (by omega)]
  · rw [vI_ne (by omega), vI_eq rfl, w32_nn (by omega)]
  · rw [vI_eq rfl]; rfl
/-- a background work of the reference opens -/
theorem v_openB (h : VY V m al N own sd ps sn pu rf tm Lb oth Z ev tn Y) (ht : t < 44) (h12 : 12 ≤ t) (hk : 0 ≤ kind ∧ kind ≤ 5) (htn : tn t < 2000000000) : f_X16_open (t : Int) kind (p : Int) V = some (st2 (opB t kind p V) 231 t ((tn t : Int) + 1)) := by
  have h231 := (h.2.2.2.1 t ht).2.2.2
  unfold f_X16_open
  rw [s2z_n ht (by decide) (Or.inr rfl), Option.bind_some, s2_n ht (by decide), Option.bind_some, s2_n ht (by decide), Option.bind_some, s2_n ht (by decide), Option.bind_some, l2_n ht (by decide), Option.bind_some, s2_n ht (by decide), Option.bind_some, w32_nn (by omega), if_neg (by show ¬ ((t : Nat) : Int) < 12; omega)]
  rw [vI_ne (by omega), vI_ne (by omega), vI_ne (by omega), vI_ne (by omega), h231]
  rfl
end OPEN
