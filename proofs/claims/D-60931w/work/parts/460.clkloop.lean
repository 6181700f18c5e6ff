/-! a lookup of the class goes on until it is over or waits -/
/-- what is so of a lookup that goes on -/
def JL (N : Nat) (own : Nat → Ky) (tm : Int) (ev : Nat → Nat) (tgt : Ky) (s : LSt) : Prop := okW N own tm s.1 ∧ EvI N ev s.1 ∧ okEs tgt s.2.1 ∧ (∀ i, w32 (s.2.2.2 i) = s.2.2.2 i) ∧ w32 s.2.2.1 = s.2.2.1
def F5 : Nat → Bool := fun z => z == 1 || z == 5 || z == 6 || z == 7 || z == 11
section CLKLOOP
variable {M M1 : MM} {m al N p t nb oth : Nat} {pa tk : Nat → Nat} {own : Nat → Ky} {sd ps sn pu rf : Nat → Int} {tm how ad ty : Int} {lf : Nat → Nat} {b0 : Nat × Nat} {h : Gh} {eg : EG} {pb as : Nat → Option Nat} {mn : Nat → Int} {fa : Nat → Nat} {Y : Ys} {ev : Nat → Nat} {tgt : Ky} {vals : Bool} {rc : Int} {x : Ent} {s : LSt} {Lb : Nat → List Trm}
theorem JL_ask (hB : bdg N ev oth) (hp : p < N) (hx : x ∈ s.2.1) (h : JL N own tm ev tgt s) : JL N own tm ev tgt (askN N own sd tm p t rc tgt vals s x) := by
  obtain ⟨j1, j2, j3, j4, j5⟩ := h
  have okx := j3.2.2 x hx
  refine ⟨ok_ask j1 j2 hB hp okx.2.1 (by cases vals <;> decide) (kbs_BL tgt).1 (by rw [(kbs_BL tgt).2]; omega), ev_ask j2, okEs_st j3 ?_ okx.2.2.2, ra_ok j4, ?_⟩
  · by_cases c : (askY N own sd tm s.1 p (eAdr x) (tyL vals) (eKey x) (kbs tgt) (some t) none).2 = true
    · rw [if_pos c]; decide
    · rw [if_neg c]; decide
  · show w32 (if (askY N own sd tm s.1 p (eAdr x) (tyL vals) (eKey x) (kbs tgt) (some t) none).2 = true then w32 (s.2.2.1 + 1) else s.2.2.1) = (if (askY N own sd tm s.1 p (eAdr x) (tyL vals) (eKey x) (kbs tgt) (some t) none).2 = true then w32 (s.2.2.1 + 1) else s.2.2.1)
    by_cases c : (askY N own sd tm s.1 p (eAdr x) (tyL vals) (eKey x) (kbs tgt) (some t) none).2 = true
    · rw [if_pos c, w32_w32]
    · rw [if_neg c, j5]
theorem nE_ask (h : JL N own tm ev tgt s) (hx : x ∈ s.2.1) (h0 : eSt x = 0) : nE (askN N own sd tm p t rc tgt vals s x).2.1 + 1 = nE s.2.1 := by
  refine nE_st h.2.2.1 hx h0 ?_
  by_cases c : (askY N own sd tm s.1 p (eAdr x) (tyL vals) (eKey x) (kbs tgt) (some t) none).2 = true
  · rw [if_pos c]; decide
  · rw [if_neg c]; decide
theorem c_lkLoop (hB : bdg N ev oth) (hm : 1 ≤ m ∧ m ≤ 20) (hal : al ≤ 8) (ht : t < 12 + N) (hgo : yv Y 226 t ≠ 0) (hp : yp Y t < N) (hrc : yv Y 229 t = -1 ∨ (0 ≤ yv Y 229 t ∧ yv Y 229 t < (nb : Int))) : ∀ (n : Nat) (s : LSt) (M : MM) (h : Gh) (fu : Nat), nE s.2.1 < n → n < fu → JL N own tm ev (yl Y t).1 s → CB M m al N pa own sd ps sn pu rf tm lf b0 eg tk pb as nb mn fa (putS Y t s) h →
    ∃ M' h', CB M' m al N pa own sd ps sn pu rf tm lf b0 eg tk pb as nb mn fa (putS Y t (lkOn m al N own sd tm (yp Y t) t (yv Y 229 t) (yl Y t).1 (yl Y t).2.1 n s).2) h' ∧ FK F5 M M' ∧ JL N own tm ev (yl Y t).1 (lkOn m al N own sd tm (yp Y t) t (yv Y 229 t) (yl Y t).1 (yl Y t).2.1 n s).2 ∧ ((lkOn m al N own sd tm (yp Y t) t (yv Y 229 t) (yl Y t).1 (yl Y t).2.1 n s).1 = false → lpN (fun s : Int × MM => b_X11_goOn_2 ((wa pa t : Nat) : Int) s.1 s.2) fu (1, M) = some M') ∧ ((lkOn m al N own sd tm (yp Y t) t (yv Y 229 t) (yl Y t).1 (yl Y t).2.1 n s).1 = true → allE (frontE m (lkOn m al N own sd tm (yp Y t) t (yv Y 229 t) (yl Y t).1 (yl Y t).2.1 n s).2.2.1) = true ∧ ∃ fu', fu ≤ fu' + n ∧ 0 < fu' ∧ lpN (fun s : Int × MM => b_X11_goOn_2 ((wa pa t : Nat) : Int) s.1 s.2) fu (1, M) = lpN (fun s : Int × MM => b_X11_goOn_2 ((wa pa t : Nat) : Int) s.1 s.2) fu' (1, M')) := by
  intro n
  induction n with
  | zero => intro s M h fu h0; omega
  | succ n ih =>
    intro s M h fu hn hfu hJ hC
    obtain ⟨fu', hfu'⟩ : ∃ f, fu = f + 1 := ⟨fu - 1, by omega⟩
    obtain ⟨hP, hL, hW, hT⟩ := id hC
    obtain ⟨hu, u1, u2, u3⟩ := id hL
    obtain ⟨w1, w2, w3, w4, w5⟩ := u2 t ht
    rw [ps_l] at w2 w3 w4
    have w2 : LuC M (wa pa t + 5) m (yl Y t).1 s.2.1 (eg t).1 (eg t).2 := w2
    have w3 : rI M (wa pa t + 5) 4 = s.2.2.1 := w3
    obtain ⟨a, ha⟩ : ∃ a, a = wa pa t := ⟨_, rfl⟩
    have l15 : rR M a 1 = ((a + 5 : Nat) : Int) := by rw [ha]; exact w1.2.1.2.1
    have k15 : (kd M (a + 5)).1 = 15 := by rw [ha, w2.1.1]
    have k11 : (kd M a).1 = 11 := by rw [ha]; exact w1.1
    have k6 : (kd M 18).1 = 6 := by rw [hP.1.1.1]
    have fin : ∀ M1, lpN (fun s : Int × MM => b_X11_goOn_2 ((wa pa t : Nat) : Int) s.1 s.2) fu' (0, M1) = some M1 := fun M1 => lpN_end (by omega) (by
      show b_X11_goOn_2 ((wa pa t : Nat) : Int) 0 M1 = _
      unfold b_X11_goOn_2
      rw [if_pos (by decide)])
    have stop : b_X11_goOn_2 ((wa pa t : Nat) : Int) 1 M = some (.inl (0, M)) → lpN (fun s : Int × MM => b_X11_goOn_2 ((wa pa t : Nat) : Int) s.1 s.2) fu (1, M) = some M := fun e => by
      rw [hfu', lpN_cnt (b := fun s : Int × MM => b_X11_goOn_2 ((wa pa t : Nat) : Int) s.1 s.2) (s := (1, M)) e]
      exact fin M
    cases hall : allE (frontE m s.2.1) with
    | true =>
      rw [lkOn_all hall]
      exact ⟨M, h, hC, .refl, hJ, fun z => (by cases z), fun _ => ⟨hall, fu, by omega, by omega, rfl⟩⟩
    | false =>
      have hov : f_X15_isOver ((a + 5 : Nat) : Int) M = some (b2i false) := by rw [ha, c_isOver w2 hm, hall]
      have hal2 : rI M 18 1 = (al : Int) := hP.1.2.1
      -- behind the test
      have body : b_X11_goOn_2 ((wa pa t : Nat) : Int) 1 M = if s.2.2.1 < (al : Int) then (f_X11_askNext ((wa pa t : Nat) : Int) M).bind fun r1 => if w32 r1.1 = 0 then some (.inl (0, r1.2)) else some (.inl (1, r1.2)) else some (.inl (0, M)) := by
        unfold b_X11_goOn_2 j_X11_goOn_66 j_X11_goOn_67
        rw [if_neg (by decide), ← ha, gfr_e k11, l15, Option.bind_some, ck_e k15, hov, Option.bind_some, if_pos (by decide), Option.bind_some, gfi_e k15, ha, w3, Option.bind_some, ← ha, gfr_e k11, show rR M a 0 = ((18 : Nat) : Int) from by rw [ha]; exact w1.2.1.1, Option.bind_some, gfi_e k6, hal2, Option.bind_some, hJ.2.2.2.2, w32_nn (by omega), ck_e k11]
        rfl
      by_cases c : (al : Int) ≤ s.2.2.1
      · rw [lkOn_none hall (Or.inr c)]
        refine ⟨M, h, hC, .refl, hJ, fun _ => stop ?_, fun z => by cases z⟩
        rw [body, if_neg (by omega)]
      · rcases c_askNext hC hJ.1 hJ.2.2.1 hm ht hgo hp hrc hJ.2.2.2.1 with ⟨e1, e2⟩ | ⟨x, M', h', e1, e2, e3, e4⟩
        · rw [lkOn_none hall (Or.inl e1)]
          refine ⟨M, h, hC, .refl, hJ, fun _ => stop ?_, fun z => by cases z⟩
          rw [body, if_pos (by omega), e2, Option.bind_some]
          rfl
        · rw [lkOn_ask hall e1 c]
          obtain ⟨x1, x2⟩ := next_mem e1
          have hx := front_mem x1
          have hJ' := JL_ask (sd := sd) (p := yp Y t) (t := t) (rc := yv Y 229 t) (vals := (yl Y t).2.1) hB hp hx hJ
          have hn' := nE_ask (sd := sd) (p := yp Y t) (t := t) (rc := yv Y 229 t) (vals := (yl Y t).2.1) hJ hx x2
          obtain ⟨M2, h2, r1, r2, r3, r4, r5⟩ := ih _ M' h' fu' (by omega) (by omega) hJ' e3
          have eb : lpN (fun s : Int × MM => b_X11_goOn_2 ((wa pa t : Nat) : Int) s.1 s.2) fu (1, M) = lpN (fun s : Int × MM => b_X11_goOn_2 ((wa pa t : Nat) : Int) s.1 s.2) fu' (1, M') := by
            rw [hfu', lpN_cnt (b := fun s : Int × MM => b_X11_goOn_2 ((wa pa t : Nat) : Int) s.1 s.2) (s := (1, M)) (s' := (1, M'))]
            show b_X11_goOn_2 ((wa pa t : Nat) : Int) 1 M = _
            rw [body, if_pos (by omega), e2, Option.bind_some]
            rfl
          rw [eb]
          refine ⟨M2, h2, r1, FK.trans e4 r2, r3, r4, fun z => ?_⟩
          obtain ⟨q1, fu2, q2, q3, q4⟩ := r5 z
          exact ⟨q1, fu2, by omega, q3, q4⟩
/-- the same of the whole state -/
theorem c_lok (hB : bdg N ev oth) (hm : 1 ≤ m ∧ m ≤ 20) (hal : al ≤ 8) (ht : t < 12 + N) (hgo : yv Y 226 t ≠ 0) (hp : yp Y t < N) (hrc : yv Y 229 t = -1 ∨ (0 ≤ yv Y 229 t ∧ yv Y 229 t < (nb : Int))) {fu : Nat} (hfu : 65 < fu) (hs : sdY m N own tm Lb ev Y) (ht44 : t < 44) (hC : CB M m al N pa own sd ps sn pu rf tm lf b0 eg tk pb as nb mn fa Y h) :
    ∃ M' h', CB M' m al N pa own sd ps sn pu rf tm lf b0 eg tk pb as nb mn fa (lokY m al N own sd tm t Y).2 h' ∧ FK F5 M M' ∧ ((lokY m al N own sd tm t Y).1 = false → lpN (fun s : Int × MM => b_X11_goOn_2 ((wa pa t : Nat) : Int) s.1 s.2) fu (1, M) = some M') ∧ ((lokY m al N own sd tm t Y).1 = true → allE (frontE m (yl (lokY m al N own sd tm t Y).2 t).2.2.1) = true ∧ ∃ fu', fu ≤ fu' + 65 ∧ 0 < fu' ∧ lpN (fun s : Int × MM => b_X11_goOn_2 ((wa pa t : Nat) : Int) s.1 s.2) fu (1, M) = lpN (fun s : Int × MM => b_X11_goOn_2 ((wa pa t : Nat) : Int) s.1 s.2) fu' (1, M')) := by
  have hE := hs.2.2.1 t ht44
  have w3 : rI M (wa pa t + 5) 4 = (yl Y t).2.2.2 := (hC.2.1.2.2.1 t ht).2.2.1
  have J0 : JL N own tm ev (yl Y t).1 (lsY Y t) := ⟨hs.1, hs.2.1, hE, fun i => w32_vI, by show w32 (yl Y t).2.2.2 = (yl Y t).2.2.2; rw [← w3]; exact w32_rI⟩
  have e0 : ∀ a i, vI (ys (putS Y t (lsY Y t))) a i = vI (ys Y) a i := fun a i => by
    by_cases c : a = 268
    · rw [c]
      show w32 (if 268 = 268 then w32 (ys Y 268 i) else ys Y 268 i) = _
      rw [if_pos rfl, w32_w32]; rfl
    · exact ps_v c
  have C0 : CB M m al N pa own sd ps sn pu rf tm lf b0 eg tk pb as nb mn fa (putS Y t (lsY Y t)) h := by
    have := CB_sc (sc := ys (putS Y t (lsY Y t))) (q := yq Y) hC (fun a i _ => e0 a i) rfl
    have el : yl (putS Y t (lsY Y t)) = yl Y := by
      funext z
      show fup (yl Y) t ((yl Y t).1, (yl Y t).2.1, (yl Y t).2.2.1, (yl Y t).2.2.2) z = _
      unfold fup
      by_cases c : z = t
      · rw [if_pos c, c]
      · rw [if_neg c]
    have eY : putS Y t (lsY Y t) = (yw Y, yl Y, ys (putS Y t (lsY Y t)), yq Y) := by
      refine Prod.ext rfl (Prod.ext el rfl)
    rw [eY]; exact this
  obtain ⟨M', h', r1, r2, r3, r4, r5⟩ := c_lkLoop hB hm hal ht hgo hp hrc 65 (lsY Y t) M h fu (by have := nE_le (yl Y t).2.2.1; have := hE.1; show nE (yl Y t).2.2.1 < 65; omega) hfu J0 C0
  refine ⟨M', h', r1, r2, r4, fun z => ?_⟩
  obtain ⟨q1, q2⟩ := r5 z
  refine ⟨?_, q2⟩
  rw [show (yl (lokY m al N own sd tm t Y).2 t).2.2.1 = (lkOn m al N own sd tm (yp Y t) t (yv Y 229 t) (yl Y t).1 (yl Y t).2.1 65 (lsY Y t)).2.2.1 from by show (fup (yl Y) t _ t).2.2.1 = _; rw [fup_eq]]
  exact q1
end CLKLOOP
