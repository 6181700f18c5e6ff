/-! the reference's peers -/
def PV (V : VV) (N : Nat) (own : Nat → Ky) (sd ps sn pu rf tl : Nat → Int) : Prop := vI V 156 13 = (N : Int) ∧ N ≤ 32 ∧ (∀ p, p < 32 → gk V 165 (5 * p) = own p ∧ vI V 166 p = sd p ∧ vI V 167 p = ps p ∧ vI V 168 p = sn p ∧ vI V 169 p = pu p ∧ vI V 170 p = rf p) ∧ ∀ i, i < 160 → vI V 172 i = tl i
def sdO (N : Nat) (sd : Nat → Int) (t : Int) : Int := if 0 ≤ t ∧ t < (N : Int) then sd t.toNat else 0
/-! requests: number, address, type, deadline, how often it was sent, key, bytes, the work that waits for it, the bucket that it probes -/
abbrev Rq : Type := Int × Int × Int × Int × Int × Ky × List Int × Option Nat × Option Int
def qNum (y : Rq) : Int := y.1
def qAdr (y : Rq) : Int := y.2.1
def qTyp (y : Rq) : Int := y.2.2.1
def qDdl (y : Rq) : Int := y.2.2.2.1
def qSnt (y : Rq) : Int := y.2.2.2.2.1
def qKey (y : Rq) : Ky := y.2.2.2.2.2.1
def qByt (y : Rq) : List Int := y.2.2.2.2.2.2.1
def qWrk (y : Rq) : Option Nat := y.2.2.2.2.2.2.2.1
def qPrb (y : Rq) : Option Int := y.2.2.2.2.2.2.2.2
def rmQ (R : List Rq) (n : Int) : List Rq := R.filter (fun y => decide (qNum y ≠ n))
def upQ (R : List Rq) (x : Rq) : List Rq := R.map (fun y => if qNum y = qNum x then x else y)
/-- a work goes on: what it waited for is nothing to it -/
def dtQ (t : Nat) (y : Rq) : Rq := (qNum y, qAdr y, qTyp y, qDdl y, qSnt y, qKey y, qByt y, if qWrk y = some t then none else qWrk y, qPrb y)
def gQ (V : VV) (r : Nat) : Rq := (vI V 198 r, vI V 199 r, vI V 201 r, vI V 202 r, vI V 203 r, gk V 200 (5 * r), rws (fun i => vI V 208 (350 * r + i)) (vI V 207 r).toNat, if 0 ≤ vI V 204 r ∧ vI V 205 r = vI V 231 (vI V 204 r).toNat then some (vI V 204 r).toNat else none, if 0 ≤ vI V 206 r then some (vI V 206 r) else none)
def okQ (y : Rq) : Prop := (0 ≤ qAdr y ∧ qAdr y < 32) ∧ (0 ≤ qTyp y ∧ qTyp y < 256) ∧ (25 ≤ (qByt y).length ∧ (qByt y).length ≤ 350) ∧ isBL (qByt y) ∧ (0 ≤ qSnt y ∧ qSnt y ≤ 4)
def slQ (V : VV) (p : Nat) : List Nat := (rws (fun i => 40 * p + i) 40).filter (fun r => decide (vI V 197 r ≠ 0))
def RqV (V : VV) (p : Nat) (R : List Rq) (nx : Nat) : Prop := vI V 171 p = (nx : Int) ∧ ((slQ V p).map (gQ V)).Perm R ∧ R.Pairwise (fun a b => qNum a < qNum b) ∧ (∀ y, y ∈ R → 0 < qNum y ∧ qNum y < (nx : Int) ∧ okQ y) ∧ (∀ r, r ∈ slQ V p → vI V 207 r = ((qByt (gQ V r)).length : Int) ∧ vI V 204 r < 44 ∧ vI V 205 r ≤ vI V 231 (vI V 204 r).toNat)
theorem filt_add {l : List Nat} {w w' : Nat → Bool} {s : Nat} : l.Nodup → s ∈ l → w s = false → (∀ r, r ∈ l → w' r = (w r || decide (r = s))) → (l.filter w').Perm (s :: l.filter w) := by
  induction l with
  | nil => intro _ hs; simp at hs
  | cons a l ih =>
    intro hn hs h0 h
    rw [List.nodup_cons] at hn
    by_cases c : a = s
    · subst c
      have e1 : w' a = true := by rw [h a List.mem_cons_self]; simp
      have e2 : l.filter w' = l.filter w := List.filter_congr (fun r hr => by
        rw [h r (List.mem_cons_of_mem _ hr)]
        have : r ≠ a := fun z => hn.1 (z ▸ hr)
        simp [this])
      rw [List.filter_cons_of_pos e1, List.filter_cons_of_neg (by simp [h0]), e2]
    · have hs2 : s ∈ l := by
        rcases List.mem_cons.mp hs with q | q
        · exact absurd q.symm c
        · exact q
      have p := ih hn.2 hs2 h0 (fun r hr => h r (List.mem_cons_of_mem _ hr))
      have e1 : w' a = w a := by rw [h a List.mem_cons_self]; simp [c]
      cases hw : w a with
      | true =>
        rw [List.filter_cons_of_pos (by rw [e1]; exact hw), List.filter_cons_of_pos hw]
        exact (p.cons a).trans (List.Perm.swap _ _ _)
      | false =>
        rw [List.filter_cons_of_neg (by rw [e1, hw]; decide), List.filter_cons_of_neg (by rw [hw]; decide)]
        exact p
section VREQ
variable {V W : VV} {p s : Nat} {R : List Rq} {nx : Nat} {x y : Rq}
theorem sl_nodup : (rws (fun i => 40 * p + i) 40).Nodup := by
  rw [List.Nodup, List.pairwise_iff_getElem]
  intro a b ha hb hab
  rw [rws_get, rws_get]; omega
theorem sl_mem : s ∈ rws (fun i => 40 * p + i) 40 ↔ 40 * p ≤ s ∧ s < 40 * p + 40 := by
  rw [rws_mem]
  constructor
  · rintro ⟨i, hi, rfl⟩; omega
  · intro h; exact ⟨s - 40 * p, by omega, by omega⟩
theorem slQ_mem : s ∈ slQ V p ↔ (40 * p ≤ s ∧ s < 40 * p + 40) ∧ vI V 197 s ≠ 0 := by
  unfold slQ
  rw [List.mem_filter, sl_mem]
  simp
theorem slQ_add (hs : 40 * p ≤ s ∧ s < 40 * p + 40) (h0 : vI V 197 s = 0) (h1 : vI W 197 s ≠ 0) (h : ∀ r, r ≠ s → vI W 197 r = vI V 197 r) : (slQ W p).Perm (s :: slQ V p) := by
  refine filt_add sl_nodup (sl_mem.mpr hs) (by simp [h0]) (fun r hr => ?_)
  by_cases c : r = s
  · rw [c]; simp [h0, h1]
  · rw [h r c]; simp [c]
theorem rq_slot (h : RqV V p R nx) (hs : s ∈ slQ V p) : gQ V s ∈ R := by
  have : gQ V s ∈ (slQ V p).map (gQ V) := List.mem_map.mpr ⟨s, hs, rfl⟩
  rwa [h.2.1.mem_iff] at this
theorem rq_row (h : RqV V p R nx) (hy : y ∈ R) : ∃ s, s ∈ slQ V p ∧ gQ V s = y := by
  rw [← h.2.1.mem_iff] at hy
  exact List.mem_map.mp hy
theorem rq_nodup (h : RqV V p R nx) : (R.map qNum).Nodup := by
  rw [List.Nodup, List.pairwise_map]
  exact h.2.2.1.imp (fun q => Int.ne_of_lt q)
theorem rq_len (h : RqV V p R nx) : (slQ V p).length = R.length := by
  rw [← h.2.1.length_eq, List.length_map]
theorem rq_40 (h : RqV V p R nx) : R.length ≤ 40 := by
  rw [← rq_len h]
  have := List.length_filter_le (fun r => decide (vI V 197 r ≠ 0)) (rws (fun i => 40 * p + i) 40)
  rw [rws_len] at this
  exact this
/-- slots are apart by their numbers -/
theorem rq_inj (h : RqV V p R nx) {r : Nat} (hs : s ∈ slQ V p) (hr : r ∈ slQ V p) (e : qNum (gQ V s) = qNum (gQ V r)) : s = r := by
  have hn : (((slQ V p).map (gQ V)).map qNum).Nodup := (h.2.1.map qNum).nodup_iff.mpr (rq_nodup h)
  rw [List.map_map, List.Nodup, List.pairwise_map] at hn
  by_cases c : s = r
  · exact c
  · exfalso
    obtain ⟨i, hi, ei⟩ := List.mem_iff_getElem.mp hs
    obtain ⟨j, hj, ej⟩ := List.mem_iff_getElem.mp hr
    have q := List.pairwise_iff_getElem.mp hn
    rcases Nat.lt_trichotomy i j with z | z | z
    · exact q i j hi hj z (by rw [ei, ej]; exact e)
    · subst z; exact c (ei.symm.trans ej)
    · exact q j i hj hi z (by rw [ei, ej]; exact e.symm)
/-- as it was -/
theorem rq_ag (h : RqV V p R nx) (h171 : vI W 171 p = vI V 171 p) (hw : ∀ r, 40 * p ≤ r → r < 40 * p + 40 → vI W 197 r = vI V 197 r ∧ (vI V 197 r ≠ 0 → gQ W r = gQ V r ∧ vI W 207 r = vI V 207 r ∧ vI W 204 r = vI V 204 r ∧ vI W 205 r = vI V 205 r)) (ht : ∀ t, t < 44 → vI W 231 t = vI V 231 t) : RqV W p R nx := by
  have esl : slQ W p = slQ V p := List.filter_congr (fun r hr => by
    have := sl_mem.mp hr
    rw [(hw r this.1 this.2).1])
  refine ⟨by rw [h171]; exact h.1, ?_, h.2.2.1, h.2.2.2.1, fun r hr => ?_⟩
  · rw [esl, List.map_congr_left (g := gQ V) (fun r hr => by
      have := slQ_mem.mp hr
      exact ((hw r this.1.1 this.1.2).2 this.2).1)]
    exact h.2.1
  · rw [esl] at hr
    have hm := slQ_mem.mp hr
    obtain ⟨a1, a2, a3, a4⟩ := (hw r hm.1.1 hm.1.2).2 hm.2
    have := h.2.2.2.2 r hr
    rw [a1, a2, a3, a4, ht _ (by omega)]
    exact this
/-- one is removed -/
theorem rq_del (h : RqV V p R nx) (hs : s ∈ slQ V p) (h171 : vI W 171 p = vI V 171 p) (h0 : vI W 197 s = 0) (hw : ∀ r, 40 * p ≤ r → r < 40 * p + 40 → (r ≠ s → vI W 197 r = vI V 197 r) ∧ gQ W r = gQ V r ∧ vI W 207 r = vI V 207 r ∧ vI W 204 r = vI V 204 r ∧ vI W 205 r = vI V 205 r) (ht : ∀ t, t < 44 → vI W 231 t = vI V 231 t) : RqV W p (rmQ R (qNum (gQ V s))) nx := by
  have hm := slQ_mem.mp hs
  have pm : (slQ V p).Perm (s :: slQ W p) := by
    refine filt_add sl_nodup (sl_mem.mpr hm.1) (by simp [h0]) (fun r hr => ?_)
    have := sl_mem.mp hr
    by_cases c : r = s
    · rw [c]; simp [h0, hm.2]
    · rw [(hw r this.1 this.2).1 c]; simp [c]
  have hsub : ∀ r, r ∈ slQ W p → r ∈ slQ V p ∧ r ≠ s := by
    intro r hr
    have h1 := slQ_mem.mp hr
    have h2 : r ≠ s := fun z => by rw [z] at h1; exact h1.2 h0
    exact ⟨slQ_mem.mpr ⟨h1.1, by rw [← (hw r h1.1.1 h1.1.2).1 h2]; exact h1.2⟩, h2⟩
  refine ⟨by rw [h171]; exact h.1, ?_, h.2.2.1.filter _, fun y hy => h.2.2.2.1 y (List.mem_filter.mp hy).1, fun r hr => ?_⟩
  · have e1 : (slQ W p).map (gQ W) = (slQ W p).map (gQ V) := List.map_congr_left (fun r hr => by
      have := (slQ_mem.mp hr).1
      exact (hw r this.1 this.2).2.1)
    rw [e1]
    have p2 : (gQ V s :: (slQ W p).map (gQ V)).Perm R := ((pm.map (gQ V)).symm).trans h.2.1
    have p3 := p2.filter (fun y => decide (qNum y ≠ qNum (gQ V s)))
    rw [List.filter_cons_of_neg (by simp)] at p3
    have e2 : ((slQ W p).map (gQ V)).filter (fun y => decide (qNum y ≠ qNum (gQ V s))) = (slQ W p).map (gQ V) := List.filter_eq_self.mpr (fun y hy => by
      obtain ⟨r, hr, rfl⟩ := List.mem_map.mp hy
      obtain ⟨h1, h2⟩ := hsub r hr
      have : qNum (gQ V r) ≠ qNum (gQ V s) := fun z => h2 (rq_inj h h1 hs z)
      simpa using this)
    rw [e2] at p3
    exact p3
  · obtain ⟨h1, h2⟩ := hsub r hr
    have hm := (slQ_mem.mp h1).1
    obtain ⟨-, a1, a2, a3, a4⟩ := hw r hm.1 hm.2
    have := h.2.2.2.2 r h1
    rw [a1, a2, a3, a4, ht _ (by omega)]
    exact this
/-- one is changed, its number stays -/
theorem rq_upd (h : RqV V p R nx) (hs : s ∈ slQ V p) (hx : gQ W s = x) (hxn : qNum x = qNum (gQ V s)) (hok : okQ x) (hxl : vI W 207 s = ((qByt x).length : Int)) (hxs : vI W 204 s = vI V 204 s ∧ vI W 205 s = vI V 205 s) (h171 : vI W 171 p = vI V 171 p) (hw : ∀ r, 40 * p ≤ r → r < 40 * p + 40 → vI W 197 r = vI V 197 r ∧ (r ≠ s → gQ W r = gQ V r ∧ vI W 207 r = vI V 207 r ∧ vI W 204 r = vI V 204 r ∧ vI W 205 r = vI V 205 r)) (ht : ∀ t, t < 44 → vI W 231 t = vI V 231 t) : RqV W p (upQ R x) nx := by
  have esl : slQ W p = slQ V p := List.filter_congr (fun r hr => by
    have := sl_mem.mp hr
    rw [(hw r this.1 this.2).1])
  refine ⟨by rw [h171]; exact h.1, ?_, ?_, fun y hy => ?_, fun r hr => ?_⟩
  · rw [esl]
    have e1 : (slQ V p).map (gQ W) = ((slQ V p).map (gQ V)).map (fun y => if qNum y = qNum x then x else y) := by
      rw [List.map_map]
      refine List.map_congr_left (fun r hr => ?_)
      show gQ W r = if qNum (gQ V r) = qNum x then x else gQ V r
      by_cases c : r = s
      · rw [if_pos (by rw [c, hxn]), c, hx]
      · rw [if_neg (fun z => c (rq_inj h hr hs (z.trans hxn)))]
        have := (slQ_mem.mp hr).1
        exact ((hw r this.1 this.2).2 c).1
    rw [e1]
    exact h.2.1.map _
  · unfold upQ
    rw [List.pairwise_map]
    refine h.2.2.1.imp (fun {a b} q => ?_)
    have e : ∀ z : Rq, qNum (if qNum z = qNum x then x else z) = qNum z := fun z => by split <;> simp_all
    rw [e, e]; exact q
  · obtain ⟨z, hz, rfl⟩ := List.mem_map.mp hy
    have hz2 := h.2.2.2.1 z hz
    by_cases c : qNum z = qNum x
    · rw [if_pos c]
      exact ⟨by rw [← c]; exact hz2.1, by rw [← c]; exact hz2.2.1, hok⟩
    · rw [if_neg c]; exact hz2
  · rw [esl] at hr
    have hm := (slQ_mem.mp hr).1
    have := h.2.2.2.2 r hr
    by_cases c : r = s
    · subst c
      rw [hx, hxs.1, hxs.2, ht _ (by omega)]
      exact ⟨hxl, this.2⟩
    · obtain ⟨a1, a2, a3, a4⟩ := (hw r hm.1 hm.2).2 c
      rw [a1, a2, a3, a4, ht _ (by omega)]
      exact this
/-- one more, with the next number -/
theorem rq_add (h : RqV V p R nx) (hs : 40 * p ≤ s ∧ s < 40 * p + 40) (h0 : vI V 197 s = 0) (h1 : vI W 197 s ≠ 0) (hnx : 0 < nx) (hx : gQ W s = x) (hxn : qNum x = (nx : Int)) (hok : okQ x) (hxl : vI W 207 s = ((qByt x).length : Int)) (hxs : vI W 204 s < 44 ∧ vI W 205 s ≤ vI W 231 (vI W 204 s).toNat) (h171 : vI W 171 p = ((nx + 1 : Nat) : Int)) (hw : ∀ r, 40 * p ≤ r → r < 40 * p + 40 → r ≠ s → vI W 197 r = vI V 197 r ∧ (vI V 197 r ≠ 0 → gQ W r = gQ V r ∧ vI W 207 r = vI V 207 r ∧ vI W 204 r = vI V 204 r ∧ vI W 205 r = vI V 205 r)) (ht : ∀ t, t < 44 → vI W 231 t = vI V 231 t) : RqV W p (R ++ [x]) (nx + 1) := by
  have pm : (slQ W p).Perm (s :: slQ V p) := by
    refine filt_add sl_nodup (sl_mem.mpr hs) (by simp [h0]) (fun r hr => ?_)
    have := sl_mem.mp hr
    by_cases c : r = s
    · rw [c]; simp [h0, h1]
    · rw [(hw r this.1 this.2 c).1]; simp [c]
  have hne : ∀ r, r ∈ slQ V p → r ≠ s := fun r hr z => by
    have := (slQ_mem.mp hr).2
    rw [z] at this; exact this h0
  refine ⟨h171, ?_, ?_, fun y hy => ?_, fun r hr => ?_⟩
  · have e1 : (slQ V p).map (gQ W) = (slQ V p).map (gQ V) := List.map_congr_left (fun r hr => by
      have := slQ_mem.mp hr
      exact ((hw r this.1.1 this.1.2 (hne r hr)).2 this.2).1)
    refine (pm.map (gQ W)).trans ?_
    rw [List.map_cons, e1, hx]
    exact (List.Perm.cons x h.2.1).trans (List.perm_append_singleton x R).symm
  · rw [List.pairwise_append]
    refine ⟨h.2.2.1, by simp, fun a ha b hb => ?_⟩
    simp at hb
    rw [hb, hxn]
    exact (h.2.2.2.1 a ha).2.1
  · rcases List.mem_append.mp hy with hy | hy
    · have := h.2.2.2.1 y hy
      exact ⟨this.1, by omega, this.2.2⟩
    · simp at hy
      rw [hy, hxn]
      exact ⟨by omega, by omega, hok⟩
  · rcases List.mem_cons.mp (pm.mem_iff.mp hr) with rfl | hr
    · rw [hx]; exact ⟨hxl, hxs⟩
    · have hm := slQ_mem.mp hr
      obtain ⟨a1, a2, a3, a4⟩ := (hw r hm.1.1 hm.1.2 (hne r hr)).2 hm.2
      have := h.2.2.2.2 r hr
      rw [a1, a2, a3, a4, ht _ (by omega)]
      exact this
end VREQ
