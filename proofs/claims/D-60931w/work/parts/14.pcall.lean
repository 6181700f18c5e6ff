/-! the calls' rows, by what the callee gives back -/
section PCALL
variable {g : GG} {d : Nat} {Y Y' : YY} {pc : Nat} {ls : List AV} {M : MM} {o : AV × MM} {α : Type} {z : α}
theorem xit_some' {σ ρ : Type} {P : σ ⊕ ρ → Prop} {x : Option ρ} {z : σ ⊕ ρ} (h : xit x = some z) (hz : P z) : ∃ r, x = some r ∧ P (.inr r) := by
  obtain ⟨r, h1, e⟩ := xit_some h
  subst e
  exact ⟨r, h1, hz⟩
theorem some_P {α : Type} {P : α → Prop} {x z : α} (h : some x = some z) (hz : P z) : P x := by cases h; exact hz
theorem P_invSp {F : Option (Int)} {κ : Int → Option α} {idx n : Nat} (t : Nat) (as st : List AV) (hC : CS Y' n) (hL : ML Y.1 idx Y'.2.2.2.1) (hd : decode Y.2.1 pc = .ok (.invokestatic idx, 3)) (hn : as.length = n) (has : asb as = true) (hlen : Nat.ble as.length Y'.2.2.1 = true) (hcat : ctb st = true) (ht : Nat.blt t 2 = true) (hd1 : 1 ≤ d) (h : F.bind κ = some z)
    (hF : ∀ r, F = some r → Sem g (d - 1) Y' 0 (ini Y' (as)) [] M ((t, r), M)) (kk : ∀ r, κ r = some z → Sem g d Y (pc + 3) ls ((t, r) :: st) M o) : Sem g d Y pc ls (as.reverse ++ st) M o :=
  P_invS t (fun r => r) (fun _ => M) as st hC hL hd hn has hlen hcat ht hd1 h hF kk
theorem P_invSe {F : Option (Int × MM)} {κ : (Int × MM) → Option α} {idx n : Nat} (t : Nat) (as st : List AV) (hC : CS Y' n) (hL : ML Y.1 idx Y'.2.2.2.1) (hd : decode Y.2.1 pc = .ok (.invokestatic idx, 3)) (hn : as.length = n) (has : asb as = true) (hlen : Nat.ble as.length Y'.2.2.1 = true) (hcat : ctb st = true) (ht : Nat.blt t 2 = true) (hd1 : 1 ≤ d) (h : F.bind κ = some z)
    (hF : ∀ r, F = some r → Sem g (d - 1) Y' 0 (ini Y' (as)) [] M ((t, r.1), r.2)) (kk : ∀ r, κ r = some z → Sem g d Y (pc + 3) ls ((t, r.1) :: st) r.2 o) : Sem g d Y pc ls (as.reverse ++ st) M o :=
  P_invS t (fun r => r.1) (fun r => r.2) as st hC hL hd hn has hlen hcat ht hd1 h hF kk
theorem P_invSm' {F : Option (MM)} {κ : MM → Option α} {idx n : Nat} (as st : List AV) (hC : CS Y' n) (hL : ML Y.1 idx Y'.2.2.2.1) (hd : decode Y.2.1 pc = .ok (.invokestatic idx, 3)) (hn : as.length = n) (has : asb as = true) (hlen : Nat.ble as.length Y'.2.2.1 = true) (hcat : ctb st = true) (hd1 : 1 ≤ d) (h : F.bind κ = some z)
    (hF : ∀ r, F = some r → Sem g (d - 1) Y' 0 (ini Y' (as)) [] M ((9, 0), r)) (kk : ∀ r, κ r = some z → Sem g d Y (pc + 3) ls st r o) : Sem g d Y pc ls (as.reverse ++ st) M o :=
  P_invSm (fun r => r) as st hC hL hd hn has hlen hcat hd1 h hF kk
theorem P_invVp {F : Option (Int)} {κ : Int → Option α} {idx n ci : Nat} {e : Int} (t : Nat) (as st : List AV) (hC : CV Y' n ci) (hL : ML Y.1 idx Y'.2.2.2.1) (hd : decode Y.2.1 pc = .ok (.invokevirtual idx, 3)) (hn : as.length = n) (has : asb as = true) (hlen : Nat.ble (as.length + 1) Y'.2.2.1 = true) (hcat : ctb st = true) (ht : Nat.blt t 2 = true) (hd1 : 1 ≤ d) (h : ck ci e M (F.bind κ) = some z)
    (hF : ∀ r, F = some r → Sem g (d - 1) Y' 0 (ini Y' ((1, e) :: as)) [] M ((t, r), M)) (kk : ∀ r, κ r = some z → Sem g d Y (pc + 3) ls ((t, r) :: st) M o) : Sem g d Y pc ls (as.reverse ++ (1, e) :: st) M o :=
  P_invV t (fun r => r) (fun _ => M) as st hC hL hd hn has hlen hcat ht hd1 h hF kk
theorem P_invVe {F : Option (Int × MM)} {κ : (Int × MM) → Option α} {idx n ci : Nat} {e : Int} (t : Nat) (as st : List AV) (hC : CV Y' n ci) (hL : ML Y.1 idx Y'.2.2.2.1) (hd : decode Y.2.1 pc = .ok (.invokevirtual idx, 3)) (hn : as.length = n) (has : asb as = true) (hlen : Nat.ble (as.length + 1) Y'.2.2.1 = true) (hcat : ctb st = true) (ht : Nat.blt t 2 = true) (hd1 : 1 ≤ d) (h : ck ci e M (F.bind κ) = some z)
    (hF : ∀ r, F = some r → Sem g (d - 1) Y' 0 (ini Y' ((1, e) :: as)) [] M ((t, r.1), r.2)) (kk : ∀ r, κ r = some z → Sem g d Y (pc + 3) ls ((t, r.1) :: st) r.2 o) : Sem g d Y pc ls (as.reverse ++ (1, e) :: st) M o :=
  P_invV t (fun r => r.1) (fun r => r.2) as st hC hL hd hn has hlen hcat ht hd1 h hF kk
theorem P_invVm' {F : Option (MM)} {κ : MM → Option α} {idx n ci : Nat} {e : Int} (as st : List AV) (hC : CV Y' n ci) (hL : ML Y.1 idx Y'.2.2.2.1) (hd : decode Y.2.1 pc = .ok (.invokevirtual idx, 3)) (hn : as.length = n) (has : asb as = true) (hlen : Nat.ble (as.length + 1) Y'.2.2.1 = true) (hcat : ctb st = true) (hd1 : 1 ≤ d) (h : ck ci e M (F.bind κ) = some z)
    (hF : ∀ r, F = some r → Sem g (d - 1) Y' 0 (ini Y' ((1, e) :: as)) [] M ((9, 0), r)) (kk : ∀ r, κ r = some z → Sem g d Y (pc + 3) ls st r o) : Sem g d Y pc ls (as.reverse ++ (1, e) :: st) M o :=
  P_invVm (fun r => r) as st hC hL hd hn has hlen hcat hd1 h hF kk
theorem P_invI' {F : Option (MM)} {κ : MM → Option α} {idx n : Nat} {e : Int} (as st : List AV) (hC : CI Y' n) (hL : ML Y.1 idx Y'.2.2.2.1) (hd : decode Y.2.1 pc = .ok (.invokespecial idx, 3)) (hn : as.length = n) (has : asb as = true) (hlen : Nat.ble (as.length + 1) Y'.2.2.1 = true) (hcat : ctb st = true) (hd1 : 1 ≤ d) (h : nn e (F.bind κ) = some z)
    (hF : ∀ r, F = some r → Sem g (d - 1) Y' 0 (ini Y' ((1, e) :: as)) [] M ((9, 0), r)) (kk : ∀ r, κ r = some z → Sem g d Y (pc + 3) ls st r o) : Sem g d Y pc ls (as.reverse ++ (1, e) :: st) M o :=
  P_invI (fun r => r) as st hC hL hd hn has hlen hcat hd1 h hF kk
theorem P_invPe {F : Option (Int × MM)} {κ : (Int × MM) → Option α} {idx n ci : Nat} {e : Int} {x : MethodName} (t : Nat) (as st : List AV) (hC : CP Y' x n ci) (hL : Cond.methodLink Y.1 idx x ∈ lw_all) (hd : decode Y.2.1 pc = .ok (.invokevirtual idx, 3)) (hn : as.length = n) (has : asb as = true) (hlen : Nat.ble (as.length + 1) Y'.2.2.1 = true) (hcat : ctb st = true) (ht : Nat.blt t 2 = true) (hd1 : 1 ≤ d) (h : ck ci e M (F.bind κ) = some z)
    (hF : ∀ r, F = some r → Sem g (d - 1) Y' 0 (ini Y' ((1, e) :: as)) [] M ((t, r.1), r.2)) (kk : ∀ r, κ r = some z → Sem g d Y (pc + 3) ls ((t, r.1) :: st) r.2 o) : Sem g d Y pc ls (as.reverse ++ (1, e) :: st) M o :=
  P_invP t (fun r => r.1) (fun r => r.2) as st hC hL hd hn has hlen hcat ht hd1 h hF kk
theorem P_invPm' {F : Option (MM)} {κ : MM → Option α} {idx n ci : Nat} {e : Int} {x : MethodName} (as st : List AV) (hC : CP Y' x n ci) (hL : Cond.methodLink Y.1 idx x ∈ lw_all) (hd : decode Y.2.1 pc = .ok (.invokevirtual idx, 3)) (hn : as.length = n) (has : asb as = true) (hlen : Nat.ble (as.length + 1) Y'.2.2.1 = true) (hcat : ctb st = true) (hd1 : 1 ≤ d) (h : ck ci e M (F.bind κ) = some z)
    (hF : ∀ r, F = some r → Sem g (d - 1) Y' 0 (ini Y' ((1, e) :: as)) [] M ((9, 0), r)) (kk : ∀ r, κ r = some z → Sem g d Y (pc + 3) ls st r o) : Sem g d Y pc ls (as.reverse ++ (1, e) :: st) M o :=
  P_invPm (fun r => r) as st hC hL hd hn has hlen hcat hd1 h hF kk
def jmax (x y : Int) : Int := if w32 x < w32 y then w32 y else w32 x
def jmin (x y : Int) : Int := if w32 y < w32 x then w32 y else w32 x
theorem ofInt_jmax (x y : Int) : Int32.ofInt (jmax x y) = if Int32.ofInt x < Int32.ofInt y then Int32.ofInt y else Int32.ofInt x := by
  unfold jmax
  by_cases h : w32 x < w32 y
  · rw [if_pos h, if_pos (w32_lt.mpr h), ofInt_w32]
  · rw [if_neg h, if_neg (fun q => h (w32_lt.mp q)), ofInt_w32]
theorem ofInt_jmin (x y : Int) : Int32.ofInt (jmin x y) = if Int32.ofInt y < Int32.ofInt x then Int32.ofInt y else Int32.ofInt x := by
  unfold jmin
  by_cases h : w32 y < w32 x
  · rw [if_pos h, if_pos (w32_lt.mpr h), ofInt_w32]
  · rw [if_neg h, if_neg (fun q => h (w32_lt.mp q)), ofInt_w32]
theorem S_max {st : List AV} {idx : Nat} {x y : Int} (hL : Cond.methodLink Y.1 idx Lib.Math.max.name ∈ lw_all) (hd : decode Y.2.1 pc = .ok (.invokestatic idx, 3)) (hcat : ctb st = true) (hd1 : 1 ≤ d) (k : Sem g d Y (pc + 3) ls ((0, jmax x y) :: st) M o) : Sem g d Y pc ls ((0, y) :: (0, x) :: st) M o := by
  refine ⟨k.1, ?_⟩
  intro p l e R s m args below meth c H locs cells slots Q arr cx hr hH hS hl kk
  have hts := cx.2.2.2.2.1
  have W1 := k.2 p l e R s m args below meth c H locs cells slots Q arr cx hr hH hS hl kk
  have k1 := k.1
  obtain ⟨r1, r2, r3, r4⟩ := hr
  have hc := ctb_ok (g := g) hcat
  simp only [List.map_cons, cv0, ofInt_jmax] at W1 ⊢
  exact va_mmax cx.1 cx.2.1 (by rw [cx.2.2.1]; exact hl.1.symm) cx.2.2.2.1 (hts _ hL) (hts _ q312) (hts _ q179) (hts _ q313) (by omega) (by omega) (by omega) (by omega) hd W1
theorem S_min {st : List AV} {idx : Nat} {x y : Int} (hL : Cond.methodLink Y.1 idx Lib.Math.min.name ∈ lw_all) (hd : decode Y.2.1 pc = .ok (.invokestatic idx, 3)) (hcat : ctb st = true) (hd1 : 1 ≤ d) (k : Sem g d Y (pc + 3) ls ((0, jmin x y) :: st) M o) : Sem g d Y pc ls ((0, y) :: (0, x) :: st) M o := by
  refine ⟨k.1, ?_⟩
  intro p l e R s m args below meth c H locs cells slots Q arr cx hr hH hS hl kk
  have hts := cx.2.2.2.2.1
  have W1 := k.2 p l e R s m args below meth c H locs cells slots Q arr cx hr hH hS hl kk
  have k1 := k.1
  obtain ⟨r1, r2, r3, r4⟩ := hr
  have hc := ctb_ok (g := g) hcat
  simp only [List.map_cons, cv0, ofInt_jmin] at W1 ⊢
  exact va_mmin cx.1 cx.2.1 (by rw [cx.2.2.1]; exact hl.1.symm) cx.2.2.2.1 (hts _ hL) (hts _ q309) (hts _ q179) (hts _ q310) (by omega) (by omega) (by omega) (by omega) hd W1
end PCALL
