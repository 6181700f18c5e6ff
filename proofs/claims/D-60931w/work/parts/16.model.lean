/-! the reference as a function of its own ints: V a i, a from 156 to 275 -/
set_option maxRecDepth 100000
abbrev VV : Type := Nat → Nat → Int
def mtab : List (Nat × Nat) := [(2576, 20), (2592, 500), (2608, 576), (2624, 80), (2640, 5), (2656, 11), (2544, 11), (2560, 11), (2304, 160), (2320, 32), (2336, 32), (2352, 32), (2368, 32), (2384, 32), (2400, 32), (2416, 160), (2432, 32), (2448, 32), (2464, 24576), (2480, 2048), (2496, 10240), (2512, 32768), (2528, 3000), (2064, 250), (2080, 250), (2096, 400), (2112, 400), (2128, 400), (2144, 400), (2160, 400), (2176, 184000), (2192, 460), (2208, 32), (2224, 176000), (2240, 35200), (2256, 35200), (2274, 35200), (2288, 35200), (1824, 5), (1840, 21), (1858, 1280), (1872, 1280), (1888, 1280), (1904, 6400), (1920, 1280), (1936, 1280), (1952, 1280), (1968, 1280), (1984, 1280), (2000, 1280), (2016, 1280), (2032, 448000), (2048, 325), (1584, 32), (1600, 32000), (1616, 6400), (1632, 6400), (1648, 6400), (1664, 6400), (1680, 200), (1696, 16), (1712, 16), (1728, 16), (1744, 290), (1760, 30), (1776, 30), (1792, 30), (1808, 30), (1344, 30), (1362, 44), (1376, 44), (1392, 44), (1408, 44), (1424, 44), (1440, 44), (1456, 220), (1474, 44), (1488, 44), (1504, 14300), (1520, 2860), (1536, 2860), (1552, 2860), (1568, 44), (1104, 21), (1120, 44), (1136, 44), (1152, 44), (1168, 44), (1184, 44), (1202, 44), (1216, 44), (1232, 44), (1248, 660), (1264, 132), (1280, 660), (1296, 132), (1312, 132), (1328, 44), (864, 44), (880, 44), (896, 12760), (912, 44), (928, 8800), (944, 8800), (960, 8800), (978, 8800), (992, 44), (1008, 44), (1024, 256), (1040, 256), (1056, 256), (1072, 256), (1088, 256), (768, 46080), (784, 460), (800, 5), (816, 5), (832, 40), (848, 512)]
def mkd (a : Nat) : Nat × Nat := mtab.getD (a - 157) (0, 0)
def madr (k : Nat) : Nat := [0, 0, 157, 158, 0, 159, 160, 161, 162, 163, 164, 0, 0, 0, 165, 166, 167, 168, 169, 170, 171, 172, 173, 174, 175, 176, 177, 178, 0, 179, 180, 181, 0, 0, 182, 183, 184, 185, 186, 187, 188, 0, 0, 189, 190, 191, 192, 193, 194, 195, 0, 196, 197, 198, 199, 200, 201, 202, 203, 204, 205, 206, 207, 208, 0, 209, 210, 211, 212, 213, 214, 215, 0, 216, 0, 217, 218, 219, 0, 0, 220, 0, 0, 0, 0, 221, 222, 223, 0, 224, 225, 0, 226, 227, 228, 229, 230, 231, 232, 233, 234, 235, 236, 237, 238, 239, 0, 240, 241, 242, 243, 244, 245, 246, 247, 248, 249, 250, 251, 252, 253, 254, 255, 256, 257, 258, 259, 260, 261, 262, 263, 264, 265, 266, 267, 268, 269, 270, 0, 271, 272, 273, 0, 274, 275].getD k 0
def LM (M : MM) : Prop := (M.2.2.1 156).1 = 16 ∧ (∀ k, madr k ≠ 0 → M.2.1 156 k = (madr k : Int)) ∧ ∀ a, 157 ≤ a → a < 276 → M.2.2.1 a = mkd a
def wr (M : MM) (V : VV) : MM := (fun a i => if 156 ≤ a ∧ a < 276 then V a i else M.1 a i, M.2)
theorem wr_at {M : MM} {V : VV} {a i : Nat} (h : 156 ≤ a ∧ a < 276) : (wr M V).1 a i = V a i := if_pos h
theorem wr_st2 {M : MM} {V : VV} {a i : Nat} {v : Int} (h : 156 ≤ a ∧ a < 276) : (st2 (wr M V).1 a i v, (wr M V).2) = wr M (st2 V a i v) := by
  unfold wr
  congr 1
  funext b j
  unfold st2
  by_cases hb : 156 ≤ b ∧ b < 276
  · simp only [if_pos hb]
  · simp only [if_neg hb]
    rw [if_neg (fun q => hb (by rw [q.1]; exact h))]
theorem wr_self {M : MM} : wr M M.1 = M := by
  unfold wr
  congr 1
  funext b j
  split <;> rfl
theorem LM_wr {M : MM} {V : VV} (h : LM M) : LM (wr M V) := h
def mok (a t n : Nat) : Bool := Nat.ble 157 a && Nat.blt a 276 && Nat.ble 64 (mkd a).1 && Nat.beq ((mkd a).1 % 16) t && Nat.beq (mkd a).2 n
theorem mok_spec {a t n : Nat} {M : MM} (hM : LM M) (h : mok a t n = true) : (156 ≤ a ∧ a < 276) ∧ ∃ k, M.2.2.1 a = (k, n) ∧ 64 ≤ k ∧ k % 16 = t := by
  unfold mok at h
  simp only [Bool.and_eq_true] at h
  obtain ⟨⟨⟨⟨h1, h2⟩, h3⟩, h4⟩, h5⟩ := h
  have h1 := Nat.le_of_ble_eq_true h1
  have h2 := Nat.blt_eq.mp h2
  refine ⟨⟨by omega, h2⟩, (mkd a).1, ?_, Nat.le_of_ble_eq_true h3, Nat.eq_of_beq_eq_true h4⟩
  rw [hM.2.2 a h1 h2, ← Nat.eq_of_beq_eq_true h5]
def p2 (k : Nat) (v : Int) (V : VV) : Option VV := some (st2 V 156 k v)
def p2z (k : Nat) (v : Int) (V : VV) : Option VV := if v = 0 ∨ v = 1 then some (st2 V 156 k v) else none
def l2 (a n : Nat) (i : Int) (V : VV) : Option Int := if 0 ≤ w32 i ∧ w32 i < n then some (w32 (V a (w32 i).toNat)) else none
def s2 (a n : Nat) (i v : Int) (V : VV) : Option VV := if 0 ≤ w32 i ∧ w32 i < n then some (st2 V a (w32 i).toNat v) else none
def s2z (a n : Nat) (i v : Int) (V : VV) : Option VV := if (v = 0 ∨ v = 1) ∧ 0 ≤ w32 i ∧ w32 i < n then some (st2 V a (w32 i).toNat v) else none
/-- e is an array of ints of the reference, and i a place in it -/
def mpin (e i : Int) : Prop := 157 ≤ e ∧ e < 276 ∧ (mkd e.toNat).1 % 16 = 0 ∧ 64 ≤ (mkd e.toNat).1 ∧ 0 ≤ w32 i ∧ w32 i < (mkd e.toNat).2
def lp (e i : Int) (V : VV) : Option Int := if 157 ≤ e ∧ e < 276 ∧ (mkd e.toNat).1 % 16 = 0 ∧ 64 ≤ (mkd e.toNat).1 ∧ 0 ≤ w32 i ∧ w32 i < (mkd e.toNat).2 then some (w32 (V e.toNat (w32 i).toNat)) else none
def sp (e i v : Int) (V : VV) : Option VV := if 157 ≤ e ∧ e < 276 ∧ (mkd e.toNat).1 % 16 = 0 ∧ 64 ≤ (mkd e.toNat).1 ∧ 0 ≤ w32 i ∧ w32 i < (mkd e.toNat).2 then some (st2 V e.toNat (w32 i).toNat v) else none
noncomputable def mck {α : Type} (e : Int) (M : MM) (x : Option α) : Option α := @ite _ (e = 156 ∧ LM M) (Classical.propDecidable _) x none
section PMOD
variable {g : GG} {d : Nat} {Y Y' : YY} {pc : Nat} {ls st : List AV} {M : MM} {V : VV} {o : AV × MM} {α : Type} {z : α}
theorem P2_gfi (hM : LM M) {idx k : Nat} (hL : FL Y.1 idx 16 k) (ht : ftag 16 k = 0) (hd : decode Y.2.1 pc = .ok (.getfield idx, 3)) (kk : Sem g d Y (pc + 3) ls ((0, w32 (V 156 k)) :: st) (wr M V) o) : Sem g d Y pc ls ((1, 156) :: st) (wr M V) o := by
  obtain ⟨I, Rf, K, n, u⟩ := M
  have hK : K 156 = (16, (K 156).2) := by rw [← hM.1]
  refine S_get (a := 156) hL hd hK ?_
  rw [ht]
  exact kk
theorem P2_gfl (hM : LM M) {idx k : Nat} (hL : FL Y.1 idx 16 k) (ht : ftag 16 k = 2) (hd : decode Y.2.1 pc = .ok (.getfield idx, 3)) (kk : Sem g d Y (pc + 3) ls ((2, V 156 k) :: st) (wr M V) o) : Sem g d Y pc ls ((1, 156) :: st) (wr M V) o := by
  obtain ⟨I, Rf, K, n, u⟩ := M
  have hK : K 156 = (16, (K 156).2) := by rw [← hM.1]
  refine S_get (a := 156) hL hd hK ?_
  rw [ht]
  exact kk
theorem P2_gfr (hM : LM M) {idx k a : Nat} (hL : FL Y.1 idx 16 k) (ht : ftag 16 k = 1) (ha : madr k = a + 1 - 1 ∧ Nat.ble 1 a = true) (hd : decode Y.2.1 pc = .ok (.getfield idx, 3)) (kk : Sem g d Y (pc + 3) ls ((1, (a : Int)) :: st) (wr M V) o) : Sem g d Y pc ls ((1, 156) :: st) (wr M V) o := by
  have h1 := Nat.le_of_ble_eq_true ha.2
  have h2 : madr k = a := by have := ha.1; omega
  have h3 := hM.2.1 k (by omega)
  obtain ⟨I, Rf, K, n, u⟩ := M
  have hK : K 156 = (16, (K 156).2) := by rw [← hM.1]
  refine S_get (a := 156) hL hd hK ?_
  rw [ht]
  have e : rdv (wr (I, Rf, K, n, u) V) 1 156 k = (a : Int) := by rw [← h2, ← h3]; rfl
  show Sem g d Y (pc + 3) ls ((1, rdv (wr (I, Rf, K, n, u) V) 1 156 k) :: st) (wr (I, Rf, K, n, u) V) o
  rw [e]
  exact kk
theorem P2_pfi (hM : LM M) {idx k : Nat} {v : Int} {κ : VV → Option α} (hL : FL Y.1 idx 16 k) (hF : FP Y.1 idx 16 k Y.2.2.2.1.name .int) (ht : ftag 16 k = 0) (hd : decode Y.2.1 pc = .ok (.putfield idx, 3)) (h : (p2 k v V).bind κ = some z) (kk : ∀ V1, κ V1 = some z → Sem g d Y (pc + 3) ls st (wr M V1) o) : Sem g d Y pc ls ((0, v) :: (1, 156) :: st) (wr M V) o := by
  have k1 := kk _ h
  rw [← wr_st2 (by decide)] at k1
  obtain ⟨I, Rf, K, n, u⟩ := M
  have hK : K 156 = (16, (K 156).2) := by rw [← hM.1]
  exact S_puti (a := 156) hL hF ht hd hK k1
theorem P2_pfl (hM : LM M) {idx k : Nat} {v : Int} {κ : VV → Option α} (hL : FL Y.1 idx 16 k) (hF : FP Y.1 idx 16 k Y.2.2.2.1.name .long) (ht : ftag 16 k = 2) (hd : decode Y.2.1 pc = .ok (.putfield idx, 3)) (h : (p2 k v V).bind κ = some z) (kk : ∀ V1, κ V1 = some z → Sem g d Y (pc + 3) ls st (wr M V1) o) : Sem g d Y pc ls ((2, v) :: (1, 156) :: st) (wr M V) o := by
  have k1 := kk _ h
  rw [← wr_st2 (by decide)] at k1
  obtain ⟨I, Rf, K, n, u⟩ := M
  have hK : K 156 = (16, (K 156).2) := by rw [← hM.1]
  exact S_putl (a := 156) hL hF ht hd hK k1
theorem P2_pfz (hM : LM M) {idx k : Nat} {v : Int} {κ : VV → Option α} (hL : FL Y.1 idx 16 k) (hF : FP Y.1 idx 16 k Y.2.2.2.1.name .boolean) (ht : ftag 16 k = 0) (hd : decode Y.2.1 pc = .ok (.putfield idx, 3)) (h : (p2z k v V).bind κ = some z) (kk : ∀ V1, κ V1 = some z → Sem g d Y (pc + 3) ls st (wr M V1) o) : Sem g d Y pc ls ((0, v) :: (1, 156) :: st) (wr M V) o := by
  unfold p2z at h
  split at h
  · next hv =>
    have k1 := kk _ h
    rw [← wr_st2 (by decide)] at k1
    obtain ⟨I, Rf, K, n, u⟩ := M
    have hK : K 156 = (16, (K 156).2) := by rw [← hM.1]
    exact S_putz (a := 156) hL hF ht hv hd hK k1
  · cases h
theorem P2_lai (hM : LM M) {a n : Nat} {i : Int} {κ : Int → Option α} (hm : mok a 0 n = true) (hd : decode Y.2.1 pc = .ok (.iaload, 1)) (h : (l2 a n i V).bind κ = some z) (kk : ∀ v, κ v = some z → Sem g d Y (pc + 1) ls ((0, v) :: st) (wr M V) o) : Sem g d Y pc ls ((0, i) :: (1, (a : Int)) :: st) (wr M V) o := by
  obtain ⟨hr, k, hK, h1, h2⟩ := mok_spec hM hm
  unfold l2 at h
  split at h
  · next hc =>
    have k1 := kk _ h
    have e := wr_at (M := M) (V := V) (i := (w32 i).toNat) hr
    rw [← e] at k1
    obtain ⟨I, Rf, K, n, u⟩ := M
    exact S_iald hK h1 h2 hc.1 hc.2 hd k1
  · cases h
theorem P2_laz (hM : LM M) {a n : Nat} {i : Int} {κ : Int → Option α} (hm : mok a 2 n = true) (hd : decode Y.2.1 pc = .ok (.baload, 1)) (h : (l2 a n i V).bind κ = some z) (kk : ∀ v, κ v = some z → Sem g d Y (pc + 1) ls ((0, v) :: st) (wr M V) o) : Sem g d Y pc ls ((0, i) :: (1, (a : Int)) :: st) (wr M V) o := by
  obtain ⟨hr, k, hK, h1, h2⟩ := mok_spec hM hm
  unfold l2 at h
  split at h
  · next hc =>
    have k1 := kk _ h
    have e := wr_at (M := M) (V := V) (i := (w32 i).toNat) hr
    rw [← e] at k1
    obtain ⟨I, Rf, K, n, u⟩ := M
    exact S_zald hK h1 h2 hc.1 hc.2 hd k1
  · cases h
theorem mp_spec {e i : Int} (hM : LM M) (hc : 157 ≤ e ∧ e < 276 ∧ (mkd e.toNat).1 % 16 = 0 ∧ 64 ≤ (mkd e.toNat).1 ∧ 0 ≤ w32 i ∧ w32 i < (mkd e.toNat).2) : ∃ a : Nat, e = (a : Int) ∧ (156 ≤ a ∧ a < 276) ∧ ∃ k l, M.2.2.1 a = (k, l) ∧ 64 ≤ k ∧ k % 16 = 0 ∧ w32 i < l := by
  obtain ⟨a, rfl⟩ := Int.eq_ofNat_of_zero_le (show 0 ≤ e by omega)
  simp only [Int.toNat_natCast] at hc
  refine ⟨a, rfl, by omega, (mkd a).1, (mkd a).2, ?_, hc.2.2.2.1, hc.2.2.1, hc.2.2.2.2.2⟩
  rw [hM.2.2 a (by omega) (by omega)]
theorem P2_lp (hM : LM M) {e i : Int} {κ : Int → Option α} (hd : decode Y.2.1 pc = .ok (.iaload, 1)) (h : (lp e i V).bind κ = some z) (kk : ∀ v, κ v = some z → Sem g d Y (pc + 1) ls ((0, v) :: st) (wr M V) o) : Sem g d Y pc ls ((0, i) :: (1, e) :: st) (wr M V) o := by
  unfold lp at h
  split at h
  · next hc =>
    obtain ⟨a, rfl, hr, k, l, hK, h1, h2, h3⟩ := mp_spec hM hc
    have k1 := kk _ h
    have e := wr_at (M := M) (V := V) (i := (w32 i).toNat) hr
    rw [Int.toNat_natCast, ← e] at k1
    obtain ⟨I, Rf, K, n, u⟩ := M
    exact S_iald hK h1 h2 hc.2.2.2.2.1 h3 hd k1
  · cases h
theorem P2_sai (hM : LM M) {a n : Nat} {i v : Int} {κ : VV → Option α} (hm : mok a 0 n = true) (hd : decode Y.2.1 pc = .ok (.iastore, 1)) (h : (s2 a n i v V).bind κ = some z) (kk : ∀ V1, κ V1 = some z → Sem g d Y (pc + 1) ls st (wr M V1) o) : Sem g d Y pc ls ((0, v) :: (0, i) :: (1, (a : Int)) :: st) (wr M V) o := by
  obtain ⟨hr, k, hK, h1, h2⟩ := mok_spec hM hm
  unfold s2 at h
  split at h
  · next hc =>
    have k1 := kk _ h
    rw [← wr_st2 hr] at k1
    obtain ⟨I, Rf, K, n, u⟩ := M
    exact S_iast hK h1 h2 hc.1 hc.2 hd k1
  · cases h
theorem P2_saz (hM : LM M) {a n : Nat} {i v : Int} {κ : VV → Option α} (hm : mok a 2 n = true) (hd : decode Y.2.1 pc = .ok (.bastore, 1)) (h : (s2z a n i v V).bind κ = some z) (kk : ∀ V1, κ V1 = some z → Sem g d Y (pc + 1) ls st (wr M V1) o) : Sem g d Y pc ls ((0, v) :: (0, i) :: (1, (a : Int)) :: st) (wr M V) o := by
  obtain ⟨hr, k, hK, h1, h2⟩ := mok_spec hM hm
  unfold s2z at h
  split at h
  · next hc =>
    have k1 := kk _ h
    rw [← wr_st2 hr] at k1
    obtain ⟨I, Rf, K, n, u⟩ := M
    exact S_zast hK h1 h2 hc.1 hc.2.1 hc.2.2 hd k1
  · cases h
theorem P2_sp (hM : LM M) {e i v : Int} {κ : VV → Option α} (hd : decode Y.2.1 pc = .ok (.iastore, 1)) (h : (sp e i v V).bind κ = some z) (kk : ∀ V1, κ V1 = some z → Sem g d Y (pc + 1) ls st (wr M V1) o) : Sem g d Y pc ls ((0, v) :: (0, i) :: (1, e) :: st) (wr M V) o := by
  unfold sp at h
  split at h
  · next hc =>
    obtain ⟨a, rfl, hr, k, l, hK, h1, h2, h3⟩ := mp_spec hM hc
    have k1 := kk _ h
    rw [Int.toNat_natCast, ← wr_st2 hr] at k1
    obtain ⟨I, Rf, K, n, u⟩ := M
    exact S_iast hK h1 h2 hc.2.2.2.2.1 h3 hd k1
  · cases h
theorem ck156 (hM : LM M) {X : Option α} : ck 16 156 (wr M V) X = X := if_pos ⟨by decide, hM.1⟩
theorem P2_invVp (hM : LM M) {F : Option Int} {κ : Int → Option α} {idx n : Nat} (t : Nat) (as st : List AV) (hC : CV Y' n 16) (hL : ML Y.1 idx Y'.2.2.2.1) (hd : decode Y.2.1 pc = .ok (.invokevirtual idx, 3)) (hn : as.length = n) (has : asb as = true) (hlen : Nat.ble (as.length + 1) Y'.2.2.1 = true) (hcat : ctb st = true) (ht : Nat.blt t 2 = true) (hd1 : 1 ≤ d) (h : F.bind κ = some z)
    (hF : ∀ r, F = some r → Sem g (d - 1) Y' 0 (ini Y' ((1, 156) :: as)) [] (wr M V) ((t, r), wr M V)) (kk : ∀ r, κ r = some z → Sem g d Y (pc + 3) ls ((t, r) :: st) (wr M V) o) : Sem g d Y pc ls (as.reverse ++ (1, 156) :: st) (wr M V) o :=
  P_invVp t as st hC hL hd hn has hlen hcat ht hd1 ((ck156 hM).trans h) hF kk
theorem P2_invVe (hM : LM M) {F : Option (Int × VV)} {κ : Int × VV → Option α} {idx n : Nat} (t : Nat) (as st : List AV) (hC : CV Y' n 16) (hL : ML Y.1 idx Y'.2.2.2.1) (hd : decode Y.2.1 pc = .ok (.invokevirtual idx, 3)) (hn : as.length = n) (has : asb as = true) (hlen : Nat.ble (as.length + 1) Y'.2.2.1 = true) (hcat : ctb st = true) (ht : Nat.blt t 2 = true) (hd1 : 1 ≤ d) (h : F.bind κ = some z)
    (hF : ∀ r, F = some r → Sem g (d - 1) Y' 0 (ini Y' ((1, 156) :: as)) [] (wr M V) ((t, r.1), wr M r.2)) (kk : ∀ r, κ r = some z → Sem g d Y (pc + 3) ls ((t, r.1) :: st) (wr M r.2) o) : Sem g d Y pc ls (as.reverse ++ (1, 156) :: st) (wr M V) o :=
  have h' : ck 16 156 (wr M V) (F.bind κ) = some z := (ck156 hM).trans h
  P_invV (ρ := Int × VV) (F := F) (κ := κ) t (fun r : Int × VV => r.1) (fun r : Int × VV => wr M r.2) as st hC hL hd hn has hlen hcat ht hd1 h' hF kk
theorem P2_invVm (hM : LM M) {F : Option VV} {κ : VV → Option α} {idx n : Nat} (as st : List AV) (hC : CV Y' n 16) (hL : ML Y.1 idx Y'.2.2.2.1) (hd : decode Y.2.1 pc = .ok (.invokevirtual idx, 3)) (hn : as.length = n) (has : asb as = true) (hlen : Nat.ble (as.length + 1) Y'.2.2.1 = true) (hcat : ctb st = true) (hd1 : 1 ≤ d) (h : F.bind κ = some z)
    (hF : ∀ r, F = some r → Sem g (d - 1) Y' 0 (ini Y' ((1, 156) :: as)) [] (wr M V) ((9, 0), wr M r)) (kk : ∀ r, κ r = some z → Sem g d Y (pc + 3) ls st (wr M r) o) : Sem g d Y pc ls (as.reverse ++ (1, 156) :: st) (wr M V) o :=
  P_invVm (fun r => wr M r) as st hC hL hd hn has hlen hcat hd1 ((ck156 hM).trans h) hF kk
theorem P2_invSm (_hM : LM M) {F : Option VV} {κ : VV → Option α} {idx n : Nat} (as st : List AV) (hC : CS Y' n) (hL : ML Y.1 idx Y'.2.2.2.1) (hd : decode Y.2.1 pc = .ok (.invokestatic idx, 3)) (hn : as.length = n) (has : asb as = true) (hlen : Nat.ble as.length Y'.2.2.1 = true) (hcat : ctb st = true) (hd1 : 1 ≤ d) (h : F.bind κ = some z)
    (hF : ∀ r, F = some r → Sem g (d - 1) Y' 0 (ini Y' as) [] (wr M V) ((9, 0), wr M r)) (kk : ∀ r, κ r = some z → Sem g d Y (pc + 3) ls st (wr M r) o) : Sem g d Y pc ls (as.reverse ++ st) (wr M V) o :=
  P_invSm (fun r => wr M r) as st hC hL hd hn has hlen hcat hd1 h hF kk
theorem mck_some {e : Int} {x : Option α} (h : mck e M x = some z) : e = 156 ∧ LM M ∧ x = some z := by
  unfold mck at h
  by_cases hc : e = 156 ∧ LM M
  · rw [@if_pos _ (Classical.propDecidable _) hc] at h
    exact ⟨hc.1, hc.2, h⟩
  · rw [@if_neg _ (Classical.propDecidable _) hc] at h
    cases h
theorem map_bind_some {α β γ : Type} {F : Option α} {f : α → β} {κ : β → Option γ} {z : γ} (h : (F.map f).bind κ = some z) : F.bind (fun r => κ (f r)) = some z := by
  cases F with
  | none => cases h
  | some r => exact h
theorem P_lawp {F : Option Int} {κ : Int → Option α} {idx n : Nat} {e : Int} (t : Nat) (as st : List AV) (hC : CV Y' n 16) (hL : ML Y.1 idx Y'.2.2.2.1) (hd : decode Y.2.1 pc = .ok (.invokevirtual idx, 3)) (hn : as.length = n) (has : asb as = true) (hlen : Nat.ble (as.length + 1) Y'.2.2.1 = true) (hcat : ctb st = true) (ht : Nat.blt t 2 = true) (hd1 : 1 ≤ d) (h : mck e M (F.bind κ) = some z)
    (hF : LM M → ∀ r, F = some r → Sem g (d - 1) Y' 0 (ini Y' ((1, 156) :: as)) [] (wr M M.1) ((t, r), wr M M.1)) (kk : ∀ r, κ r = some z → Sem g d Y (pc + 3) ls ((t, r) :: st) M o) : Sem g d Y pc ls (as.reverse ++ (1, e) :: st) M o := by
  obtain ⟨rfl, hM, h⟩ := mck_some h
  have k := P2_invVp (V := M.1) (ls := ls) (o := o) hM t as st hC hL hd hn has hlen hcat ht hd1 h (hF hM) (fun r h => by rw [wr_self]; exact kk r h)
  rw [wr_self] at k
  exact k
theorem P_lawe {F : Option (Int × VV)} {κ : Int × MM → Option α} {idx n : Nat} {e : Int} (t : Nat) (as st : List AV) (hC : CV Y' n 16) (hL : ML Y.1 idx Y'.2.2.2.1) (hd : decode Y.2.1 pc = .ok (.invokevirtual idx, 3)) (hn : as.length = n) (has : asb as = true) (hlen : Nat.ble (as.length + 1) Y'.2.2.1 = true) (hcat : ctb st = true) (ht : Nat.blt t 2 = true) (hd1 : 1 ≤ d) (h : mck e M ((F.map fun r => (r.1, wr M r.2)).bind κ) = some z)
    (hF : LM M → ∀ r, F = some r → Sem g (d - 1) Y' 0 (ini Y' ((1, 156) :: as)) [] (wr M M.1) ((t, r.1), wr M r.2)) (kk : ∀ r, κ r = some z → Sem g d Y (pc + 3) ls ((t, r.1) :: st) r.2 o) : Sem g d Y pc ls (as.reverse ++ (1, e) :: st) M o := by
  obtain ⟨rfl, hM, h⟩ := mck_some h
  have k := P2_invVe (V := M.1) (ls := ls) (o := o) hM t as st hC hL hd hn has hlen hcat ht hd1 (map_bind_some h) (hF hM) (fun r h => kk _ h)
  rw [wr_self] at k
  exact k
theorem P_lawm {F : Option VV} {κ : MM → Option α} {idx n : Nat} {e : Int} (as st : List AV) (hC : CV Y' n 16) (hL : ML Y.1 idx Y'.2.2.2.1) (hd : decode Y.2.1 pc = .ok (.invokevirtual idx, 3)) (hn : as.length = n) (has : asb as = true) (hlen : Nat.ble (as.length + 1) Y'.2.2.1 = true) (hcat : ctb st = true) (hd1 : 1 ≤ d) (h : mck e M ((F.map (wr M)).bind κ) = some z)
    (hF : LM M → ∀ r, F = some r → Sem g (d - 1) Y' 0 (ini Y' ((1, 156) :: as)) [] (wr M M.1) ((9, 0), wr M r)) (kk : ∀ r, κ r = some z → Sem g d Y (pc + 3) ls st r o) : Sem g d Y pc ls (as.reverse ++ (1, e) :: st) M o := by
  obtain ⟨rfl, hM, h⟩ := mck_some h
  have k := P2_invVm (V := M.1) (ls := ls) (o := o) hM as st hC hL hd hn has hlen hcat hd1 (map_bind_some h) (hF hM) (fun r h => kk _ h)
  rw [wr_self] at k
  exact k
end PMOD
