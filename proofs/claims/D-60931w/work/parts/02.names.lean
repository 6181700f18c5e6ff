set_option maxRecDepth 100000
/-! PeerSearchLaw -/
def RX0 : String := "PeerSearchLaw"
abbrev cX0_cell : ByteArray := method_2_code
def yX0_cell : MethodName := ⟨RX0, "cell", "([II)I"⟩
theorem q172 : (Jvm.Cond.initialized "PeerSearchLaw") ∈ lw_all := lw_g (lw_at lw_m1 0 rfl) rfl
theorem q207 : (Jvm.Cond.classLink "PeerSearchLaw" (7 : Nat) "PeerSearch") ∈ lw_all := lw_g (lw_at lw_m1 35 rfl) rfl
theorem q209 : (Jvm.Cond.methodLink "PeerSearchLaw" (15 : Nat) ({ cls := "PeerSearch", name := "<init>", desc := "(II)V" } : Jvm.MethodName)) ∈ lw_all := lw_g (lw_at lw_m1 37 rfl) rfl
theorem q650 : (Jvm.Cond.methodLink "PeerSearchLaw" (21 : Nat) ({ cls := "PeerSearch", name := "feed", desc := "(IIIII)V" } : Jvm.MethodName)) ∈ lw_all := lw_g (lw_at lw_m2 238 rfl) rfl
theorem q654 : (Jvm.Cond.methodLink "PeerSearchLaw" (26 : Nat) ({ cls := "PeerSearch", name := "end", desc := "(I)I" } : Jvm.MethodName)) ∈ lw_all := lw_g (lw_at lw_m3 2 rfl) rfl
theorem q658 : (Jvm.Cond.methodLink "PeerSearchLaw" (41 : Nat) ({ cls := "PeerSearch", name := "hash", desc := "(I)I" } : Jvm.MethodName)) ∈ lw_all := lw_g (lw_at lw_m3 6 rfl) rfl
theorem q685 : (Jvm.Cond.methodLink "PeerSearchLaw" (31 : Nat) ({ cls := "PeerSearch", name := "peer", desc := "()I" } : Jvm.MethodName)) ∈ lw_all := lw_g (lw_at lw_m3 33 rfl) rfl
theorem q935 : (Jvm.Cond.methodLink "PeerSearchLaw" (36 : Nat) ({ cls := "PeerSearch", name := "key", desc := "(II)I" } : Jvm.MethodName)) ∈ lw_all := lw_g (lw_at lw_m4 43 rfl) rfl
theorem q947 : (Jvm.Cond.methodLink "PeerSearchLaw" (45 : Nat) ({ cls := "PeerSearch", name := "set", desc := "(II)Z" } : Jvm.MethodName)) ∈ lw_all := lw_g (lw_at lw_m4 55 rfl) rfl
theorem q959 : (Jvm.Cond.methodLink "PeerSearchLaw" (50 : Nat) ({ cls := "PeerSearch", name := "side", desc := "(II)Z" } : Jvm.MethodName)) ∈ lw_all := lw_g (lw_at lw_m4 67 rfl) rfl
theorem q963 : (Jvm.Cond.methodLink "PeerSearchLaw" (54 : Nat) ({ cls := "PeerSearch", name := "start", desc := "(I)Z" } : Jvm.MethodName)) ∈ lw_all := lw_g (lw_at lw_m4 71 rfl) rfl
theorem q975 : (Jvm.Cond.methodLink "PeerSearchLaw" (59 : Nat) ({ cls := "PeerSearch", name := "join", desc := "(II)I" } : Jvm.MethodName)) ∈ lw_all := lw_g (lw_at lw_m4 83 rfl) rfl
theorem q1654 : (Jvm.Cond.methodLink "PeerSearchLaw" (63 : Nat) ({ cls := "PeerSearch", name := "crash", desc := "(I)Z" } : Jvm.MethodName)) ∈ lw_all := lw_g (lw_at lw_m7 42 rfl) rfl
theorem q1672 : (Jvm.Cond.methodLink "PeerSearchLaw" (67 : Nat) ({ cls := "PeerSearch", name := "leave", desc := "(I)Z" } : Jvm.MethodName)) ∈ lw_all := lw_g (lw_at lw_m7 60 rfl) rfl
theorem q1686 : (Jvm.Cond.methodLink "PeerSearchLaw" (71 : Nat) ({ cls := "PeerSearch", name := "document", desc := "(I)I" } : Jvm.MethodName)) ∈ lw_all := lw_g (lw_at lw_m7 74 rfl) rfl
theorem q1750 : (Jvm.Cond.methodLink "PeerSearchLaw" (75 : Nat) ({ cls := "PeerSearch", name := "publish", desc := "(I)I" } : Jvm.MethodName)) ∈ lw_all := lw_g (lw_at lw_m7 138 rfl) rfl
theorem q1786 : (Jvm.Cond.methodLink "PeerSearchLaw" (79 : Nat) ({ cls := "PeerSearch", name := "lookup", desc := "(I)I" } : Jvm.MethodName)) ∈ lw_all := lw_g (lw_at lw_m7 174 rfl) rfl
theorem q1790 : (Jvm.Cond.methodLink "PeerSearchLaw" (83 : Nat) ({ cls := "PeerSearch", name := "query", desc := "(I)I" } : Jvm.MethodName)) ∈ lw_all := lw_g (lw_at lw_m7 178 rfl) rfl
theorem q1878 : (Jvm.Cond.methodLink "PeerSearchLaw" (87 : Nat) ({ cls := "PeerSearch", name := "forge", desc := "(II)Z" } : Jvm.MethodName)) ∈ lw_all := lw_g (lw_at lw_m8 26 rfl) rfl
theorem q1886 : (Jvm.Cond.methodLink "PeerSearchLaw" (91 : Nat) ({ cls := "PeerSearch", name := "run", desc := "(I)I" } : Jvm.MethodName)) ∈ lw_all := lw_g (lw_at lw_m8 34 rfl) rfl
theorem q2006 : (Jvm.Cond.methodLink "PeerSearchLaw" (95 : Nat) ({ cls := "PeerSearch", name := "rest", desc := "(I)I" } : Jvm.MethodName)) ∈ lw_all := lw_g (lw_at lw_m8 154 rfl) rfl
theorem q2018 : (Jvm.Cond.methodLink "PeerSearchLaw" (99 : Nat) ({ cls := "PeerSearch", name := "task", desc := "(II)I" } : Jvm.MethodName)) ∈ lw_all := lw_g (lw_at lw_m8 166 rfl) rfl
theorem q2026 : (Jvm.Cond.methodLink "PeerSearchLaw" (103 : Nat) ({ cls := "PeerSearch", name := "found", desc := "(III)I" } : Jvm.MethodName)) ∈ lw_all := lw_g (lw_at lw_m8 174 rfl) rfl
theorem q2034 : (Jvm.Cond.methodLink "PeerSearchLaw" (108 : Nat) ({ cls := "PeerSearch", name := "count", desc := "(II)I" } : Jvm.MethodName)) ∈ lw_all := lw_g (lw_at lw_m8 182 rfl) rfl
theorem q2042 : (Jvm.Cond.methodLink "PeerSearchLaw" (112 : Nat) ({ cls := "PeerSearch", name := "contact", desc := "(IZII)I" } : Jvm.MethodName)) ∈ lw_all := lw_g (lw_at lw_m8 190 rfl) rfl
theorem q2047 : (Jvm.Cond.methodLink "PeerSearchLaw" (117 : Nat) ({ cls := "PeerSearch", name := "posting", desc := "(III)I" } : Jvm.MethodName)) ∈ lw_all := lw_g (lw_at lw_m8 195 rfl) rfl
theorem q2051 : (Jvm.Cond.methodLink "PeerSearchLaw" (121 : Nat) ({ cls := "PeerSearch", name := "flight", desc := "(II)I" } : Jvm.MethodName)) ∈ lw_all := lw_g (lw_at lw_m8 199 rfl) rfl
theorem q2056 : (Jvm.Cond.methodLink "PeerSearchLaw" (125 : Nat) ({ cls := "PeerSearch", name := "look", desc := "(I)I" } : Jvm.MethodName)) ∈ lw_all := lw_g (lw_at lw_m8 204 rfl) rfl
theorem q2060 : (Jvm.Cond.methodLink "PeerSearchLaw" (129 : Nat) ({ cls := "PeerSearch", name := "stable", desc := "()Z" } : Jvm.MethodName)) ∈ lw_all := lw_g (lw_at lw_m8 208 rfl) rfl
theorem q2080 : (Jvm.Cond.methodLink "PeerSearchLaw" (134 : Nat) ({ cls := "PeerSearch", name := "nearest", desc := "(I)I" } : Jvm.MethodName)) ∈ lw_all := lw_g (lw_at lw_m8 228 rfl) rfl
theorem q2085 : (Jvm.Cond.methodLink "PeerSearchLaw" (138 : Nat) ({ cls := "PeerSearch", name := "truth", desc := "(II)I" } : Jvm.MethodName)) ∈ lw_all := lw_g (lw_at lw_m8 233 rfl) rfl
theorem q2100 : (Jvm.Cond.methodLink "PeerSearchLaw" (9 : Nat) ({ cls := "PeerSearchLaw", name := "cell", desc := "([II)I" } : Jvm.MethodName)) ∈ lw_all := lw_g (lw_at lw_m9 8 rfl) rfl
theorem q2101 : (Jvm.Cond.static ({ cls := "PeerSearchLaw", name := "cell", desc := "([II)I" } : Jvm.MethodName)) ∈ lw_all := lw_g (lw_at lw_m9 9 rfl) rfl
theorem q2102 : (Jvm.Cond.code ({ cls := "PeerSearchLaw", name := "cell", desc := "([II)I" } : Jvm.MethodName) method_2_code (2 : Nat) (Option.some Jvm.ClassFile.FieldType.int)) ∈ lw_all := lw_g (lw_at lw_m9 10 rfl) rfl
theorem q2103 : (Jvm.Cond.classLink "PeerSearchLaw" (18 : Nat) "PeerSearchModel") ∈ lw_all := lw_g (lw_at lw_m9 11 rfl) rfl
theorem q2105 : (Jvm.Cond.methodLink "PeerSearchLaw" (20 : Nat) ({ cls := "PeerSearchModel", name := "<init>", desc := "(II)V" } : Jvm.MethodName)) ∈ lw_all := lw_g (lw_at lw_m9 13 rfl) rfl
theorem q2553 : (Jvm.Cond.methodLink "PeerSearchLaw" (25 : Nat) ({ cls := "PeerSearchModel", name := "feed", desc := "(IIIII)V" } : Jvm.MethodName)) ∈ lw_all := lw_g (lw_at lw_m10 221 rfl) rfl
theorem q2561 : (Jvm.Cond.methodLink "PeerSearchLaw" (30 : Nat) ({ cls := "PeerSearchModel", name := "end", desc := "(I)I" } : Jvm.MethodName)) ∈ lw_all := lw_g (lw_at lw_m10 229 rfl) rfl
theorem q2565 : (Jvm.Cond.methodLink "PeerSearchLaw" (49 : Nat) ({ cls := "PeerSearchModel", name := "set", desc := "(II)Z" } : Jvm.MethodName)) ∈ lw_all := lw_g (lw_at lw_m10 233 rfl) rfl
theorem q2569 : (Jvm.Cond.methodLink "PeerSearchLaw" (35 : Nat) ({ cls := "PeerSearchModel", name := "peer", desc := "()I" } : Jvm.MethodName)) ∈ lw_all := lw_g (lw_at lw_m10 237 rfl) rfl
theorem q2603 : (Jvm.Cond.methodLink "PeerSearchLaw" (40 : Nat) ({ cls := "PeerSearchModel", name := "key", desc := "(II)I" } : Jvm.MethodName)) ∈ lw_all := lw_g (lw_at lw_m11 31 rfl) rfl
theorem q2611 : (Jvm.Cond.methodLink "PeerSearchLaw" (44 : Nat) ({ cls := "PeerSearchModel", name := "hash", desc := "(I)I" } : Jvm.MethodName)) ∈ lw_all := lw_g (lw_at lw_m11 39 rfl) rfl
theorem q2615 : (Jvm.Cond.methodLink "PeerSearchLaw" (53 : Nat) ({ cls := "PeerSearchModel", name := "side", desc := "(II)Z" } : Jvm.MethodName)) ∈ lw_all := lw_g (lw_at lw_m11 43 rfl) rfl
theorem q2619 : (Jvm.Cond.methodLink "PeerSearchLaw" (74 : Nat) ({ cls := "PeerSearchModel", name := "document", desc := "(I)I" } : Jvm.MethodName)) ∈ lw_all := lw_g (lw_at lw_m11 47 rfl) rfl
theorem q2644 : (Jvm.Cond.methodLink "PeerSearchLaw" (58 : Nat) ({ cls := "PeerSearchModel", name := "start", desc := "(I)Z" } : Jvm.MethodName)) ∈ lw_all := lw_g (lw_at lw_m11 72 rfl) rfl
theorem q2652 : (Jvm.Cond.methodLink "PeerSearchLaw" (62 : Nat) ({ cls := "PeerSearchModel", name := "join", desc := "(II)I" } : Jvm.MethodName)) ∈ lw_all := lw_g (lw_at lw_m11 80 rfl) rfl
theorem q2903 : (Jvm.Cond.methodLink "PeerSearchLaw" (66 : Nat) ({ cls := "PeerSearchModel", name := "crash", desc := "(I)Z" } : Jvm.MethodName)) ∈ lw_all := lw_g (lw_at lw_m12 91 rfl) rfl
theorem q2915 : (Jvm.Cond.methodLink "PeerSearchLaw" (70 : Nat) ({ cls := "PeerSearchModel", name := "leave", desc := "(I)Z" } : Jvm.MethodName)) ∈ lw_all := lw_g (lw_at lw_m12 103 rfl) rfl
theorem q2923 : (Jvm.Cond.methodLink "PeerSearchLaw" (78 : Nat) ({ cls := "PeerSearchModel", name := "publish", desc := "(I)I" } : Jvm.MethodName)) ∈ lw_all := lw_g (lw_at lw_m12 111 rfl) rfl
theorem q2931 : (Jvm.Cond.methodLink "PeerSearchLaw" (82 : Nat) ({ cls := "PeerSearchModel", name := "lookup", desc := "(I)I" } : Jvm.MethodName)) ∈ lw_all := lw_g (lw_at lw_m12 119 rfl) rfl
theorem q2935 : (Jvm.Cond.methodLink "PeerSearchLaw" (86 : Nat) ({ cls := "PeerSearchModel", name := "query", desc := "(I)I" } : Jvm.MethodName)) ∈ lw_all := lw_g (lw_at lw_m12 123 rfl) rfl
theorem q2939 : (Jvm.Cond.methodLink "PeerSearchLaw" (90 : Nat) ({ cls := "PeerSearchModel", name := "forge", desc := "(II)Z" } : Jvm.MethodName)) ∈ lw_all := lw_g (lw_at lw_m12 127 rfl) rfl
theorem q2943 : (Jvm.Cond.methodLink "PeerSearchLaw" (94 : Nat) ({ cls := "PeerSearchModel", name := "run", desc := "(I)I" } : Jvm.MethodName)) ∈ lw_all := lw_g (lw_at lw_m12 131 rfl) rfl
theorem q3051 : (Jvm.Cond.methodLink "PeerSearchLaw" (98 : Nat) ({ cls := "PeerSearchModel", name := "rest", desc := "(I)I" } : Jvm.MethodName)) ∈ lw_all := lw_g (lw_at lw_m12 239 rfl) rfl
theorem q3059 : (Jvm.Cond.methodLink "PeerSearchLaw" (102 : Nat) ({ cls := "PeerSearchModel", name := "task", desc := "(II)I" } : Jvm.MethodName)) ∈ lw_all := lw_g (lw_at lw_m13 7 rfl) rfl
theorem q3063 : (Jvm.Cond.methodLink "PeerSearchLaw" (107 : Nat) ({ cls := "PeerSearchModel", name := "found", desc := "(III)I" } : Jvm.MethodName)) ∈ lw_all := lw_g (lw_at lw_m13 11 rfl) rfl
theorem q3067 : (Jvm.Cond.methodLink "PeerSearchLaw" (111 : Nat) ({ cls := "PeerSearchModel", name := "count", desc := "(II)I" } : Jvm.MethodName)) ∈ lw_all := lw_g (lw_at lw_m13 15 rfl) rfl
theorem q3079 : (Jvm.Cond.methodLink "PeerSearchLaw" (116 : Nat) ({ cls := "PeerSearchModel", name := "contact", desc := "(IZII)I" } : Jvm.MethodName)) ∈ lw_all := lw_g (lw_at lw_m13 27 rfl) rfl
theorem q3083 : (Jvm.Cond.methodLink "PeerSearchLaw" (120 : Nat) ({ cls := "PeerSearchModel", name := "posting", desc := "(III)I" } : Jvm.MethodName)) ∈ lw_all := lw_g (lw_at lw_m13 31 rfl) rfl
theorem q3094 : (Jvm.Cond.methodLink "PeerSearchLaw" (124 : Nat) ({ cls := "PeerSearchModel", name := "flight", desc := "(II)I" } : Jvm.MethodName)) ∈ lw_all := lw_g (lw_at lw_m13 42 rfl) rfl
theorem q3098 : (Jvm.Cond.methodLink "PeerSearchLaw" (128 : Nat) ({ cls := "PeerSearchModel", name := "look", desc := "(I)I" } : Jvm.MethodName)) ∈ lw_all := lw_g (lw_at lw_m13 46 rfl) rfl
theorem q3102 : (Jvm.Cond.methodLink "PeerSearchLaw" (133 : Nat) ({ cls := "PeerSearchModel", name := "stable", desc := "()Z" } : Jvm.MethodName)) ∈ lw_all := lw_g (lw_at lw_m13 50 rfl) rfl
theorem q3110 : (Jvm.Cond.methodLink "PeerSearchLaw" (137 : Nat) ({ cls := "PeerSearchModel", name := "nearest", desc := "(I)I" } : Jvm.MethodName)) ∈ lw_all := lw_g (lw_at lw_m13 58 rfl) rfl
theorem q3114 : (Jvm.Cond.methodLink "PeerSearchLaw" (141 : Nat) ({ cls := "PeerSearchModel", name := "truth", desc := "(II)I" } : Jvm.MethodName)) ∈ lw_all := lw_g (lw_at lw_m13 62 rfl) rfl
/-! PeerSearch -/
def RX1 : String := "PeerSearch"
def TX1 : u_T := fun k => match k with
  | 0 => ("PeerSearch", "board", "LPeerSearch$Board;", true)
  | 1 => ("PeerSearch", "net", "LPeerSearch$Net;", true)
  | 2 => ("PeerSearch", "ready", "[B", true)
  | 3 => ("PeerSearch", "tape", "[B", true)
  | 4 => ("PeerSearch", "word", "[B", true)
  | 5 => ("PeerSearch", "taped", "I", false)
  | 6 => ("PeerSearch", "places", "[LPeerSearch$Work;", true)
  | 7 => ("PeerSearch", "tasks", "[LPeerSearch$Task;", true)
  | 8 => ("PeerSearch", "begun", "I", false)
  | 9 => ("PeerSearch", "cutter", "LPeerSearch$Cutter;", true)
  | 10 => ("PeerSearch", "scratch", "LPeerSearch$Key;", true)
  | 11 => ("PeerSearch", "forged", "LPeerSearch$Packet;", true)
  | _ => ("PeerSearch", "ranking", "LPeerSearch$Ranking;", true)
def tyX1 : Nat → FieldType := fun k => match k with
  | 0 => .object "PeerSearch$Board"
  | 1 => .object "PeerSearch$Net"
  | 2 => .array .byte
  | 3 => .array .byte
  | 4 => .array .byte
  | 5 => .int
  | 6 => .array (.object "PeerSearch$Work")
  | 7 => .array (.object "PeerSearch$Task")
  | 8 => .int
  | 9 => .object "PeerSearch$Cutter"
  | 10 => .object "PeerSearch$Key"
  | 11 => .object "PeerSearch$Packet"
  | _ => .object "PeerSearch$Ranking"
abbrev wsX10 : List Cond := u_ws RX1 TX1 13
theorem nmX1 : ∀ a, a < 13 → ∀ b, b < 13 → a ≠ b → (TX1 a).2.1 ≠ (TX1 b).2.1 := by decide +kernel
theorem tyX1_ok : ∀ k, k < 13 → parseFieldDescriptor (TX1 k).2.2.1 = some (tyX1 k) := by decide +kernel
abbrev cX1_init : ByteArray := prog_1_method_1_code
def yX1_init : MethodName := ⟨RX1, "<init>", "(II)V"⟩
abbrev cX1_within : ByteArray := prog_1_method_2_code
def yX1_within : MethodName := ⟨RX1, "within", "(III)I"⟩
abbrev cX1_feed : ByteArray := prog_1_method_3_code
def yX1_feed : MethodName := ⟨RX1, "feed", "(IIIII)V"⟩
abbrev cX1_end : ByteArray := prog_1_method_4_code
def yX1_end : MethodName := ⟨RX1, "end", "(I)I"⟩
abbrev cX1_hash : ByteArray := prog_1_method_6_code
def yX1_hash : MethodName := ⟨RX1, "hash", "(I)I"⟩
abbrev cX1_peer : ByteArray := prog_1_method_9_code
def yX1_peer : MethodName := ⟨RX1, "peer", "()I"⟩
abbrev cX1_take : ByteArray := prog_1_method_5_code
def yX1_take : MethodName := ⟨RX1, "take", "()I"⟩
abbrev cX1_key : ByteArray := prog_1_method_10_code
def yX1_key : MethodName := ⟨RX1, "key", "(II)I"⟩
abbrev cX1_has : ByteArray := prog_1_method_7_code
def yX1_has : MethodName := ⟨RX1, "has", "(I)Z"⟩
abbrev cX1_set : ByteArray := prog_1_method_11_code
def yX1_set : MethodName := ⟨RX1, "set", "(II)Z"⟩
abbrev cX1_side : ByteArray := prog_1_method_12_code
def yX1_side : MethodName := ⟨RX1, "side", "(II)Z"⟩
abbrev cX1_start : ByteArray := prog_1_method_13_code
def yX1_start : MethodName := ⟨RX1, "start", "(I)Z"⟩
abbrev cX1_isLive : ByteArray := prog_1_method_8_code
def yX1_isLive : MethodName := ⟨RX1, "isLive", "(I)Z"⟩
abbrev cX1_join : ByteArray := prog_1_method_16_code
def yX1_join : MethodName := ⟨RX1, "join", "(II)I"⟩
abbrev cX1_free : ByteArray := prog_1_method_14_code
def yX1_free : MethodName := ⟨RX1, "free", "()LPeerSearch$Work;"⟩
abbrev cX1_begin : ByteArray := prog_1_method_15_code
def yX1_begin : MethodName := ⟨RX1, "begin", "(LPeerSearch$Work;IILPeerSearch$Plan;)I"⟩
abbrev cX1_crash : ByteArray := prog_1_method_18_code
def yX1_crash : MethodName := ⟨RX1, "crash", "(I)Z"⟩
abbrev cX1_drop : ByteArray := prog_1_method_17_code
def yX1_drop : MethodName := ⟨RX1, "drop", "(LPeerSearch$Peer;)V"⟩
abbrev cX1_leave : ByteArray := prog_1_method_19_code
def yX1_leave : MethodName := ⟨RX1, "leave", "(I)Z"⟩
abbrev cX1_document : ByteArray := prog_1_method_20_code
def yX1_document : MethodName := ⟨RX1, "document", "(I)I"⟩
abbrev cX1_publish : ByteArray := prog_1_method_21_code
def yX1_publish : MethodName := ⟨RX1, "publish", "(I)I"⟩
abbrev cX1_lookup : ByteArray := prog_1_method_22_code
def yX1_lookup : MethodName := ⟨RX1, "lookup", "(I)I"⟩
abbrev cX1_query : ByteArray := prog_1_method_24_code
def yX1_query : MethodName := ⟨RX1, "query", "(I)I"⟩
abbrev cX1_areAsked : ByteArray := prog_1_method_23_code
def yX1_areAsked : MethodName := ⟨RX1, "areAsked", "()Z"⟩
abbrev cX1_forge : ByteArray := prog_1_method_25_code
def yX1_forge : MethodName := ⟨RX1, "forge", "(II)Z"⟩
abbrev cX1_run : ByteArray := prog_1_method_28_code
def yX1_run : MethodName := ⟨RX1, "run", "(I)I"⟩
abbrev cX1_tick : ByteArray := prog_1_method_27_code
def yX1_tick : MethodName := ⟨RX1, "tick", "()I"⟩
abbrev cX1_works : ByteArray := prog_1_method_26_code
def yX1_works : MethodName := ⟨RX1, "works", "(LPeerSearch$Peer;)V"⟩
abbrev cX1_rest : ByteArray := prog_1_method_31_code
def yX1_rest : MethodName := ⟨RX1, "rest", "(I)I"⟩
abbrev cX1_isBusy : ByteArray := prog_1_method_30_code
def yX1_isBusy : MethodName := ⟨RX1, "isBusy", "()Z"⟩
abbrev cX1_going : ByteArray := prog_1_method_29_code
def yX1_going : MethodName := ⟨RX1, "going", "()I"⟩
abbrev cX1_task : ByteArray := prog_1_method_33_code
def yX1_task : MethodName := ⟨RX1, "task", "(II)I"⟩
abbrev cX1_isTask : ByteArray := prog_1_method_32_code
def yX1_isTask : MethodName := ⟨RX1, "isTask", "(I)Z"⟩
abbrev cX1_found : ByteArray := prog_1_method_34_code
def yX1_found : MethodName := ⟨RX1, "found", "(III)I"⟩
abbrev cX1_count : ByteArray := prog_1_method_35_code
def yX1_count : MethodName := ⟨RX1, "count", "(II)I"⟩
abbrev cX1_contact : ByteArray := prog_1_method_36_code
def yX1_contact : MethodName := ⟨RX1, "contact", "(IZII)I"⟩
abbrev cX1_posting : ByteArray := prog_1_method_37_code
def yX1_posting : MethodName := ⟨RX1, "posting", "(III)I"⟩
abbrev cX1_flight : ByteArray := prog_1_method_38_code
def yX1_flight : MethodName := ⟨RX1, "flight", "(II)I"⟩
abbrev cX1_look : ByteArray := prog_1_method_39_code
def yX1_look : MethodName := ⟨RX1, "look", "(I)I"⟩
abbrev cX1_stable : ByteArray := prog_1_method_43_code
def yX1_stable : MethodName := ⟨RX1, "stable", "()Z"⟩
abbrev cX1_isSound : ByteArray := prog_1_method_42_code
def yX1_isSound : MethodName := ⟨RX1, "isSound", "(LPeerSearch$Peer;)Z"⟩
abbrev cX1_areTrue : ByteArray := prog_1_method_41_code
def yX1_areTrue : MethodName := ⟨RX1, "areTrue", "(LPeerSearch$Peer;Z)Z"⟩
abbrev cX1_isTrue : ByteArray := prog_1_method_40_code
def yX1_isTrue : MethodName := ⟨RX1, "isTrue", "(LPeerSearch$Contact;)Z"⟩
abbrev cX1_nearest : ByteArray := prog_1_method_44_code
def yX1_nearest : MethodName := ⟨RX1, "nearest", "(I)I"⟩
abbrev cX1_truth : ByteArray := prog_1_method_46_code
def yX1_truth : MethodName := ⟨RX1, "truth", "(II)I"⟩
abbrev cX1_scoreOf : ByteArray := prog_1_method_45_code
def yX1_scoreOf : MethodName := ⟨RX1, "scoreOf", "(LPeerSearch$Peer;I)I"⟩
theorem q173 : (Jvm.Cond.initialized "PeerSearch") ∈ lw_all := lw_g (lw_at lw_m1 1 rfl) rfl
theorem q208 : (Jvm.Cond.instantiable "PeerSearch" (13 : Nat)) ∈ lw_all := lw_g (lw_at lw_m1 36 rfl) rfl
theorem q210 : (Jvm.Cond.instanceMethod ({ cls := "PeerSearch", name := "<init>", desc := "(II)V" } : Jvm.MethodName)) ∈ lw_all := lw_g (lw_at lw_m1 38 rfl) rfl
theorem q211 : (Jvm.Cond.code ({ cls := "PeerSearch", name := "<init>", desc := "(II)V" } : Jvm.MethodName) prog_1_method_1_code (4 : Nat) (Option.none : Option Jvm.ClassFile.FieldType)) ∈ lw_all := lw_g (lw_at lw_m1 39 rfl) rfl
theorem q212 : (Jvm.Cond.methodLink "PeerSearch" (1 : Nat) ({ cls := "java/lang/Object", name := "<init>", desc := "()V" } : Jvm.MethodName)) ∈ lw_all := lw_g (lw_at lw_m1 40 rfl) rfl
theorem q215 : (Jvm.Cond.classLink "PeerSearch" (19 : Nat) "PeerSearch$Work") ∈ lw_all := lw_g (lw_at lw_m1 43 rfl) rfl
theorem q217 : (Jvm.Cond.classLink "PeerSearch" (25 : Nat) "PeerSearch$Task") ∈ lw_all := lw_g (lw_at lw_m1 45 rfl) rfl
theorem q219 : (Jvm.Cond.classLink "PeerSearch" (31 : Nat) "PeerSearch$Cutter") ∈ lw_all := lw_g (lw_at lw_m1 47 rfl) rfl
theorem q221 : (Jvm.Cond.methodLinkNest "PeerSearch" (33 : Nat) ({ cls := "PeerSearch$Cutter", name := "<init>", desc := "()V" } : Jvm.MethodName) "PeerSearch") ∈ lw_tbl := lw_at lw_m1 49 rfl
theorem q228 : (Jvm.Cond.fieldLinkNest "PeerSearch" (272 : Nat) "PeerSearch$Cutter" "letters" "[B" "PeerSearch") ∈ lw_tbl := lw_at lw_m1 56 rfl
theorem q232 : (Jvm.Cond.fieldLinkNest "PeerSearch" (269 : Nat) "PeerSearch$Cutter" "sizes" "[I" "PeerSearch") ∈ lw_tbl := lw_at lw_m1 60 rfl
theorem q237 : (Jvm.Cond.fieldLinkNest "PeerSearch" (253 : Nat) "PeerSearch$Cutter" "many" "I" "PeerSearch") ∈ lw_tbl := lw_at lw_m1 65 rfl
theorem q249 : (Jvm.Cond.classLink "PeerSearch" (38 : Nat) "PeerSearch$Key") ∈ lw_all := lw_g (lw_at lw_m1 77 rfl) rfl
theorem q251 : (Jvm.Cond.methodLinkNest "PeerSearch" (40 : Nat) ({ cls := "PeerSearch$Key", name := "<init>", desc := "()V" } : Jvm.MethodName) "PeerSearch") ∈ lw_tbl := lw_at lw_m1 79 rfl
theorem q260 : (Jvm.Cond.fieldLinkNest "PeerSearch" (105 : Nat) "PeerSearch$Key" "words" "[I" "PeerSearch") ∈ lw_tbl := lw_at lw_m1 88 rfl
theorem q264 : (Jvm.Cond.classLink "PeerSearch" (45 : Nat) "PeerSearch$Packet") ∈ lw_all := lw_g (lw_at lw_m1 92 rfl) rfl
theorem q266 : (Jvm.Cond.methodLinkNest "PeerSearch" (47 : Nat) ({ cls := "PeerSearch$Packet", name := "<init>", desc := "()V" } : Jvm.MethodName) "PeerSearch") ∈ lw_tbl := lw_at lw_m1 94 rfl
theorem q273 : (Jvm.Cond.fieldLinkNest "PeerSearch" (281 : Nat) "PeerSearch$Packet" "bytes" "[B" "PeerSearch") ∈ lw_tbl := lw_at lw_m1 101 rfl
theorem q276 : (Jvm.Cond.fieldLinkNest "PeerSearch" (278 : Nat) "PeerSearch$Packet" "size" "I" "PeerSearch") ∈ lw_tbl := lw_at lw_m1 104 rfl
theorem q282 : (Jvm.Cond.classLink "PeerSearch" (52 : Nat) "PeerSearch$Ranking") ∈ lw_all := lw_g (lw_at lw_m1 110 rfl) rfl
theorem q284 : (Jvm.Cond.methodLink "PeerSearch" (54 : Nat) ({ cls := "PeerSearch$Ranking", name := "<init>", desc := "(I)V" } : Jvm.MethodName)) ∈ lw_all := lw_g (lw_at lw_m1 112 rfl) rfl
theorem q293 : (Jvm.Cond.fieldLinkNest "PeerSearch" (460 : Nat) "PeerSearch$Ranking" "size" "I" "PeerSearch") ∈ lw_tbl := lw_at lw_m1 121 rfl
theorem q303 : (Jvm.Cond.classLink "PeerSearch" (61 : Nat) "PeerSearch$Board") ∈ lw_all := lw_g (lw_at lw_m1 131 rfl) rfl
theorem q305 : (Jvm.Cond.methodLink "PeerSearch" (63 : Nat) ({ cls := "PeerSearch", name := "within", desc := "(III)I" } : Jvm.MethodName)) ∈ lw_all := lw_g (lw_at lw_m1 133 rfl) rfl
theorem q306 : (Jvm.Cond.static ({ cls := "PeerSearch", name := "within", desc := "(III)I" } : Jvm.MethodName)) ∈ lw_all := lw_g (lw_at lw_m1 134 rfl) rfl
theorem q307 : (Jvm.Cond.code ({ cls := "PeerSearch", name := "within", desc := "(III)I" } : Jvm.MethodName) prog_1_method_2_code (3 : Nat) (Option.some Jvm.ClassFile.FieldType.int)) ∈ lw_all := lw_g (lw_at lw_m1 135 rfl) rfl
theorem q308 : (Jvm.Cond.methodLink "PeerSearch" (82 : Nat) ({ cls := "java/lang/Math", name := "min", desc := "(II)I" } : Jvm.MethodName)) ∈ lw_all := lw_g (lw_at lw_m1 136 rfl) rfl
theorem q311 : (Jvm.Cond.methodLink "PeerSearch" (88 : Nat) ({ cls := "java/lang/Math", name := "max", desc := "(II)I" } : Jvm.MethodName)) ∈ lw_all := lw_g (lw_at lw_m1 139 rfl) rfl
theorem q314 : (Jvm.Cond.methodLink "PeerSearch" (67 : Nat) ({ cls := "PeerSearch$Board", name := "<init>", desc := "(II)V" } : Jvm.MethodName)) ∈ lw_all := lw_g (lw_at lw_m1 142 rfl) rfl
theorem q330 : (Jvm.Cond.fieldLinkNest "PeerSearch" (410 : Nat) "PeerSearch$Net" "flying" "[LPeerSearch$Datagram;" "PeerSearch") ∈ lw_tbl := lw_at lw_m1 158 rfl
theorem q332 : (Jvm.Cond.fieldLinkNest "PeerSearch" (339 : Nat) "PeerSearch$Net" "size" "I" "PeerSearch") ∈ lw_tbl := lw_at lw_m1 160 rfl
theorem q336 : (Jvm.Cond.fieldLinkNest "PeerSearch" (295 : Nat) "PeerSearch$Net" "time" "I" "PeerSearch") ∈ lw_tbl := lw_at lw_m1 164 rfl
theorem q338 : (Jvm.Cond.fieldLinkNest "PeerSearch" (423 : Nat) "PeerSearch$Net" "lost" "I" "PeerSearch") ∈ lw_tbl := lw_at lw_m1 166 rfl
theorem q340 : (Jvm.Cond.fieldLinkNest "PeerSearch" (327 : Nat) "PeerSearch$Net" "inbox" "LPeerSearch$Packet;" "PeerSearch") ∈ lw_tbl := lw_at lw_m1 168 rfl
theorem q425 : (Jvm.Cond.fieldLinkNest "PeerSearch" (74 : Nat) "PeerSearch$Board" "net" "LPeerSearch$Net;" "PeerSearch") ∈ lw_tbl := lw_at lw_m2 13 rfl
theorem q431 : (Jvm.Cond.fieldLinkNest "PeerSearch" (95 : Nat) "PeerSearch$Board" "sha" "LPeerSearch$Sha;" "PeerSearch") ∈ lw_tbl := lw_at lw_m2 19 rfl
theorem q435 : (Jvm.Cond.fieldLinkNest "PeerSearch" (114 : Nat) "PeerSearch$Board" "peers" "[LPeerSearch$Peer;" "PeerSearch") ∈ lw_tbl := lw_at lw_m2 23 rfl
theorem q437 : (Jvm.Cond.fieldLinkNest "PeerSearch" (127 : Nat) "PeerSearch$Board" "count" "I" "PeerSearch") ∈ lw_tbl := lw_at lw_m2 25 rfl
theorem q490 : (Jvm.Cond.methodLink "PeerSearch" (79 : Nat) ({ cls := "PeerSearch$Work", name := "<init>", desc := "(LPeerSearch$Board;)V" } : Jvm.MethodName)) ∈ lw_all := lw_g (lw_at lw_m2 78 rfl) rfl
theorem q565 : (Jvm.Cond.fieldLinkNest "PeerSearch" (189 : Nat) "PeerSearch$Work" "peer" "LPeerSearch$Peer;" "PeerSearch") ∈ lw_tbl := lw_at lw_m2 153 rfl
theorem q574 : (Jvm.Cond.fieldLinkNest "PeerSearch" (158 : Nat) "PeerSearch$Work" "goes" "Z" "PeerSearch") ∈ lw_tbl := lw_at lw_m2 162 rfl
theorem q578 : (Jvm.Cond.fieldLinkNest "PeerSearch" (246 : Nat) "PeerSearch$Work" "target" "LPeerSearch$Key;" "PeerSearch") ∈ lw_tbl := lw_at lw_m2 166 rfl
theorem q580 : (Jvm.Cond.fieldLinkNest "PeerSearch" (175 : Nat) "PeerSearch$Work" "joining" "LPeerSearch$Joining;" "PeerSearch") ∈ lw_tbl := lw_at lw_m2 168 rfl
theorem q582 : (Jvm.Cond.fieldLinkNest "PeerSearch" (249 : Nat) "PeerSearch$Work" "looking" "LPeerSearch$Looking;" "PeerSearch") ∈ lw_tbl := lw_at lw_m2 170 rfl
theorem q610 : (Jvm.Cond.fieldLink "PeerSearch" (70 : Nat) "PeerSearch" "board" "LPeerSearch$Board;") ∈ lw_all := lw_g (lw_at lw_m2 198 rfl) rfl
theorem q611 : (Jvm.Cond.fieldLink "PeerSearch" (78 : Nat) "PeerSearch" "net" "LPeerSearch$Net;") ∈ lw_all := lw_g (lw_at lw_m2 199 rfl) rfl
theorem q612 : (Jvm.Cond.fieldLink "PeerSearch" (9 : Nat) "PeerSearch" "ready" "[B") ∈ lw_all := lw_g (lw_at lw_m2 200 rfl) rfl
theorem q613 : (Jvm.Cond.fieldLink "PeerSearch" (13 : Nat) "PeerSearch" "tape" "[B") ∈ lw_all := lw_g (lw_at lw_m2 201 rfl) rfl
theorem q614 : (Jvm.Cond.fieldLink "PeerSearch" (16 : Nat) "PeerSearch" "word" "[B") ∈ lw_all := lw_g (lw_at lw_m2 202 rfl) rfl
theorem q615 : (Jvm.Cond.fieldLink "PeerSearch" (91 : Nat) "PeerSearch" "taped" "I") ∈ lw_all := lw_g (lw_at lw_m2 203 rfl) rfl
theorem q616 : (Jvm.Cond.fieldLink "PeerSearch" (21 : Nat) "PeerSearch" "places" "[LPeerSearch$Work;") ∈ lw_all := lw_g (lw_at lw_m2 204 rfl) rfl
theorem q617 : (Jvm.Cond.fieldLink "PeerSearch" (27 : Nat) "PeerSearch" "tasks" "[LPeerSearch$Task;") ∈ lw_all := lw_g (lw_at lw_m2 205 rfl) rfl
theorem q618 : (Jvm.Cond.fieldLink "PeerSearch" (155 : Nat) "PeerSearch" "begun" "I") ∈ lw_all := lw_g (lw_at lw_m2 206 rfl) rfl
theorem q619 : (Jvm.Cond.fieldLink "PeerSearch" (34 : Nat) "PeerSearch" "cutter" "LPeerSearch$Cutter;") ∈ lw_all := lw_g (lw_at lw_m2 207 rfl) rfl
theorem q620 : (Jvm.Cond.fieldLink "PeerSearch" (41 : Nat) "PeerSearch" "scratch" "LPeerSearch$Key;") ∈ lw_all := lw_g (lw_at lw_m2 208 rfl) rfl
theorem q621 : (Jvm.Cond.fieldLink "PeerSearch" (48 : Nat) "PeerSearch" "forged" "LPeerSearch$Packet;") ∈ lw_all := lw_g (lw_at lw_m2 209 rfl) rfl
theorem q622 : (Jvm.Cond.fieldLink "PeerSearch" (57 : Nat) "PeerSearch" "ranking" "LPeerSearch$Ranking;") ∈ lw_all := lw_g (lw_at lw_m2 210 rfl) rfl
theorem q623 : (Jvm.Cond.laysFinal "PeerSearch" "PeerSearch" "board" "LPeerSearch$Board;") ∈ lw_all := lw_g (lw_at lw_m2 211 rfl) rfl
theorem q624 : (Jvm.Cond.soleField "PeerSearch" "board") ∈ lw_all := lw_g (lw_at lw_m2 212 rfl) rfl
theorem q625 : (Jvm.Cond.laysFinal "PeerSearch" "PeerSearch" "net" "LPeerSearch$Net;") ∈ lw_all := lw_g (lw_at lw_m2 213 rfl) rfl
theorem q626 : (Jvm.Cond.soleField "PeerSearch" "net") ∈ lw_all := lw_g (lw_at lw_m2 214 rfl) rfl
theorem q627 : (Jvm.Cond.laysFinal "PeerSearch" "PeerSearch" "ready" "[B") ∈ lw_all := lw_g (lw_at lw_m2 215 rfl) rfl
theorem q628 : (Jvm.Cond.soleField "PeerSearch" "ready") ∈ lw_all := lw_g (lw_at lw_m2 216 rfl) rfl
theorem q629 : (Jvm.Cond.laysFinal "PeerSearch" "PeerSearch" "tape" "[B") ∈ lw_all := lw_g (lw_at lw_m2 217 rfl) rfl
theorem q630 : (Jvm.Cond.soleField "PeerSearch" "tape") ∈ lw_all := lw_g (lw_at lw_m2 218 rfl) rfl
theorem q631 : (Jvm.Cond.laysFinal "PeerSearch" "PeerSearch" "word" "[B") ∈ lw_all := lw_g (lw_at lw_m2 219 rfl) rfl
theorem q632 : (Jvm.Cond.soleField "PeerSearch" "word") ∈ lw_all := lw_g (lw_at lw_m2 220 rfl) rfl
theorem q633 : (Jvm.Cond.lays "PeerSearch" "PeerSearch" "taped" "I") ∈ lw_all := lw_g (lw_at lw_m2 221 rfl) rfl
theorem q634 : (Jvm.Cond.soleField "PeerSearch" "taped") ∈ lw_all := lw_g (lw_at lw_m2 222 rfl) rfl
theorem q635 : (Jvm.Cond.laysFinal "PeerSearch" "PeerSearch" "places" "[LPeerSearch$Work;") ∈ lw_all := lw_g (lw_at lw_m2 223 rfl) rfl
theorem q636 : (Jvm.Cond.soleField "PeerSearch" "places") ∈ lw_all := lw_g (lw_at lw_m2 224 rfl) rfl
theorem q637 : (Jvm.Cond.laysFinal "PeerSearch" "PeerSearch" "tasks" "[LPeerSearch$Task;") ∈ lw_all := lw_g (lw_at lw_m2 225 rfl) rfl
theorem q638 : (Jvm.Cond.soleField "PeerSearch" "tasks") ∈ lw_all := lw_g (lw_at lw_m2 226 rfl) rfl
theorem q639 : (Jvm.Cond.lays "PeerSearch" "PeerSearch" "begun" "I") ∈ lw_all := lw_g (lw_at lw_m2 227 rfl) rfl
theorem q640 : (Jvm.Cond.soleField "PeerSearch" "begun") ∈ lw_all := lw_g (lw_at lw_m2 228 rfl) rfl
theorem q641 : (Jvm.Cond.laysFinal "PeerSearch" "PeerSearch" "cutter" "LPeerSearch$Cutter;") ∈ lw_all := lw_g (lw_at lw_m2 229 rfl) rfl
theorem q642 : (Jvm.Cond.soleField "PeerSearch" "cutter") ∈ lw_all := lw_g (lw_at lw_m2 230 rfl) rfl
theorem q643 : (Jvm.Cond.laysFinal "PeerSearch" "PeerSearch" "scratch" "LPeerSearch$Key;") ∈ lw_all := lw_g (lw_at lw_m2 231 rfl) rfl
theorem q644 : (Jvm.Cond.soleField "PeerSearch" "scratch") ∈ lw_all := lw_g (lw_at lw_m2 232 rfl) rfl
theorem q645 : (Jvm.Cond.laysFinal "PeerSearch" "PeerSearch" "forged" "LPeerSearch$Packet;") ∈ lw_all := lw_g (lw_at lw_m2 233 rfl) rfl
theorem q646 : (Jvm.Cond.soleField "PeerSearch" "forged") ∈ lw_all := lw_g (lw_at lw_m2 234 rfl) rfl
theorem q647 : (Jvm.Cond.laysFinal "PeerSearch" "PeerSearch" "ranking" "LPeerSearch$Ranking;") ∈ lw_all := lw_g (lw_at lw_m2 235 rfl) rfl
theorem q648 : (Jvm.Cond.soleField "PeerSearch" "ranking") ∈ lw_all := lw_g (lw_at lw_m2 236 rfl) rfl
theorem q649 : (Jvm.Cond.superclass "PeerSearch" "java/lang/Object") ∈ lw_all := lw_g (lw_at lw_m2 237 rfl) rfl
theorem q651 : (Jvm.Cond.instanceMethod ({ cls := "PeerSearch", name := "feed", desc := "(IIIII)V" } : Jvm.MethodName)) ∈ lw_all := lw_g (lw_at lw_m2 239 rfl) rfl
theorem q652 : (Jvm.Cond.selects "PeerSearch" ({ cls := "PeerSearch", name := "feed", desc := "(IIIII)V" } : Jvm.MethodName) ({ cls := "PeerSearch", name := "feed", desc := "(IIIII)V" } : Jvm.MethodName)) ∈ lw_all := lw_g (lw_at lw_m3 0 rfl) rfl
theorem q653 : (Jvm.Cond.code ({ cls := "PeerSearch", name := "feed", desc := "(IIIII)V" } : Jvm.MethodName) prog_1_method_3_code (8 : Nat) (Option.none : Option Jvm.ClassFile.FieldType)) ∈ lw_all := lw_g (lw_at lw_m3 1 rfl) rfl
theorem q655 : (Jvm.Cond.instanceMethod ({ cls := "PeerSearch", name := "end", desc := "(I)I" } : Jvm.MethodName)) ∈ lw_all := lw_g (lw_at lw_m3 3 rfl) rfl
theorem q656 : (Jvm.Cond.selects "PeerSearch" ({ cls := "PeerSearch", name := "end", desc := "(I)I" } : Jvm.MethodName) ({ cls := "PeerSearch", name := "end", desc := "(I)I" } : Jvm.MethodName)) ∈ lw_all := lw_g (lw_at lw_m3 4 rfl) rfl
theorem q657 : (Jvm.Cond.code ({ cls := "PeerSearch", name := "end", desc := "(I)I" } : Jvm.MethodName) prog_1_method_4_code (3 : Nat) (Option.some Jvm.ClassFile.FieldType.int)) ∈ lw_all := lw_g (lw_at lw_m3 5 rfl) rfl
theorem q659 : (Jvm.Cond.instanceMethod ({ cls := "PeerSearch", name := "hash", desc := "(I)I" } : Jvm.MethodName)) ∈ lw_all := lw_g (lw_at lw_m3 7 rfl) rfl
theorem q660 : (Jvm.Cond.selects "PeerSearch" ({ cls := "PeerSearch", name := "hash", desc := "(I)I" } : Jvm.MethodName) ({ cls := "PeerSearch", name := "hash", desc := "(I)I" } : Jvm.MethodName)) ∈ lw_all := lw_g (lw_at lw_m3 8 rfl) rfl
theorem q661 : (Jvm.Cond.code ({ cls := "PeerSearch", name := "hash", desc := "(I)I" } : Jvm.MethodName) prog_1_method_6_code (2 : Nat) (Option.some Jvm.ClassFile.FieldType.int)) ∈ lw_all := lw_g (lw_at lw_m3 9 rfl) rfl
theorem q662 : (Jvm.Cond.methodLink "PeerSearch" (99 : Nat) ({ cls := "PeerSearch$Sha", name := "of", desc := "([BILPeerSearch$Key;)V" } : Jvm.MethodName)) ∈ lw_all := lw_g (lw_at lw_m3 10 rfl) rfl
theorem q686 : (Jvm.Cond.instanceMethod ({ cls := "PeerSearch", name := "peer", desc := "()I" } : Jvm.MethodName)) ∈ lw_all := lw_g (lw_at lw_m3 34 rfl) rfl
theorem q687 : (Jvm.Cond.selects "PeerSearch" ({ cls := "PeerSearch", name := "peer", desc := "()I" } : Jvm.MethodName) ({ cls := "PeerSearch", name := "peer", desc := "()I" } : Jvm.MethodName)) ∈ lw_all := lw_g (lw_at lw_m3 35 rfl) rfl
theorem q688 : (Jvm.Cond.code ({ cls := "PeerSearch", name := "peer", desc := "()I" } : Jvm.MethodName) prog_1_method_9_code (3 : Nat) (Option.some Jvm.ClassFile.FieldType.int)) ∈ lw_all := lw_g (lw_at lw_m3 36 rfl) rfl
theorem q689 : (Jvm.Cond.methodLink "PeerSearch" (123 : Nat) ({ cls := "PeerSearch", name := "take", desc := "()I" } : Jvm.MethodName)) ∈ lw_all := lw_g (lw_at lw_m3 37 rfl) rfl
theorem q690 : (Jvm.Cond.privateMethod ({ cls := "PeerSearch", name := "take", desc := "()I" } : Jvm.MethodName)) ∈ lw_tbl := lw_at lw_m3 38 rfl
theorem q691 : (Jvm.Cond.instanceMethod ({ cls := "PeerSearch", name := "take", desc := "()I" } : Jvm.MethodName)) ∈ lw_all := lw_g (lw_at lw_m3 39 rfl) rfl
theorem q692 : (Jvm.Cond.code ({ cls := "PeerSearch", name := "take", desc := "()I" } : Jvm.MethodName) prog_1_method_5_code (2 : Nat) (Option.some Jvm.ClassFile.FieldType.int)) ∈ lw_all := lw_g (lw_at lw_m3 40 rfl) rfl
theorem q693 : (Jvm.Cond.methodLink "PeerSearch" (133 : Nat) ({ cls := "PeerSearch$Key", name := "is", desc := "(LPeerSearch$Key;)Z" } : Jvm.MethodName)) ∈ lw_all := lw_g (lw_at lw_m3 41 rfl) rfl
theorem q705 : (Jvm.Cond.classLink "PeerSearch" (119 : Nat) "PeerSearch$Peer") ∈ lw_all := lw_g (lw_at lw_m3 53 rfl) rfl
theorem q707 : (Jvm.Cond.methodLink "PeerSearch" (137 : Nat) ({ cls := "PeerSearch$Peer", name := "<init>", desc := "(LPeerSearch$Board;ILPeerSearch$Key;)V" } : Jvm.MethodName)) ∈ lw_all := lw_g (lw_at lw_m3 55 rfl) rfl
theorem q725 : (Jvm.Cond.fieldLinkNest "PeerSearch" (392 : Nat) "PeerSearch$Store" "rows" "[LPeerSearch$Posting;" "PeerSearch") ∈ lw_tbl := lw_at lw_m3 73 rfl
theorem q727 : (Jvm.Cond.fieldLinkNest "PeerSearch" (368 : Nat) "PeerSearch$Store" "size" "I" "PeerSearch") ∈ lw_tbl := lw_at lw_m3 75 rfl
theorem q748 : (Jvm.Cond.fieldLinkNest "PeerSearch" (307 : Nat) "PeerSearch$Library" "size" "I" "PeerSearch") ∈ lw_tbl := lw_at lw_m3 96 rfl
theorem q751 : (Jvm.Cond.fieldLinkNest "PeerSearch" (369 : Nat) "PeerSearch$Library" "documents" "I" "PeerSearch") ∈ lw_tbl := lw_at lw_m3 99 rfl
theorem q851 : (Jvm.Cond.fieldLinkNest "PeerSearch" (434 : Nat) "PeerSearch$Peer" "number" "I" "PeerSearch") ∈ lw_tbl := lw_at lw_m3 199 rfl
theorem q857 : (Jvm.Cond.fieldLinkNest "PeerSearch" (130 : Nat) "PeerSearch$Peer" "key" "LPeerSearch$Key;" "PeerSearch") ∈ lw_tbl := lw_at lw_m3 205 rfl
theorem q859 : (Jvm.Cond.fieldLinkNest "PeerSearch" (118 : Nat) "PeerSearch$Peer" "state" "I" "PeerSearch") ∈ lw_tbl := lw_at lw_m3 207 rfl
theorem q861 : (Jvm.Cond.fieldLinkNest "PeerSearch" (146 : Nat) "PeerSearch$Peer" "side" "I" "PeerSearch") ∈ lw_tbl := lw_at lw_m3 209 rfl
theorem q865 : (Jvm.Cond.fieldLinkNest "PeerSearch" (206 : Nat) "PeerSearch$Peer" "table" "LPeerSearch$Table;" "PeerSearch") ∈ lw_tbl := lw_at lw_m3 213 rfl
theorem q868 : (Jvm.Cond.fieldLinkNest "PeerSearch" (291 : Nat) "PeerSearch$Peer" "store" "LPeerSearch$Store;" "PeerSearch") ∈ lw_tbl := lw_at lw_m3 216 rfl
theorem q871 : (Jvm.Cond.fieldLinkNest "PeerSearch" (232 : Nat) "PeerSearch$Peer" "library" "LPeerSearch$Library;" "PeerSearch") ∈ lw_tbl := lw_at lw_m3 219 rfl
theorem q874 : (Jvm.Cond.fieldLinkNest "PeerSearch" (365 : Nat) "PeerSearch$Peer" "waits" "I" "PeerSearch") ∈ lw_tbl := lw_at lw_m3 222 rfl
theorem q877 : (Jvm.Cond.fieldLinkNest "PeerSearch" (372 : Nat) "PeerSearch$Peer" "malformed" "I" "PeerSearch") ∈ lw_tbl := lw_at lw_m3 225 rfl
theorem q879 : (Jvm.Cond.fieldLinkNest "PeerSearch" (375 : Nat) "PeerSearch$Peer" "strays" "I" "PeerSearch") ∈ lw_tbl := lw_at lw_m3 227 rfl
theorem q881 : (Jvm.Cond.fieldLinkNest "PeerSearch" (378 : Nat) "PeerSearch$Peer" "refused" "I" "PeerSearch") ∈ lw_tbl := lw_at lw_m3 229 rfl
theorem q883 : (Jvm.Cond.fieldLinkNest "PeerSearch" (381 : Nat) "PeerSearch$Peer" "sent" "I" "PeerSearch") ∈ lw_tbl := lw_at lw_m3 231 rfl
theorem q885 : (Jvm.Cond.fieldLinkNest "PeerSearch" (384 : Nat) "PeerSearch$Peer" "delivered" "I" "PeerSearch") ∈ lw_tbl := lw_at lw_m3 233 rfl
theorem q889 : (Jvm.Cond.fieldLinkNest "PeerSearch" (308 : Nat) "PeerSearch$Peer" "published" "I" "PeerSearch") ∈ lw_tbl := lw_at lw_m3 237 rfl
theorem q891 : (Jvm.Cond.fieldLinkNest "PeerSearch" (311 : Nat) "PeerSearch$Peer" "refreshed" "I" "PeerSearch") ∈ lw_tbl := lw_at lw_m3 239 rfl
theorem q893 : (Jvm.Cond.fieldLinkNest "PeerSearch" (196 : Nat) "PeerSearch$Peer" "background" "LPeerSearch$Work;" "PeerSearch") ∈ lw_tbl := lw_at lw_m4 1 rfl
theorem q936 : (Jvm.Cond.instanceMethod ({ cls := "PeerSearch", name := "key", desc := "(II)I" } : Jvm.MethodName)) ∈ lw_all := lw_g (lw_at lw_m4 44 rfl) rfl
theorem q937 : (Jvm.Cond.selects "PeerSearch" ({ cls := "PeerSearch", name := "key", desc := "(II)I" } : Jvm.MethodName) ({ cls := "PeerSearch", name := "key", desc := "(II)I" } : Jvm.MethodName)) ∈ lw_all := lw_g (lw_at lw_m4 45 rfl) rfl
theorem q938 : (Jvm.Cond.code ({ cls := "PeerSearch", name := "key", desc := "(II)I" } : Jvm.MethodName) prog_1_method_10_code (3 : Nat) (Option.some Jvm.ClassFile.FieldType.int)) ∈ lw_all := lw_g (lw_at lw_m4 46 rfl) rfl
theorem q939 : (Jvm.Cond.methodLink "PeerSearch" (113 : Nat) ({ cls := "PeerSearch", name := "has", desc := "(I)Z" } : Jvm.MethodName)) ∈ lw_all := lw_g (lw_at lw_m4 47 rfl) rfl
theorem q940 : (Jvm.Cond.privateMethod ({ cls := "PeerSearch", name := "has", desc := "(I)Z" } : Jvm.MethodName)) ∈ lw_tbl := lw_at lw_m4 48 rfl
theorem q941 : (Jvm.Cond.instanceMethod ({ cls := "PeerSearch", name := "has", desc := "(I)Z" } : Jvm.MethodName)) ∈ lw_all := lw_g (lw_at lw_m4 49 rfl) rfl
theorem q942 : (Jvm.Cond.code ({ cls := "PeerSearch", name := "has", desc := "(I)Z" } : Jvm.MethodName) prog_1_method_7_code (2 : Nat) (Option.some Jvm.ClassFile.FieldType.boolean)) ∈ lw_all := lw_g (lw_at lw_m4 50 rfl) rfl
theorem q943 : (Jvm.Cond.methodLink "PeerSearch" (109 : Nat) ({ cls := "PeerSearch$Board", name := "has", desc := "(I)Z" } : Jvm.MethodName)) ∈ lw_all := lw_g (lw_at lw_m4 51 rfl) rfl
theorem q948 : (Jvm.Cond.instanceMethod ({ cls := "PeerSearch", name := "set", desc := "(II)Z" } : Jvm.MethodName)) ∈ lw_all := lw_g (lw_at lw_m4 56 rfl) rfl
theorem q949 : (Jvm.Cond.selects "PeerSearch" ({ cls := "PeerSearch", name := "set", desc := "(II)Z" } : Jvm.MethodName) ({ cls := "PeerSearch", name := "set", desc := "(II)Z" } : Jvm.MethodName)) ∈ lw_all := lw_g (lw_at lw_m4 57 rfl) rfl
theorem q950 : (Jvm.Cond.code ({ cls := "PeerSearch", name := "set", desc := "(II)Z" } : Jvm.MethodName) prog_1_method_11_code (3 : Nat) (Option.some Jvm.ClassFile.FieldType.boolean)) ∈ lw_all := lw_g (lw_at lw_m4 58 rfl) rfl
theorem q951 : (Jvm.Cond.methodLink "PeerSearch" (140 : Nat) ({ cls := "PeerSearch$Net", name := "set", desc := "(II)Z" } : Jvm.MethodName)) ∈ lw_all := lw_g (lw_at lw_m4 59 rfl) rfl
theorem q960 : (Jvm.Cond.instanceMethod ({ cls := "PeerSearch", name := "side", desc := "(II)Z" } : Jvm.MethodName)) ∈ lw_all := lw_g (lw_at lw_m4 68 rfl) rfl
theorem q961 : (Jvm.Cond.selects "PeerSearch" ({ cls := "PeerSearch", name := "side", desc := "(II)Z" } : Jvm.MethodName) ({ cls := "PeerSearch", name := "side", desc := "(II)Z" } : Jvm.MethodName)) ∈ lw_all := lw_g (lw_at lw_m4 69 rfl) rfl
theorem q962 : (Jvm.Cond.code ({ cls := "PeerSearch", name := "side", desc := "(II)Z" } : Jvm.MethodName) prog_1_method_12_code (3 : Nat) (Option.some Jvm.ClassFile.FieldType.boolean)) ∈ lw_all := lw_g (lw_at lw_m4 70 rfl) rfl
theorem q964 : (Jvm.Cond.instanceMethod ({ cls := "PeerSearch", name := "start", desc := "(I)Z" } : Jvm.MethodName)) ∈ lw_all := lw_g (lw_at lw_m4 72 rfl) rfl
theorem q965 : (Jvm.Cond.selects "PeerSearch" ({ cls := "PeerSearch", name := "start", desc := "(I)Z" } : Jvm.MethodName) ({ cls := "PeerSearch", name := "start", desc := "(I)Z" } : Jvm.MethodName)) ∈ lw_all := lw_g (lw_at lw_m4 73 rfl) rfl
theorem q966 : (Jvm.Cond.code ({ cls := "PeerSearch", name := "start", desc := "(I)Z" } : Jvm.MethodName) prog_1_method_13_code (2 : Nat) (Option.some Jvm.ClassFile.FieldType.boolean)) ∈ lw_all := lw_g (lw_at lw_m4 74 rfl) rfl
theorem q967 : (Jvm.Cond.methodLink "PeerSearch" (149 : Nat) ({ cls := "PeerSearch", name := "isLive", desc := "(I)Z" } : Jvm.MethodName)) ∈ lw_all := lw_g (lw_at lw_m4 75 rfl) rfl
theorem q968 : (Jvm.Cond.privateMethod ({ cls := "PeerSearch", name := "isLive", desc := "(I)Z" } : Jvm.MethodName)) ∈ lw_tbl := lw_at lw_m4 76 rfl
theorem q969 : (Jvm.Cond.instanceMethod ({ cls := "PeerSearch", name := "isLive", desc := "(I)Z" } : Jvm.MethodName)) ∈ lw_all := lw_g (lw_at lw_m4 77 rfl) rfl
theorem q970 : (Jvm.Cond.code ({ cls := "PeerSearch", name := "isLive", desc := "(I)Z" } : Jvm.MethodName) prog_1_method_8_code (2 : Nat) (Option.some Jvm.ClassFile.FieldType.boolean)) ∈ lw_all := lw_g (lw_at lw_m4 78 rfl) rfl
theorem q971 : (Jvm.Cond.methodLink "PeerSearch" (152 : Nat) ({ cls := "PeerSearch$Peer", name := "live", desc := "()V" } : Jvm.MethodName)) ∈ lw_all := lw_g (lw_at lw_m4 79 rfl) rfl
theorem q976 : (Jvm.Cond.instanceMethod ({ cls := "PeerSearch", name := "join", desc := "(II)I" } : Jvm.MethodName)) ∈ lw_all := lw_g (lw_at lw_m4 84 rfl) rfl
theorem q977 : (Jvm.Cond.selects "PeerSearch" ({ cls := "PeerSearch", name := "join", desc := "(II)I" } : Jvm.MethodName) ({ cls := "PeerSearch", name := "join", desc := "(II)I" } : Jvm.MethodName)) ∈ lw_all := lw_g (lw_at lw_m4 85 rfl) rfl
theorem q978 : (Jvm.Cond.code ({ cls := "PeerSearch", name := "join", desc := "(II)I" } : Jvm.MethodName) prog_1_method_16_code (4 : Nat) (Option.some Jvm.ClassFile.FieldType.int)) ∈ lw_all := lw_g (lw_at lw_m4 86 rfl) rfl
theorem q979 : (Jvm.Cond.methodLink "PeerSearch" (167 : Nat) ({ cls := "PeerSearch", name := "free", desc := "()LPeerSearch$Work;" } : Jvm.MethodName)) ∈ lw_all := lw_g (lw_at lw_m4 87 rfl) rfl
theorem q980 : (Jvm.Cond.privateMethod ({ cls := "PeerSearch", name := "free", desc := "()LPeerSearch$Work;" } : Jvm.MethodName)) ∈ lw_tbl := lw_at lw_m4 88 rfl
theorem q981 : (Jvm.Cond.instanceMethod ({ cls := "PeerSearch", name := "free", desc := "()LPeerSearch$Work;" } : Jvm.MethodName)) ∈ lw_all := lw_g (lw_at lw_m4 89 rfl) rfl
theorem q982 : (Jvm.Cond.code ({ cls := "PeerSearch", name := "free", desc := "()LPeerSearch$Work;" } : Jvm.MethodName) prog_1_method_14_code (2 : Nat) (Option.some (Jvm.ClassFile.FieldType.object "PeerSearch$Work"))) ∈ lw_all := lw_g (lw_at lw_m4 90 rfl) rfl
theorem q983 : (Jvm.Cond.methodLink "PeerSearch" (171 : Nat) ({ cls := "PeerSearch$Peer", name := "see", desc := "(LPeerSearch$Key;I)V" } : Jvm.MethodName)) ∈ lw_all := lw_g (lw_at lw_m4 91 rfl) rfl
theorem q1036 : (Jvm.Cond.fieldLinkNest "PeerSearch" (387 : Nat) "PeerSearch$Contact" "key" "LPeerSearch$Key;" "PeerSearch") ∈ lw_tbl := lw_at lw_m4 144 rfl
theorem q1041 : (Jvm.Cond.fieldLinkNest "PeerSearch" (216 : Nat) "PeerSearch$Contact" "address" "I" "PeerSearch") ∈ lw_tbl := lw_at lw_m4 149 rfl
theorem q1179 : (Jvm.Cond.fieldLinkNest "PeerSearch" (325 : Nat) "PeerSearch$Datagram" "from" "I" "PeerSearch") ∈ lw_tbl := lw_at lw_m5 47 rfl
theorem q1181 : (Jvm.Cond.fieldLinkNest "PeerSearch" (320 : Nat) "PeerSearch$Datagram" "to" "I" "PeerSearch") ∈ lw_tbl := lw_at lw_m5 49 rfl
theorem q1183 : (Jvm.Cond.fieldLinkNest "PeerSearch" (414 : Nat) "PeerSearch$Datagram" "due" "I" "PeerSearch") ∈ lw_tbl := lw_at lw_m5 51 rfl
theorem q1186 : (Jvm.Cond.fieldLinkNest "PeerSearch" (417 : Nat) "PeerSearch$Datagram" "packet" "LPeerSearch$Packet;" "PeerSearch") ∈ lw_tbl := lw_at lw_m5 54 rfl
theorem q1197 : (Jvm.Cond.methodLink "PeerSearch" (179 : Nat) ({ cls := "PeerSearch$Joining", name := "from", desc := "(Z)LPeerSearch$Joining;" } : Jvm.MethodName)) ∈ lw_all := lw_g (lw_at lw_m5 65 rfl) rfl
theorem q1201 : (Jvm.Cond.methodLink "PeerSearch" (185 : Nat) ({ cls := "PeerSearch", name := "begin", desc := "(LPeerSearch$Work;IILPeerSearch$Plan;)I" } : Jvm.MethodName)) ∈ lw_all := lw_g (lw_at lw_m5 69 rfl) rfl
theorem q1202 : (Jvm.Cond.privateMethod ({ cls := "PeerSearch", name := "begin", desc := "(LPeerSearch$Work;IILPeerSearch$Plan;)I" } : Jvm.MethodName)) ∈ lw_tbl := lw_at lw_m5 70 rfl
theorem q1203 : (Jvm.Cond.instanceMethod ({ cls := "PeerSearch", name := "begin", desc := "(LPeerSearch$Work;IILPeerSearch$Plan;)I" } : Jvm.MethodName)) ∈ lw_all := lw_g (lw_at lw_m5 71 rfl) rfl
theorem q1204 : (Jvm.Cond.code ({ cls := "PeerSearch", name := "begin", desc := "(LPeerSearch$Work;IILPeerSearch$Plan;)I" } : Jvm.MethodName) prog_1_method_15_code (6 : Nat) (Option.some Jvm.ClassFile.FieldType.int)) ∈ lw_all := lw_g (lw_at lw_m5 72 rfl) rfl
theorem q1206 : (Jvm.Cond.methodLink "PeerSearch" (162 : Nat) ({ cls := "PeerSearch$Task", name := "<init>", desc := "(II)V" } : Jvm.MethodName)) ∈ lw_all := lw_g (lw_at lw_m5 74 rfl) rfl
theorem q1211 : (Jvm.Cond.fieldLinkNest "PeerSearch" (349 : Nat) "PeerSearch$Task" "kind" "I" "PeerSearch") ∈ lw_tbl := lw_at lw_m5 79 rfl
theorem q1213 : (Jvm.Cond.fieldLinkNest "PeerSearch" (352 : Nat) "PeerSearch$Task" "peer" "I" "PeerSearch") ∈ lw_tbl := lw_at lw_m5 81 rfl
theorem q1216 : (Jvm.Cond.fieldLinkNest "PeerSearch" (354 : Nat) "PeerSearch$Task" "state" "I" "PeerSearch") ∈ lw_tbl := lw_at lw_m5 84 rfl
theorem q1218 : (Jvm.Cond.fieldLinkNest "PeerSearch" (355 : Nat) "PeerSearch$Task" "asked" "I" "PeerSearch") ∈ lw_tbl := lw_at lw_m5 86 rfl
theorem q1221 : (Jvm.Cond.fieldLinkNest "PeerSearch" (358 : Nat) "PeerSearch$Task" "many" "I" "PeerSearch") ∈ lw_tbl := lw_at lw_m5 89 rfl
theorem q1241 : (Jvm.Cond.methodLink "PeerSearch" (163 : Nat) ({ cls := "PeerSearch$Work", name := "start", desc := "(LPeerSearch$Peer;LPeerSearch$Plan;LPeerSearch$Task;)V" } : Jvm.MethodName)) ∈ lw_all := lw_g (lw_at lw_m5 109 rfl) rfl
theorem q1509 : (Jvm.Cond.fieldLinkNest "PeerSearch" (409 : Nat) "PeerSearch$Posting" "key" "LPeerSearch$Key;" "PeerSearch") ∈ lw_tbl := lw_at lw_m6 137 rfl
theorem q1512 : (Jvm.Cond.fieldLinkNest "PeerSearch" (396 : Nat) "PeerSearch$Posting" "owner" "I" "PeerSearch") ∈ lw_tbl := lw_at lw_m6 140 rfl
theorem q1515 : (Jvm.Cond.fieldLinkNest "PeerSearch" (401 : Nat) "PeerSearch$Posting" "document" "I" "PeerSearch") ∈ lw_tbl := lw_at lw_m6 143 rfl
theorem q1518 : (Jvm.Cond.fieldLinkNest "PeerSearch" (404 : Nat) "PeerSearch$Posting" "weight" "I" "PeerSearch") ∈ lw_tbl := lw_at lw_m6 146 rfl
theorem q1520 : (Jvm.Cond.fieldLinkNest "PeerSearch" (407 : Nat) "PeerSearch$Posting" "end" "I" "PeerSearch") ∈ lw_tbl := lw_at lw_m6 148 rfl
theorem q1655 : (Jvm.Cond.instanceMethod ({ cls := "PeerSearch", name := "crash", desc := "(I)Z" } : Jvm.MethodName)) ∈ lw_all := lw_g (lw_at lw_m7 43 rfl) rfl
theorem q1656 : (Jvm.Cond.selects "PeerSearch" ({ cls := "PeerSearch", name := "crash", desc := "(I)Z" } : Jvm.MethodName) ({ cls := "PeerSearch", name := "crash", desc := "(I)Z" } : Jvm.MethodName)) ∈ lw_all := lw_g (lw_at lw_m7 44 rfl) rfl
theorem q1657 : (Jvm.Cond.code ({ cls := "PeerSearch", name := "crash", desc := "(I)Z" } : Jvm.MethodName) prog_1_method_18_code (2 : Nat) (Option.some Jvm.ClassFile.FieldType.boolean)) ∈ lw_all := lw_g (lw_at lw_m7 45 rfl) rfl
theorem q1658 : (Jvm.Cond.methodLink "PeerSearch" (202 : Nat) ({ cls := "PeerSearch", name := "drop", desc := "(LPeerSearch$Peer;)V" } : Jvm.MethodName)) ∈ lw_all := lw_g (lw_at lw_m7 46 rfl) rfl
theorem q1659 : (Jvm.Cond.privateMethod ({ cls := "PeerSearch", name := "drop", desc := "(LPeerSearch$Peer;)V" } : Jvm.MethodName)) ∈ lw_tbl := lw_at lw_m7 47 rfl
theorem q1660 : (Jvm.Cond.instanceMethod ({ cls := "PeerSearch", name := "drop", desc := "(LPeerSearch$Peer;)V" } : Jvm.MethodName)) ∈ lw_all := lw_g (lw_at lw_m7 48 rfl) rfl
theorem q1661 : (Jvm.Cond.code ({ cls := "PeerSearch", name := "drop", desc := "(LPeerSearch$Peer;)V" } : Jvm.MethodName) prog_1_method_17_code (3 : Nat) (Option.none : Option Jvm.ClassFile.FieldType)) ∈ lw_all := lw_g (lw_at lw_m7 49 rfl) rfl
theorem q1662 : (Jvm.Cond.methodLink "PeerSearch" (193 : Nat) ({ cls := "PeerSearch$Work", name := "end", desc := "(I)V" } : Jvm.MethodName)) ∈ lw_all := lw_g (lw_at lw_m7 50 rfl) rfl
theorem q1663 : (Jvm.Cond.methodLink "PeerSearch" (200 : Nat) ({ cls := "PeerSearch$Peer", name := "end", desc := "()V" } : Jvm.MethodName)) ∈ lw_all := lw_g (lw_at lw_m7 51 rfl) rfl
theorem q1673 : (Jvm.Cond.instanceMethod ({ cls := "PeerSearch", name := "leave", desc := "(I)Z" } : Jvm.MethodName)) ∈ lw_all := lw_g (lw_at lw_m7 61 rfl) rfl
theorem q1674 : (Jvm.Cond.selects "PeerSearch" ({ cls := "PeerSearch", name := "leave", desc := "(I)Z" } : Jvm.MethodName) ({ cls := "PeerSearch", name := "leave", desc := "(I)Z" } : Jvm.MethodName)) ∈ lw_all := lw_g (lw_at lw_m7 62 rfl) rfl
theorem q1675 : (Jvm.Cond.code ({ cls := "PeerSearch", name := "leave", desc := "(I)Z" } : Jvm.MethodName) prog_1_method_19_code (5 : Nat) (Option.some Jvm.ClassFile.FieldType.boolean)) ∈ lw_all := lw_g (lw_at lw_m7 63 rfl) rfl
theorem q1676 : (Jvm.Cond.methodLink "PeerSearch" (210 : Nat) ({ cls := "PeerSearch$Table", name := "contact", desc := "(ZI)LPeerSearch$Contact;" } : Jvm.MethodName)) ∈ lw_all := lw_g (lw_at lw_m7 64 rfl) rfl
theorem q1684 : (Jvm.Cond.methodLink "PeerSearch" (221 : Nat) ({ cls := "PeerSearch$Peer", name := "begin", desc := "(I)LPeerSearch$Packet;" } : Jvm.MethodName)) ∈ lw_all := lw_g (lw_at lw_m7 72 rfl) rfl
theorem q1685 : (Jvm.Cond.methodLinkNest "PeerSearch" (224 : Nat) ({ cls := "PeerSearch$Peer", name := "send", desc := "(ILPeerSearch$Packet;)V" } : Jvm.MethodName) "PeerSearch") ∈ lw_tbl := lw_at lw_m7 73 rfl
theorem q1687 : (Jvm.Cond.instanceMethod ({ cls := "PeerSearch", name := "document", desc := "(I)I" } : Jvm.MethodName)) ∈ lw_all := lw_g (lw_at lw_m7 75 rfl) rfl
theorem q1688 : (Jvm.Cond.selects "PeerSearch" ({ cls := "PeerSearch", name := "document", desc := "(I)I" } : Jvm.MethodName) ({ cls := "PeerSearch", name := "document", desc := "(I)I" } : Jvm.MethodName)) ∈ lw_all := lw_g (lw_at lw_m7 76 rfl) rfl
theorem q1689 : (Jvm.Cond.code ({ cls := "PeerSearch", name := "document", desc := "(I)I" } : Jvm.MethodName) prog_1_method_20_code (3 : Nat) (Option.some Jvm.ClassFile.FieldType.int)) ∈ lw_all := lw_g (lw_at lw_m7 77 rfl) rfl
theorem q1690 : (Jvm.Cond.methodLink "PeerSearch" (228 : Nat) ({ cls := "PeerSearch$Cutter", name := "cut", desc := "([BI)V" } : Jvm.MethodName)) ∈ lw_all := lw_g (lw_at lw_m7 78 rfl) rfl
theorem q1706 : (Jvm.Cond.methodLink "PeerSearch" (236 : Nat) ({ cls := "PeerSearch$Library", name := "add", desc := "(LPeerSearch$Cutter;LPeerSearch$Sha;)I" } : Jvm.MethodName)) ∈ lw_all := lw_g (lw_at lw_m7 94 rfl) rfl
theorem q1751 : (Jvm.Cond.instanceMethod ({ cls := "PeerSearch", name := "publish", desc := "(I)I" } : Jvm.MethodName)) ∈ lw_all := lw_g (lw_at lw_m7 139 rfl) rfl
theorem q1752 : (Jvm.Cond.selects "PeerSearch" ({ cls := "PeerSearch", name := "publish", desc := "(I)I" } : Jvm.MethodName) ({ cls := "PeerSearch", name := "publish", desc := "(I)I" } : Jvm.MethodName)) ∈ lw_all := lw_g (lw_at lw_m7 140 rfl) rfl
theorem q1753 : (Jvm.Cond.code ({ cls := "PeerSearch", name := "publish", desc := "(I)I" } : Jvm.MethodName) prog_1_method_21_code (3 : Nat) (Option.some Jvm.ClassFile.FieldType.int)) ∈ lw_all := lw_g (lw_at lw_m7 141 rfl) rfl
theorem q1754 : (Jvm.Cond.methodLink "PeerSearch" (242 : Nat) ({ cls := "PeerSearch$Work", name := "publishing", desc := "()LPeerSearch$Publishing;" } : Jvm.MethodName)) ∈ lw_all := lw_g (lw_at lw_m7 142 rfl) rfl
theorem q1787 : (Jvm.Cond.instanceMethod ({ cls := "PeerSearch", name := "lookup", desc := "(I)I" } : Jvm.MethodName)) ∈ lw_all := lw_g (lw_at lw_m7 175 rfl) rfl
theorem q1788 : (Jvm.Cond.selects "PeerSearch" ({ cls := "PeerSearch", name := "lookup", desc := "(I)I" } : Jvm.MethodName) ({ cls := "PeerSearch", name := "lookup", desc := "(I)I" } : Jvm.MethodName)) ∈ lw_all := lw_g (lw_at lw_m7 176 rfl) rfl
theorem q1789 : (Jvm.Cond.code ({ cls := "PeerSearch", name := "lookup", desc := "(I)I" } : Jvm.MethodName) prog_1_method_22_code (4 : Nat) (Option.some Jvm.ClassFile.FieldType.int)) ∈ lw_all := lw_g (lw_at lw_m7 177 rfl) rfl
theorem q1791 : (Jvm.Cond.instanceMethod ({ cls := "PeerSearch", name := "query", desc := "(I)I" } : Jvm.MethodName)) ∈ lw_all := lw_g (lw_at lw_m7 179 rfl) rfl
theorem q1792 : (Jvm.Cond.selects "PeerSearch" ({ cls := "PeerSearch", name := "query", desc := "(I)I" } : Jvm.MethodName) ({ cls := "PeerSearch", name := "query", desc := "(I)I" } : Jvm.MethodName)) ∈ lw_all := lw_g (lw_at lw_m7 180 rfl) rfl
theorem q1793 : (Jvm.Cond.code ({ cls := "PeerSearch", name := "query", desc := "(I)I" } : Jvm.MethodName) prog_1_method_24_code (6 : Nat) (Option.some Jvm.ClassFile.FieldType.int)) ∈ lw_all := lw_g (lw_at lw_m7 181 rfl) rfl
theorem q1794 : (Jvm.Cond.methodLink "PeerSearch" (256 : Nat) ({ cls := "PeerSearch", name := "areAsked", desc := "()Z" } : Jvm.MethodName)) ∈ lw_all := lw_g (lw_at lw_m7 182 rfl) rfl
theorem q1795 : (Jvm.Cond.privateMethod ({ cls := "PeerSearch", name := "areAsked", desc := "()Z" } : Jvm.MethodName)) ∈ lw_tbl := lw_at lw_m7 183 rfl
theorem q1796 : (Jvm.Cond.instanceMethod ({ cls := "PeerSearch", name := "areAsked", desc := "()Z" } : Jvm.MethodName)) ∈ lw_all := lw_g (lw_at lw_m7 184 rfl) rfl
theorem q1797 : (Jvm.Cond.code ({ cls := "PeerSearch", name := "areAsked", desc := "()Z" } : Jvm.MethodName) prog_1_method_23_code (1 : Nat) (Option.some Jvm.ClassFile.FieldType.boolean)) ∈ lw_all := lw_g (lw_at lw_m7 185 rfl) rfl
theorem q1798 : (Jvm.Cond.methodLink "PeerSearch" (260 : Nat) ({ cls := "PeerSearch$Work", name := "asking", desc := "()LPeerSearch$Asking;" } : Jvm.MethodName)) ∈ lw_all := lw_g (lw_at lw_m7 186 rfl) rfl
theorem q1870 : (Jvm.Cond.methodLink "PeerSearch" (264 : Nat) ({ cls := "PeerSearch$Asking", name := "clear", desc := "()V" } : Jvm.MethodName)) ∈ lw_all := lw_g (lw_at lw_m8 18 rfl) rfl
theorem q1874 : (Jvm.Cond.methodLink "PeerSearch" (275 : Nat) ({ cls := "PeerSearch$Asking", name := "add", desc := "(LPeerSearch$Key;)V" } : Jvm.MethodName)) ∈ lw_all := lw_g (lw_at lw_m8 22 rfl) rfl
theorem q1879 : (Jvm.Cond.instanceMethod ({ cls := "PeerSearch", name := "forge", desc := "(II)Z" } : Jvm.MethodName)) ∈ lw_all := lw_g (lw_at lw_m8 27 rfl) rfl
theorem q1880 : (Jvm.Cond.selects "PeerSearch" ({ cls := "PeerSearch", name := "forge", desc := "(II)Z" } : Jvm.MethodName) ({ cls := "PeerSearch", name := "forge", desc := "(II)Z" } : Jvm.MethodName)) ∈ lw_all := lw_g (lw_at lw_m8 28 rfl) rfl
theorem q1881 : (Jvm.Cond.code ({ cls := "PeerSearch", name := "forge", desc := "(II)Z" } : Jvm.MethodName) prog_1_method_25_code (5 : Nat) (Option.some Jvm.ClassFile.FieldType.boolean)) ∈ lw_all := lw_g (lw_at lw_m8 29 rfl) rfl
theorem q1882 : (Jvm.Cond.methodLink "PeerSearch" (284 : Nat) ({ cls := "PeerSearch$Net", name := "force", desc := "(IILPeerSearch$Packet;)Z" } : Jvm.MethodName)) ∈ lw_all := lw_g (lw_at lw_m8 30 rfl) rfl
theorem q1887 : (Jvm.Cond.instanceMethod ({ cls := "PeerSearch", name := "run", desc := "(I)I" } : Jvm.MethodName)) ∈ lw_all := lw_g (lw_at lw_m8 35 rfl) rfl
theorem q1888 : (Jvm.Cond.selects "PeerSearch" ({ cls := "PeerSearch", name := "run", desc := "(I)I" } : Jvm.MethodName) ({ cls := "PeerSearch", name := "run", desc := "(I)I" } : Jvm.MethodName)) ∈ lw_all := lw_g (lw_at lw_m8 36 rfl) rfl
theorem q1889 : (Jvm.Cond.code ({ cls := "PeerSearch", name := "run", desc := "(I)I" } : Jvm.MethodName) prog_1_method_28_code (4 : Nat) (Option.some Jvm.ClassFile.FieldType.int)) ∈ lw_all := lw_g (lw_at lw_m8 37 rfl) rfl
theorem q1890 : (Jvm.Cond.methodLink "PeerSearch" (336 : Nat) ({ cls := "PeerSearch", name := "tick", desc := "()I" } : Jvm.MethodName)) ∈ lw_all := lw_g (lw_at lw_m8 38 rfl) rfl
theorem q1891 : (Jvm.Cond.privateMethod ({ cls := "PeerSearch", name := "tick", desc := "()I" } : Jvm.MethodName)) ∈ lw_tbl := lw_at lw_m8 39 rfl
theorem q1892 : (Jvm.Cond.instanceMethod ({ cls := "PeerSearch", name := "tick", desc := "()I" } : Jvm.MethodName)) ∈ lw_all := lw_g (lw_at lw_m8 40 rfl) rfl
theorem q1893 : (Jvm.Cond.code ({ cls := "PeerSearch", name := "tick", desc := "()I" } : Jvm.MethodName) prog_1_method_27_code (3 : Nat) (Option.some Jvm.ClassFile.FieldType.int)) ∈ lw_all := lw_g (lw_at lw_m8 41 rfl) rfl
theorem q1894 : (Jvm.Cond.methodLink "PeerSearch" (314 : Nat) ({ cls := "PeerSearch$Net", name := "isDue", desc := "()Z" } : Jvm.MethodName)) ∈ lw_all := lw_g (lw_at lw_m8 42 rfl) rfl
theorem q1898 : (Jvm.Cond.methodLink "PeerSearch" (317 : Nat) ({ cls := "PeerSearch$Net", name := "take", desc := "()LPeerSearch$Datagram;" } : Jvm.MethodName)) ∈ lw_all := lw_g (lw_at lw_m8 46 rfl) rfl
theorem q1902 : (Jvm.Cond.methodLink "PeerSearch" (330 : Nat) ({ cls := "PeerSearch$Peer", name := "deliver", desc := "(ILPeerSearch$Packet;)V" } : Jvm.MethodName)) ∈ lw_all := lw_g (lw_at lw_m8 50 rfl) rfl
theorem q1975 : (Jvm.Cond.methodLink "PeerSearch" (333 : Nat) ({ cls := "PeerSearch", name := "works", desc := "(LPeerSearch$Peer;)V" } : Jvm.MethodName)) ∈ lw_all := lw_g (lw_at lw_m8 123 rfl) rfl
theorem q1976 : (Jvm.Cond.privateMethod ({ cls := "PeerSearch", name := "works", desc := "(LPeerSearch$Peer;)V" } : Jvm.MethodName)) ∈ lw_tbl := lw_at lw_m8 124 rfl
theorem q1977 : (Jvm.Cond.instanceMethod ({ cls := "PeerSearch", name := "works", desc := "(LPeerSearch$Peer;)V" } : Jvm.MethodName)) ∈ lw_all := lw_g (lw_at lw_m8 125 rfl) rfl
theorem q1978 : (Jvm.Cond.code ({ cls := "PeerSearch", name := "works", desc := "(LPeerSearch$Peer;)V" } : Jvm.MethodName) prog_1_method_26_code (4 : Nat) (Option.none : Option Jvm.ClassFile.FieldType)) ∈ lw_all := lw_g (lw_at lw_m8 126 rfl) rfl
theorem q1979 : (Jvm.Cond.methodLink "PeerSearch" (288 : Nat) ({ cls := "PeerSearch$Peer", name := "runOut", desc := "()V" } : Jvm.MethodName)) ∈ lw_all := lw_g (lw_at lw_m8 127 rfl) rfl
theorem q2001 : (Jvm.Cond.methodLink "PeerSearch" (298 : Nat) ({ cls := "PeerSearch$Store", name := "expire", desc := "(I)V" } : Jvm.MethodName)) ∈ lw_all := lw_g (lw_at lw_m8 149 rfl) rfl
theorem q2005 : (Jvm.Cond.methodLink "PeerSearch" (303 : Nat) ({ cls := "PeerSearch$Net", name := "setting", desc := "(I)I" } : Jvm.MethodName)) ∈ lw_all := lw_g (lw_at lw_m8 153 rfl) rfl
theorem q2007 : (Jvm.Cond.instanceMethod ({ cls := "PeerSearch", name := "rest", desc := "(I)I" } : Jvm.MethodName)) ∈ lw_all := lw_g (lw_at lw_m8 155 rfl) rfl
theorem q2008 : (Jvm.Cond.selects "PeerSearch" ({ cls := "PeerSearch", name := "rest", desc := "(I)I" } : Jvm.MethodName) ({ cls := "PeerSearch", name := "rest", desc := "(I)I" } : Jvm.MethodName)) ∈ lw_all := lw_g (lw_at lw_m8 156 rfl) rfl
theorem q2009 : (Jvm.Cond.code ({ cls := "PeerSearch", name := "rest", desc := "(I)I" } : Jvm.MethodName) prog_1_method_31_code (4 : Nat) (Option.some Jvm.ClassFile.FieldType.int)) ∈ lw_all := lw_g (lw_at lw_m8 157 rfl) rfl
theorem q2010 : (Jvm.Cond.methodLink "PeerSearch" (343 : Nat) ({ cls := "PeerSearch", name := "isBusy", desc := "()Z" } : Jvm.MethodName)) ∈ lw_all := lw_g (lw_at lw_m8 158 rfl) rfl
theorem q2011 : (Jvm.Cond.privateMethod ({ cls := "PeerSearch", name := "isBusy", desc := "()Z" } : Jvm.MethodName)) ∈ lw_tbl := lw_at lw_m8 159 rfl
theorem q2012 : (Jvm.Cond.instanceMethod ({ cls := "PeerSearch", name := "isBusy", desc := "()Z" } : Jvm.MethodName)) ∈ lw_all := lw_g (lw_at lw_m8 160 rfl) rfl
theorem q2013 : (Jvm.Cond.code ({ cls := "PeerSearch", name := "isBusy", desc := "()Z" } : Jvm.MethodName) prog_1_method_30_code (3 : Nat) (Option.some Jvm.ClassFile.FieldType.boolean)) ∈ lw_all := lw_g (lw_at lw_m8 161 rfl) rfl
theorem q2014 : (Jvm.Cond.methodLink "PeerSearch" (340 : Nat) ({ cls := "PeerSearch", name := "going", desc := "()I" } : Jvm.MethodName)) ∈ lw_all := lw_g (lw_at lw_m8 162 rfl) rfl
theorem q2015 : (Jvm.Cond.privateMethod ({ cls := "PeerSearch", name := "going", desc := "()I" } : Jvm.MethodName)) ∈ lw_tbl := lw_at lw_m8 163 rfl
theorem q2016 : (Jvm.Cond.instanceMethod ({ cls := "PeerSearch", name := "going", desc := "()I" } : Jvm.MethodName)) ∈ lw_all := lw_g (lw_at lw_m8 164 rfl) rfl
theorem q2017 : (Jvm.Cond.code ({ cls := "PeerSearch", name := "going", desc := "()I" } : Jvm.MethodName) prog_1_method_29_code (3 : Nat) (Option.some Jvm.ClassFile.FieldType.int)) ∈ lw_all := lw_g (lw_at lw_m8 165 rfl) rfl
theorem q2019 : (Jvm.Cond.instanceMethod ({ cls := "PeerSearch", name := "task", desc := "(II)I" } : Jvm.MethodName)) ∈ lw_all := lw_g (lw_at lw_m8 167 rfl) rfl
theorem q2020 : (Jvm.Cond.selects "PeerSearch" ({ cls := "PeerSearch", name := "task", desc := "(II)I" } : Jvm.MethodName) ({ cls := "PeerSearch", name := "task", desc := "(II)I" } : Jvm.MethodName)) ∈ lw_all := lw_g (lw_at lw_m8 168 rfl) rfl
theorem q2021 : (Jvm.Cond.code ({ cls := "PeerSearch", name := "task", desc := "(II)I" } : Jvm.MethodName) prog_1_method_33_code (4 : Nat) (Option.some Jvm.ClassFile.FieldType.int)) ∈ lw_all := lw_g (lw_at lw_m8 169 rfl) rfl
theorem q2022 : (Jvm.Cond.methodLink "PeerSearch" (346 : Nat) ({ cls := "PeerSearch", name := "isTask", desc := "(I)Z" } : Jvm.MethodName)) ∈ lw_all := lw_g (lw_at lw_m8 170 rfl) rfl
theorem q2023 : (Jvm.Cond.privateMethod ({ cls := "PeerSearch", name := "isTask", desc := "(I)Z" } : Jvm.MethodName)) ∈ lw_tbl := lw_at lw_m8 171 rfl
theorem q2024 : (Jvm.Cond.instanceMethod ({ cls := "PeerSearch", name := "isTask", desc := "(I)Z" } : Jvm.MethodName)) ∈ lw_all := lw_g (lw_at lw_m8 172 rfl) rfl
theorem q2025 : (Jvm.Cond.code ({ cls := "PeerSearch", name := "isTask", desc := "(I)Z" } : Jvm.MethodName) prog_1_method_32_code (2 : Nat) (Option.some Jvm.ClassFile.FieldType.boolean)) ∈ lw_all := lw_g (lw_at lw_m8 173 rfl) rfl
theorem q2027 : (Jvm.Cond.instanceMethod ({ cls := "PeerSearch", name := "found", desc := "(III)I" } : Jvm.MethodName)) ∈ lw_all := lw_g (lw_at lw_m8 175 rfl) rfl
theorem q2028 : (Jvm.Cond.selects "PeerSearch" ({ cls := "PeerSearch", name := "found", desc := "(III)I" } : Jvm.MethodName) ({ cls := "PeerSearch", name := "found", desc := "(III)I" } : Jvm.MethodName)) ∈ lw_all := lw_g (lw_at lw_m8 176 rfl) rfl
theorem q2029 : (Jvm.Cond.code ({ cls := "PeerSearch", name := "found", desc := "(III)I" } : Jvm.MethodName) prog_1_method_34_code (4 : Nat) (Option.some Jvm.ClassFile.FieldType.int)) ∈ lw_all := lw_g (lw_at lw_m8 177 rfl) rfl
theorem q2030 : (Jvm.Cond.methodLink "PeerSearch" (359 : Nat) ({ cls := "PeerSearch$Task", name := "found", desc := "(II)I" } : Jvm.MethodName)) ∈ lw_all := lw_g (lw_at lw_m8 178 rfl) rfl
theorem q2035 : (Jvm.Cond.instanceMethod ({ cls := "PeerSearch", name := "count", desc := "(II)I" } : Jvm.MethodName)) ∈ lw_all := lw_g (lw_at lw_m8 183 rfl) rfl
theorem q2036 : (Jvm.Cond.selects "PeerSearch" ({ cls := "PeerSearch", name := "count", desc := "(II)I" } : Jvm.MethodName) ({ cls := "PeerSearch", name := "count", desc := "(II)I" } : Jvm.MethodName)) ∈ lw_all := lw_g (lw_at lw_m8 184 rfl) rfl
theorem q2037 : (Jvm.Cond.code ({ cls := "PeerSearch", name := "count", desc := "(II)I" } : Jvm.MethodName) prog_1_method_35_code (4 : Nat) (Option.some Jvm.ClassFile.FieldType.int)) ∈ lw_all := lw_g (lw_at lw_m8 185 rfl) rfl
theorem q2038 : (Jvm.Cond.methodLink "PeerSearch" (362 : Nat) ({ cls := "PeerSearch$Table", name := "size", desc := "(Z)I" } : Jvm.MethodName)) ∈ lw_all := lw_g (lw_at lw_m8 186 rfl) rfl
theorem q2043 : (Jvm.Cond.instanceMethod ({ cls := "PeerSearch", name := "contact", desc := "(IZII)I" } : Jvm.MethodName)) ∈ lw_all := lw_g (lw_at lw_m8 191 rfl) rfl
theorem q2044 : (Jvm.Cond.selects "PeerSearch" ({ cls := "PeerSearch", name := "contact", desc := "(IZII)I" } : Jvm.MethodName) ({ cls := "PeerSearch", name := "contact", desc := "(IZII)I" } : Jvm.MethodName)) ∈ lw_all := lw_g (lw_at lw_m8 192 rfl) rfl
theorem q2045 : (Jvm.Cond.code ({ cls := "PeerSearch", name := "contact", desc := "(IZII)I" } : Jvm.MethodName) prog_1_method_36_code (7 : Nat) (Option.some Jvm.ClassFile.FieldType.int)) ∈ lw_all := lw_g (lw_at lw_m8 193 rfl) rfl
theorem q2046 : (Jvm.Cond.methodLink "PeerSearch" (388 : Nat) ({ cls := "PeerSearch$Key", name := "common", desc := "(LPeerSearch$Key;)I" } : Jvm.MethodName)) ∈ lw_all := lw_g (lw_at lw_m8 194 rfl) rfl
theorem q2048 : (Jvm.Cond.instanceMethod ({ cls := "PeerSearch", name := "posting", desc := "(III)I" } : Jvm.MethodName)) ∈ lw_all := lw_g (lw_at lw_m8 196 rfl) rfl
theorem q2049 : (Jvm.Cond.selects "PeerSearch" ({ cls := "PeerSearch", name := "posting", desc := "(III)I" } : Jvm.MethodName) ({ cls := "PeerSearch", name := "posting", desc := "(III)I" } : Jvm.MethodName)) ∈ lw_all := lw_g (lw_at lw_m8 197 rfl) rfl
theorem q2050 : (Jvm.Cond.code ({ cls := "PeerSearch", name := "posting", desc := "(III)I" } : Jvm.MethodName) prog_1_method_37_code (5 : Nat) (Option.some Jvm.ClassFile.FieldType.int)) ∈ lw_all := lw_g (lw_at lw_m8 198 rfl) rfl
theorem q2052 : (Jvm.Cond.instanceMethod ({ cls := "PeerSearch", name := "flight", desc := "(II)I" } : Jvm.MethodName)) ∈ lw_all := lw_g (lw_at lw_m8 200 rfl) rfl
theorem q2053 : (Jvm.Cond.selects "PeerSearch" ({ cls := "PeerSearch", name := "flight", desc := "(II)I" } : Jvm.MethodName) ({ cls := "PeerSearch", name := "flight", desc := "(II)I" } : Jvm.MethodName)) ∈ lw_all := lw_g (lw_at lw_m8 201 rfl) rfl
theorem q2054 : (Jvm.Cond.code ({ cls := "PeerSearch", name := "flight", desc := "(II)I" } : Jvm.MethodName) prog_1_method_38_code (4 : Nat) (Option.some Jvm.ClassFile.FieldType.int)) ∈ lw_all := lw_g (lw_at lw_m8 202 rfl) rfl
theorem q2055 : (Jvm.Cond.methodLink "PeerSearch" (420 : Nat) ({ cls := "PeerSearch$Packet", name := "get", desc := "(II)I" } : Jvm.MethodName)) ∈ lw_all := lw_g (lw_at lw_m8 203 rfl) rfl
theorem q2057 : (Jvm.Cond.instanceMethod ({ cls := "PeerSearch", name := "look", desc := "(I)I" } : Jvm.MethodName)) ∈ lw_all := lw_g (lw_at lw_m8 205 rfl) rfl
theorem q2058 : (Jvm.Cond.selects "PeerSearch" ({ cls := "PeerSearch", name := "look", desc := "(I)I" } : Jvm.MethodName) ({ cls := "PeerSearch", name := "look", desc := "(I)I" } : Jvm.MethodName)) ∈ lw_all := lw_g (lw_at lw_m8 206 rfl) rfl
theorem q2059 : (Jvm.Cond.code ({ cls := "PeerSearch", name := "look", desc := "(I)I" } : Jvm.MethodName) prog_1_method_39_code (2 : Nat) (Option.some Jvm.ClassFile.FieldType.int)) ∈ lw_all := lw_g (lw_at lw_m8 207 rfl) rfl
theorem q2061 : (Jvm.Cond.instanceMethod ({ cls := "PeerSearch", name := "stable", desc := "()Z" } : Jvm.MethodName)) ∈ lw_all := lw_g (lw_at lw_m8 209 rfl) rfl
theorem q2062 : (Jvm.Cond.selects "PeerSearch" ({ cls := "PeerSearch", name := "stable", desc := "()Z" } : Jvm.MethodName) ({ cls := "PeerSearch", name := "stable", desc := "()Z" } : Jvm.MethodName)) ∈ lw_all := lw_g (lw_at lw_m8 210 rfl) rfl
theorem q2063 : (Jvm.Cond.code ({ cls := "PeerSearch", name := "stable", desc := "()Z" } : Jvm.MethodName) prog_1_method_43_code (2 : Nat) (Option.some Jvm.ClassFile.FieldType.boolean)) ∈ lw_all := lw_g (lw_at lw_m8 211 rfl) rfl
theorem q2064 : (Jvm.Cond.methodLink "PeerSearch" (440 : Nat) ({ cls := "PeerSearch", name := "isSound", desc := "(LPeerSearch$Peer;)Z" } : Jvm.MethodName)) ∈ lw_all := lw_g (lw_at lw_m8 212 rfl) rfl
theorem q2065 : (Jvm.Cond.privateMethod ({ cls := "PeerSearch", name := "isSound", desc := "(LPeerSearch$Peer;)Z" } : Jvm.MethodName)) ∈ lw_tbl := lw_at lw_m8 213 rfl
theorem q2066 : (Jvm.Cond.instanceMethod ({ cls := "PeerSearch", name := "isSound", desc := "(LPeerSearch$Peer;)Z" } : Jvm.MethodName)) ∈ lw_all := lw_g (lw_at lw_m8 214 rfl) rfl
theorem q2067 : (Jvm.Cond.code ({ cls := "PeerSearch", name := "isSound", desc := "(LPeerSearch$Peer;)Z" } : Jvm.MethodName) prog_1_method_42_code (3 : Nat) (Option.some Jvm.ClassFile.FieldType.boolean)) ∈ lw_all := lw_g (lw_at lw_m8 215 rfl) rfl
theorem q2068 : (Jvm.Cond.methodLink "PeerSearch" (430 : Nat) ({ cls := "PeerSearch", name := "areTrue", desc := "(LPeerSearch$Peer;Z)Z" } : Jvm.MethodName)) ∈ lw_all := lw_g (lw_at lw_m8 216 rfl) rfl
theorem q2069 : (Jvm.Cond.privateMethod ({ cls := "PeerSearch", name := "areTrue", desc := "(LPeerSearch$Peer;Z)Z" } : Jvm.MethodName)) ∈ lw_tbl := lw_at lw_m8 217 rfl
theorem q2070 : (Jvm.Cond.instanceMethod ({ cls := "PeerSearch", name := "areTrue", desc := "(LPeerSearch$Peer;Z)Z" } : Jvm.MethodName)) ∈ lw_all := lw_g (lw_at lw_m8 218 rfl) rfl
theorem q2071 : (Jvm.Cond.code ({ cls := "PeerSearch", name := "areTrue", desc := "(LPeerSearch$Peer;Z)Z" } : Jvm.MethodName) prog_1_method_41_code (4 : Nat) (Option.some Jvm.ClassFile.FieldType.boolean)) ∈ lw_all := lw_g (lw_at lw_m8 219 rfl) rfl
theorem q2072 : (Jvm.Cond.methodLink "PeerSearch" (426 : Nat) ({ cls := "PeerSearch", name := "isTrue", desc := "(LPeerSearch$Contact;)Z" } : Jvm.MethodName)) ∈ lw_all := lw_g (lw_at lw_m8 220 rfl) rfl
theorem q2073 : (Jvm.Cond.privateMethod ({ cls := "PeerSearch", name := "isTrue", desc := "(LPeerSearch$Contact;)Z" } : Jvm.MethodName)) ∈ lw_tbl := lw_at lw_m8 221 rfl
theorem q2074 : (Jvm.Cond.instanceMethod ({ cls := "PeerSearch", name := "isTrue", desc := "(LPeerSearch$Contact;)Z" } : Jvm.MethodName)) ∈ lw_all := lw_g (lw_at lw_m8 222 rfl) rfl
theorem q2075 : (Jvm.Cond.code ({ cls := "PeerSearch", name := "isTrue", desc := "(LPeerSearch$Contact;)Z" } : Jvm.MethodName) prog_1_method_40_code (2 : Nat) (Option.some Jvm.ClassFile.FieldType.boolean)) ∈ lw_all := lw_g (lw_at lw_m8 223 rfl) rfl
theorem q2076 : (Jvm.Cond.methodLink "PeerSearch" (437 : Nat) ({ cls := "PeerSearch$Table", name := "hasAt", desc := "(I)Z" } : Jvm.MethodName)) ∈ lw_all := lw_g (lw_at lw_m8 224 rfl) rfl
theorem q2081 : (Jvm.Cond.instanceMethod ({ cls := "PeerSearch", name := "nearest", desc := "(I)I" } : Jvm.MethodName)) ∈ lw_all := lw_g (lw_at lw_m8 229 rfl) rfl
theorem q2082 : (Jvm.Cond.selects "PeerSearch" ({ cls := "PeerSearch", name := "nearest", desc := "(I)I" } : Jvm.MethodName) ({ cls := "PeerSearch", name := "nearest", desc := "(I)I" } : Jvm.MethodName)) ∈ lw_all := lw_g (lw_at lw_m8 230 rfl) rfl
theorem q2083 : (Jvm.Cond.code ({ cls := "PeerSearch", name := "nearest", desc := "(I)I" } : Jvm.MethodName) prog_1_method_44_code (5 : Nat) (Option.some Jvm.ClassFile.FieldType.int)) ∈ lw_all := lw_g (lw_at lw_m8 231 rfl) rfl
theorem q2084 : (Jvm.Cond.methodLink "PeerSearch" (444 : Nat) ({ cls := "PeerSearch$Key", name := "isNearer", desc := "(LPeerSearch$Key;LPeerSearch$Key;)Z" } : Jvm.MethodName)) ∈ lw_all := lw_g (lw_at lw_m8 232 rfl) rfl
theorem q2086 : (Jvm.Cond.instanceMethod ({ cls := "PeerSearch", name := "truth", desc := "(II)I" } : Jvm.MethodName)) ∈ lw_all := lw_g (lw_at lw_m8 234 rfl) rfl
theorem q2087 : (Jvm.Cond.selects "PeerSearch" ({ cls := "PeerSearch", name := "truth", desc := "(II)I" } : Jvm.MethodName) ({ cls := "PeerSearch", name := "truth", desc := "(II)I" } : Jvm.MethodName)) ∈ lw_all := lw_g (lw_at lw_m8 235 rfl) rfl
theorem q2088 : (Jvm.Cond.code ({ cls := "PeerSearch", name := "truth", desc := "(II)I" } : Jvm.MethodName) prog_1_method_46_code (6 : Nat) (Option.some Jvm.ClassFile.FieldType.int)) ∈ lw_all := lw_g (lw_at lw_m8 236 rfl) rfl
theorem q2089 : (Jvm.Cond.methodLink "PeerSearch" (451 : Nat) ({ cls := "PeerSearch$Ranking", name := "begin", desc := "()V" } : Jvm.MethodName)) ∈ lw_all := lw_g (lw_at lw_m8 237 rfl) rfl
theorem q2090 : (Jvm.Cond.methodLink "PeerSearch" (453 : Nat) ({ cls := "PeerSearch", name := "scoreOf", desc := "(LPeerSearch$Peer;I)I" } : Jvm.MethodName)) ∈ lw_all := lw_g (lw_at lw_m8 238 rfl) rfl
theorem q2091 : (Jvm.Cond.privateMethod ({ cls := "PeerSearch", name := "scoreOf", desc := "(LPeerSearch$Peer;I)I" } : Jvm.MethodName)) ∈ lw_tbl := lw_at lw_m8 239 rfl
theorem q2092 : (Jvm.Cond.instanceMethod ({ cls := "PeerSearch", name := "scoreOf", desc := "(LPeerSearch$Peer;I)I" } : Jvm.MethodName)) ∈ lw_all := lw_g (lw_at lw_m9 0 rfl) rfl
theorem q2093 : (Jvm.Cond.code ({ cls := "PeerSearch", name := "scoreOf", desc := "(LPeerSearch$Peer;I)I" } : Jvm.MethodName) prog_1_method_45_code (6 : Nat) (Option.some Jvm.ClassFile.FieldType.int)) ∈ lw_all := lw_g (lw_at lw_m9 1 rfl) rfl
theorem q2094 : (Jvm.Cond.methodLink "PeerSearch" (448 : Nat) ({ cls := "PeerSearch$Library", name := "weight", desc := "(LPeerSearch$Cutter;II)I" } : Jvm.MethodName)) ∈ lw_all := lw_g (lw_at lw_m9 2 rfl) rfl
theorem q2098 : (Jvm.Cond.methodLink "PeerSearch" (457 : Nat) ({ cls := "PeerSearch$Ranking", name := "add", desc := "(III)V" } : Jvm.MethodName)) ∈ lw_all := lw_g (lw_at lw_m9 6 rfl) rfl
theorem q2099 : (Jvm.Cond.methodLink "PeerSearch" (461 : Nat) ({ cls := "PeerSearch$Ranking", name := "told", desc := "(II)I" } : Jvm.MethodName)) ∈ lw_all := lw_g (lw_at lw_m9 7 rfl) rfl
theorem in_X1 : ∀ w ∈ wsX10, w ∈ lw_all := lw_in wsX10 [623, 625, 627, 629, 631, 633, 635, 637, 639, 641, 643, 645, 647] (by decide +kernel) (by decide +kernel)
/-! PeerSearch$Cutter -/
def RX2 : String := "PeerSearch$Cutter"
def TX2 : u_T := fun k => match k with
  | 0 => ("PeerSearch$Cutter", "letters", "[B", true)
  | 1 => ("PeerSearch$Cutter", "sizes", "[I", true)
  | 2 => ("PeerSearch$Cutter", "weights", "[I", true)
  | _ => ("PeerSearch$Cutter", "many", "I", false)
def tyX2 : Nat → FieldType := fun k => match k with
  | 0 => .array .byte
  | 1 => .array .int
  | 2 => .array .int
  | _ => .int
abbrev wsX20 : List Cond := u_ws RX2 TX2 4
theorem nmX2 : ∀ a, a < 4 → ∀ b, b < 4 → a ≠ b → (TX2 a).2.1 ≠ (TX2 b).2.1 := by decide +kernel
theorem tyX2_ok : ∀ k, k < 4 → parseFieldDescriptor (TX2 k).2.2.1 = some (tyX2 k) := by decide +kernel
abbrev cX2_init : ByteArray := prog_6_method_1_code
def yX2_init : MethodName := ⟨RX2, "<init>", "()V"⟩
abbrev cX2_cut : ByteArray := prog_6_method_3_code
def yX2_cut : MethodName := ⟨RX2, "cut", "([BI)V"⟩
abbrev cX2_small : ByteArray := prog_6_method_2_code
def yX2_small : MethodName := ⟨RX2, "small", "(I)I"⟩
abbrev cX2_note : ByteArray := prog_6_method_4_code
def yX2_note : MethodName := ⟨RX2, "note", "(I)V"⟩
abbrev cX2_isSame : ByteArray := prog_6_method_5_code
def yX2_isSame : MethodName := ⟨RX2, "isSame", "(I)Z"⟩
theorem q174 : (Jvm.Cond.initialized "PeerSearch$Cutter") ∈ lw_all := lw_g (lw_at lw_m1 2 rfl) rfl
theorem q220 : (Jvm.Cond.instantiable "PeerSearch$Cutter" (4 : Nat)) ∈ lw_all := lw_g (lw_at lw_m1 48 rfl) rfl
theorem q222 : (Jvm.Cond.instanceMethod ({ cls := "PeerSearch$Cutter", name := "<init>", desc := "()V" } : Jvm.MethodName)) ∈ lw_all := lw_g (lw_at lw_m1 50 rfl) rfl
theorem q223 : (Jvm.Cond.code ({ cls := "PeerSearch$Cutter", name := "<init>", desc := "()V" } : Jvm.MethodName) prog_6_method_1_code (1 : Nat) (Option.none : Option Jvm.ClassFile.FieldType)) ∈ lw_all := lw_g (lw_at lw_m1 51 rfl) rfl
theorem q224 : (Jvm.Cond.methodLink "PeerSearch$Cutter" (3 : Nat) ({ cls := "java/lang/Object", name := "<init>", desc := "()V" } : Jvm.MethodName)) ∈ lw_all := lw_g (lw_at lw_m1 52 rfl) rfl
theorem q225 : (Jvm.Cond.fieldLink "PeerSearch$Cutter" (9 : Nat) "PeerSearch$Cutter" "letters" "[B") ∈ lw_all := lw_g (lw_at lw_m1 53 rfl) rfl
theorem q229 : (Jvm.Cond.fieldLink "PeerSearch$Cutter" (15 : Nat) "PeerSearch$Cutter" "sizes" "[I") ∈ lw_all := lw_g (lw_at lw_m1 57 rfl) rfl
theorem q233 : (Jvm.Cond.fieldLink "PeerSearch$Cutter" (19 : Nat) "PeerSearch$Cutter" "weights" "[I") ∈ lw_all := lw_g (lw_at lw_m1 61 rfl) rfl
theorem q235 : (Jvm.Cond.fieldLink "PeerSearch$Cutter" (22 : Nat) "PeerSearch$Cutter" "many" "I") ∈ lw_all := lw_g (lw_at lw_m1 63 rfl) rfl
theorem q238 : (Jvm.Cond.laysFinal "PeerSearch$Cutter" "PeerSearch$Cutter" "letters" "[B") ∈ lw_all := lw_g (lw_at lw_m1 66 rfl) rfl
theorem q239 : (Jvm.Cond.soleField "PeerSearch$Cutter" "letters") ∈ lw_all := lw_g (lw_at lw_m1 67 rfl) rfl
theorem q240 : (Jvm.Cond.laysFinal "PeerSearch$Cutter" "PeerSearch$Cutter" "sizes" "[I") ∈ lw_all := lw_g (lw_at lw_m1 68 rfl) rfl
theorem q241 : (Jvm.Cond.soleField "PeerSearch$Cutter" "sizes") ∈ lw_all := lw_g (lw_at lw_m1 69 rfl) rfl
theorem q242 : (Jvm.Cond.laysFinal "PeerSearch$Cutter" "PeerSearch$Cutter" "weights" "[I") ∈ lw_all := lw_g (lw_at lw_m1 70 rfl) rfl
theorem q243 : (Jvm.Cond.soleField "PeerSearch$Cutter" "weights") ∈ lw_all := lw_g (lw_at lw_m1 71 rfl) rfl
theorem q244 : (Jvm.Cond.lays "PeerSearch$Cutter" "PeerSearch$Cutter" "many" "I") ∈ lw_all := lw_g (lw_at lw_m1 72 rfl) rfl
theorem q245 : (Jvm.Cond.soleField "PeerSearch$Cutter" "many") ∈ lw_all := lw_g (lw_at lw_m1 73 rfl) rfl
theorem q246 : (Jvm.Cond.superclass "PeerSearch$Cutter" "java/lang/Object") ∈ lw_all := lw_g (lw_at lw_m1 74 rfl) rfl
theorem q1691 : (Jvm.Cond.instanceMethod ({ cls := "PeerSearch$Cutter", name := "cut", desc := "([BI)V" } : Jvm.MethodName)) ∈ lw_all := lw_g (lw_at lw_m7 79 rfl) rfl
theorem q1692 : (Jvm.Cond.selects "PeerSearch$Cutter" ({ cls := "PeerSearch$Cutter", name := "cut", desc := "([BI)V" } : Jvm.MethodName) ({ cls := "PeerSearch$Cutter", name := "cut", desc := "([BI)V" } : Jvm.MethodName)) ∈ lw_all := lw_g (lw_at lw_m7 80 rfl) rfl
theorem q1693 : (Jvm.Cond.code ({ cls := "PeerSearch$Cutter", name := "cut", desc := "([BI)V" } : Jvm.MethodName) prog_6_method_3_code (5 : Nat) (Option.none : Option Jvm.ClassFile.FieldType)) ∈ lw_all := lw_g (lw_at lw_m7 81 rfl) rfl
theorem q1694 : (Jvm.Cond.methodLink "PeerSearch$Cutter" (26 : Nat) ({ cls := "PeerSearch$Cutter", name := "small", desc := "(I)I" } : Jvm.MethodName)) ∈ lw_all := lw_g (lw_at lw_m7 82 rfl) rfl
theorem q1695 : (Jvm.Cond.static ({ cls := "PeerSearch$Cutter", name := "small", desc := "(I)I" } : Jvm.MethodName)) ∈ lw_all := lw_g (lw_at lw_m7 83 rfl) rfl
theorem q1696 : (Jvm.Cond.code ({ cls := "PeerSearch$Cutter", name := "small", desc := "(I)I" } : Jvm.MethodName) prog_6_method_2_code (1 : Nat) (Option.some Jvm.ClassFile.FieldType.int)) ∈ lw_all := lw_g (lw_at lw_m7 84 rfl) rfl
theorem q1697 : (Jvm.Cond.methodLink "PeerSearch$Cutter" (30 : Nat) ({ cls := "PeerSearch$Cutter", name := "note", desc := "(I)V" } : Jvm.MethodName)) ∈ lw_all := lw_g (lw_at lw_m7 85 rfl) rfl
theorem q1698 : (Jvm.Cond.privateMethod ({ cls := "PeerSearch$Cutter", name := "note", desc := "(I)V" } : Jvm.MethodName)) ∈ lw_tbl := lw_at lw_m7 86 rfl
theorem q1699 : (Jvm.Cond.instanceMethod ({ cls := "PeerSearch$Cutter", name := "note", desc := "(I)V" } : Jvm.MethodName)) ∈ lw_all := lw_g (lw_at lw_m7 87 rfl) rfl
theorem q1700 : (Jvm.Cond.code ({ cls := "PeerSearch$Cutter", name := "note", desc := "(I)V" } : Jvm.MethodName) prog_6_method_4_code (3 : Nat) (Option.none : Option Jvm.ClassFile.FieldType)) ∈ lw_all := lw_g (lw_at lw_m7 88 rfl) rfl
theorem q1701 : (Jvm.Cond.methodLink "PeerSearch$Cutter" (34 : Nat) ({ cls := "PeerSearch$Cutter", name := "isSame", desc := "(I)Z" } : Jvm.MethodName)) ∈ lw_all := lw_g (lw_at lw_m7 89 rfl) rfl
theorem q1702 : (Jvm.Cond.privateMethod ({ cls := "PeerSearch$Cutter", name := "isSame", desc := "(I)Z" } : Jvm.MethodName)) ∈ lw_tbl := lw_at lw_m7 90 rfl
theorem q1703 : (Jvm.Cond.instanceMethod ({ cls := "PeerSearch$Cutter", name := "isSame", desc := "(I)Z" } : Jvm.MethodName)) ∈ lw_all := lw_g (lw_at lw_m7 91 rfl) rfl
theorem q1704 : (Jvm.Cond.code ({ cls := "PeerSearch$Cutter", name := "isSame", desc := "(I)Z" } : Jvm.MethodName) prog_6_method_5_code (3 : Nat) (Option.some Jvm.ClassFile.FieldType.boolean)) ∈ lw_all := lw_g (lw_at lw_m7 92 rfl) rfl
theorem q1705 : (Jvm.Cond.methodLink "PeerSearch$Cutter" (38 : Nat) ({ cls := "java/lang/Math", name := "min", desc := "(II)I" } : Jvm.MethodName)) ∈ lw_all := lw_g (lw_at lw_m7 93 rfl) rfl
theorem in_X2 : ∀ w ∈ wsX20, w ∈ lw_all := lw_in wsX20 [238, 240, 242, 244] (by decide +kernel) (by decide +kernel)
/-! PeerSearch$Key -/
def RX3 : String := "PeerSearch$Key"
def TX3 : u_T := fun k => match k with
  | _ => ("PeerSearch$Key", "words", "[I", true)
def tyX3 : Nat → FieldType := fun k => match k with
  | _ => .array .int
abbrev wsX30 : List Cond := u_ws RX3 TX3 1
theorem nmX3 : ∀ a, a < 1 → ∀ b, b < 1 → a ≠ b → (TX3 a).2.1 ≠ (TX3 b).2.1 := by decide +kernel
theorem tyX3_ok : ∀ k, k < 1 → parseFieldDescriptor (TX3 k).2.2.1 = some (tyX3 k) := by decide +kernel
abbrev cX3_init : ByteArray := prog_11_method_1_code
def yX3_init : MethodName := ⟨RX3, "<init>", "()V"⟩
abbrev cX3_is : ByteArray := prog_11_method_3_code
def yX3_is : MethodName := ⟨RX3, "is", "(LPeerSearch$Key;)Z"⟩
abbrev cX3_common : ByteArray := prog_11_method_4_code
def yX3_common : MethodName := ⟨RX3, "common", "(LPeerSearch$Key;)I"⟩
abbrev cX3_set : ByteArray := prog_11_method_2_code
def yX3_set : MethodName := ⟨RX3, "set", "(LPeerSearch$Key;)V"⟩
abbrev cX3_isNearer : ByteArray := prog_11_method_6_code
def yX3_isNearer : MethodName := ⟨RX3, "isNearer", "(LPeerSearch$Key;LPeerSearch$Key;)Z"⟩
abbrev cX3_turn : ByteArray := prog_11_method_7_code
def yX3_turn : MethodName := ⟨RX3, "turn", "(I)V"⟩
abbrev cX3_compare : ByteArray := prog_11_method_5_code
def yX3_compare : MethodName := ⟨RX3, "compare", "(LPeerSearch$Key;)I"⟩
theorem q175 : (Jvm.Cond.initialized "PeerSearch$Key") ∈ lw_all := lw_g (lw_at lw_m1 3 rfl) rfl
theorem q250 : (Jvm.Cond.instantiable "PeerSearch$Key" (1 : Nat)) ∈ lw_all := lw_g (lw_at lw_m1 78 rfl) rfl
theorem q252 : (Jvm.Cond.instanceMethod ({ cls := "PeerSearch$Key", name := "<init>", desc := "()V" } : Jvm.MethodName)) ∈ lw_all := lw_g (lw_at lw_m1 80 rfl) rfl
theorem q253 : (Jvm.Cond.code ({ cls := "PeerSearch$Key", name := "<init>", desc := "()V" } : Jvm.MethodName) prog_11_method_1_code (1 : Nat) (Option.none : Option Jvm.ClassFile.FieldType)) ∈ lw_all := lw_g (lw_at lw_m1 81 rfl) rfl
theorem q254 : (Jvm.Cond.methodLink "PeerSearch$Key" (1 : Nat) ({ cls := "java/lang/Object", name := "<init>", desc := "()V" } : Jvm.MethodName)) ∈ lw_all := lw_g (lw_at lw_m1 82 rfl) rfl
theorem q255 : (Jvm.Cond.fieldLink "PeerSearch$Key" (9 : Nat) "PeerSearch$Key" "words" "[I") ∈ lw_all := lw_g (lw_at lw_m1 83 rfl) rfl
theorem q261 : (Jvm.Cond.laysFinal "PeerSearch$Key" "PeerSearch$Key" "words" "[I") ∈ lw_all := lw_g (lw_at lw_m1 89 rfl) rfl
theorem q262 : (Jvm.Cond.soleField "PeerSearch$Key" "words") ∈ lw_all := lw_g (lw_at lw_m1 90 rfl) rfl
theorem q263 : (Jvm.Cond.superclass "PeerSearch$Key" "java/lang/Object") ∈ lw_all := lw_g (lw_at lw_m1 91 rfl) rfl
theorem q694 : (Jvm.Cond.instanceMethod ({ cls := "PeerSearch$Key", name := "is", desc := "(LPeerSearch$Key;)Z" } : Jvm.MethodName)) ∈ lw_all := lw_g (lw_at lw_m3 42 rfl) rfl
theorem q695 : (Jvm.Cond.selects "PeerSearch$Key" ({ cls := "PeerSearch$Key", name := "is", desc := "(LPeerSearch$Key;)Z" } : Jvm.MethodName) ({ cls := "PeerSearch$Key", name := "is", desc := "(LPeerSearch$Key;)Z" } : Jvm.MethodName)) ∈ lw_all := lw_g (lw_at lw_m3 43 rfl) rfl
theorem q696 : (Jvm.Cond.code ({ cls := "PeerSearch$Key", name := "is", desc := "(LPeerSearch$Key;)Z" } : Jvm.MethodName) prog_11_method_3_code (2 : Nat) (Option.some Jvm.ClassFile.FieldType.boolean)) ∈ lw_all := lw_g (lw_at lw_m3 44 rfl) rfl
theorem q697 : (Jvm.Cond.methodLink "PeerSearch$Key" (13 : Nat) ({ cls := "PeerSearch$Key", name := "common", desc := "(LPeerSearch$Key;)I" } : Jvm.MethodName)) ∈ lw_all := lw_g (lw_at lw_m3 45 rfl) rfl
theorem q698 : (Jvm.Cond.instanceMethod ({ cls := "PeerSearch$Key", name := "common", desc := "(LPeerSearch$Key;)I" } : Jvm.MethodName)) ∈ lw_all := lw_g (lw_at lw_m3 46 rfl) rfl
theorem q699 : (Jvm.Cond.selects "PeerSearch$Key" ({ cls := "PeerSearch$Key", name := "common", desc := "(LPeerSearch$Key;)I" } : Jvm.MethodName) ({ cls := "PeerSearch$Key", name := "common", desc := "(LPeerSearch$Key;)I" } : Jvm.MethodName)) ∈ lw_all := lw_g (lw_at lw_m3 47 rfl) rfl
theorem q700 : (Jvm.Cond.code ({ cls := "PeerSearch$Key", name := "common", desc := "(LPeerSearch$Key;)I" } : Jvm.MethodName) prog_11_method_4_code (4 : Nat) (Option.some Jvm.ClassFile.FieldType.int)) ∈ lw_all := lw_g (lw_at lw_m3 48 rfl) rfl
theorem q701 : (Jvm.Cond.methodLink "PeerSearch$Key" (17 : Nat) ({ cls := "java/lang/Integer", name := "numberOfLeadingZeros", desc := "(I)I" } : Jvm.MethodName)) ∈ lw_all := lw_g (lw_at lw_m3 49 rfl) rfl
theorem q762 : (Jvm.Cond.instanceMethod ({ cls := "PeerSearch$Key", name := "set", desc := "(LPeerSearch$Key;)V" } : Jvm.MethodName)) ∈ lw_all := lw_g (lw_at lw_m3 110 rfl) rfl
theorem q763 : (Jvm.Cond.selects "PeerSearch$Key" ({ cls := "PeerSearch$Key", name := "set", desc := "(LPeerSearch$Key;)V" } : Jvm.MethodName) ({ cls := "PeerSearch$Key", name := "set", desc := "(LPeerSearch$Key;)V" } : Jvm.MethodName)) ∈ lw_all := lw_g (lw_at lw_m3 111 rfl) rfl
theorem q764 : (Jvm.Cond.code ({ cls := "PeerSearch$Key", name := "set", desc := "(LPeerSearch$Key;)V" } : Jvm.MethodName) prog_11_method_2_code (3 : Nat) (Option.none : Option Jvm.ClassFile.FieldType)) ∈ lw_all := lw_g (lw_at lw_m3 112 rfl) rfl
theorem q1302 : (Jvm.Cond.instanceMethod ({ cls := "PeerSearch$Key", name := "isNearer", desc := "(LPeerSearch$Key;LPeerSearch$Key;)Z" } : Jvm.MethodName)) ∈ lw_all := lw_g (lw_at lw_m5 170 rfl) rfl
theorem q1303 : (Jvm.Cond.selects "PeerSearch$Key" ({ cls := "PeerSearch$Key", name := "isNearer", desc := "(LPeerSearch$Key;LPeerSearch$Key;)Z" } : Jvm.MethodName) ({ cls := "PeerSearch$Key", name := "isNearer", desc := "(LPeerSearch$Key;LPeerSearch$Key;)Z" } : Jvm.MethodName)) ∈ lw_all := lw_g (lw_at lw_m5 171 rfl) rfl
theorem q1304 : (Jvm.Cond.code ({ cls := "PeerSearch$Key", name := "isNearer", desc := "(LPeerSearch$Key;LPeerSearch$Key;)Z" } : Jvm.MethodName) prog_11_method_6_code (4 : Nat) (Option.some Jvm.ClassFile.FieldType.boolean)) ∈ lw_all := lw_g (lw_at lw_m5 172 rfl) rfl
theorem q1335 : (Jvm.Cond.instanceMethod ({ cls := "PeerSearch$Key", name := "turn", desc := "(I)V" } : Jvm.MethodName)) ∈ lw_all := lw_g (lw_at lw_m5 203 rfl) rfl
theorem q1336 : (Jvm.Cond.selects "PeerSearch$Key" ({ cls := "PeerSearch$Key", name := "turn", desc := "(I)V" } : Jvm.MethodName) ({ cls := "PeerSearch$Key", name := "turn", desc := "(I)V" } : Jvm.MethodName)) ∈ lw_all := lw_g (lw_at lw_m5 204 rfl) rfl
theorem q1337 : (Jvm.Cond.code ({ cls := "PeerSearch$Key", name := "turn", desc := "(I)V" } : Jvm.MethodName) prog_11_method_7_code (2 : Nat) (Option.none : Option Jvm.ClassFile.FieldType)) ∈ lw_all := lw_g (lw_at lw_m5 205 rfl) rfl
theorem q1397 : (Jvm.Cond.instanceMethod ({ cls := "PeerSearch$Key", name := "compare", desc := "(LPeerSearch$Key;)I" } : Jvm.MethodName)) ∈ lw_all := lw_g (lw_at lw_m6 25 rfl) rfl
theorem q1398 : (Jvm.Cond.selects "PeerSearch$Key" ({ cls := "PeerSearch$Key", name := "compare", desc := "(LPeerSearch$Key;)I" } : Jvm.MethodName) ({ cls := "PeerSearch$Key", name := "compare", desc := "(LPeerSearch$Key;)I" } : Jvm.MethodName)) ∈ lw_all := lw_g (lw_at lw_m6 26 rfl) rfl
theorem q1399 : (Jvm.Cond.code ({ cls := "PeerSearch$Key", name := "compare", desc := "(LPeerSearch$Key;)I" } : Jvm.MethodName) prog_11_method_5_code (3 : Nat) (Option.some Jvm.ClassFile.FieldType.int)) ∈ lw_all := lw_g (lw_at lw_m6 27 rfl) rfl
theorem q1400 : (Jvm.Cond.methodLink "PeerSearch$Key" (23 : Nat) ({ cls := "java/lang/Integer", name := "compareUnsigned", desc := "(II)I" } : Jvm.MethodName)) ∈ lw_all := lw_g (lw_at lw_m6 28 rfl) rfl
theorem in_X3 : ∀ w ∈ wsX30, w ∈ lw_all := lw_in wsX30 [261] (by decide +kernel) (by decide +kernel)
/-! PeerSearch$Packet -/
def RX4 : String := "PeerSearch$Packet"
def TX4 : u_T := fun k => match k with
  | 0 => ("PeerSearch$Packet", "bytes", "[B", true)
  | _ => ("PeerSearch$Packet", "size", "I", false)
def tyX4 : Nat → FieldType := fun k => match k with
  | 0 => .array .byte
  | _ => .int
abbrev wsX40 : List Cond := u_ws RX4 TX4 2
theorem nmX4 : ∀ a, a < 2 → ∀ b, b < 2 → a ≠ b → (TX4 a).2.1 ≠ (TX4 b).2.1 := by decide +kernel
theorem tyX4_ok : ∀ k, k < 2 → parseFieldDescriptor (TX4 k).2.2.1 = some (tyX4 k) := by decide +kernel
abbrev cX4_init : ByteArray := prog_16_method_1_code
def yX4_init : MethodName := ⟨RX4, "<init>", "()V"⟩
abbrev cX4_begin : ByteArray := prog_16_method_2_code
def yX4_begin : MethodName := ⟨RX4, "begin", "(IILPeerSearch$Key;)V"⟩
abbrev cX4_put : ByteArray := prog_16_method_3_code
def yX4_put : MethodName := ⟨RX4, "put", "(II)V"⟩
abbrev cX4_putKey : ByteArray := prog_16_method_4_code
def yX4_putKey : MethodName := ⟨RX4, "putKey", "(LPeerSearch$Key;)V"⟩
abbrev cX4_copy : ByteArray := prog_16_method_9_code
def yX4_copy : MethodName := ⟨RX4, "copy", "(LPeerSearch$Packet;)V"⟩
abbrev cX4_type : ByteArray := prog_16_method_7_code
def yX4_type : MethodName := ⟨RX4, "type", "()I"⟩
abbrev cX4_get : ByteArray := prog_16_method_5_code
def yX4_get : MethodName := ⟨RX4, "get", "(II)I"⟩
abbrev cX4_number : ByteArray := prog_16_method_8_code
def yX4_number : MethodName := ⟨RX4, "number", "()I"⟩
abbrev cX4_getKey : ByteArray := prog_16_method_6_code
def yX4_getKey : MethodName := ⟨RX4, "getKey", "(ILPeerSearch$Key;)V"⟩
abbrev cX4_isWell : ByteArray := prog_16_method_15_code
def yX4_isWell : MethodName := ⟨RX4, "isWell", "()Z"⟩
abbrev cX4_isAtLeast : ByteArray := prog_16_method_11_code
def yX4_isAtLeast : MethodName := ⟨RX4, "isAtLeast", "(I)Z"⟩
abbrev cX4_isLong : ByteArray := prog_16_method_10_code
def yX4_isLong : MethodName := ⟨RX4, "isLong", "(I)Z"⟩
abbrev cX4_areNodes : ByteArray := prog_16_method_12_code
def yX4_areNodes : MethodName := ⟨RX4, "areNodes", "(I)Z"⟩
abbrev cX4_arePostings : ByteArray := prog_16_method_13_code
def yX4_arePostings : MethodName := ⟨RX4, "arePostings", "(IIII)Z"⟩
abbrev cX4_areBits : ByteArray := prog_16_method_14_code
def yX4_areBits : MethodName := ⟨RX4, "areBits", "(I)Z"⟩
theorem q176 : (Jvm.Cond.initialized "PeerSearch$Packet") ∈ lw_all := lw_g (lw_at lw_m1 4 rfl) rfl
theorem q258 : (Jvm.Cond.fieldLinkNest "PeerSearch$Packet" (29 : Nat) "PeerSearch$Key" "words" "[I" "PeerSearch") ∈ lw_tbl := lw_at lw_m1 86 rfl
theorem q265 : (Jvm.Cond.instantiable "PeerSearch$Packet" (2 : Nat)) ∈ lw_all := lw_g (lw_at lw_m1 93 rfl) rfl
theorem q267 : (Jvm.Cond.instanceMethod ({ cls := "PeerSearch$Packet", name := "<init>", desc := "()V" } : Jvm.MethodName)) ∈ lw_all := lw_g (lw_at lw_m1 95 rfl) rfl
theorem q268 : (Jvm.Cond.code ({ cls := "PeerSearch$Packet", name := "<init>", desc := "()V" } : Jvm.MethodName) prog_16_method_1_code (1 : Nat) (Option.none : Option Jvm.ClassFile.FieldType)) ∈ lw_all := lw_g (lw_at lw_m1 96 rfl) rfl
theorem q269 : (Jvm.Cond.methodLink "PeerSearch$Packet" (3 : Nat) ({ cls := "java/lang/Object", name := "<init>", desc := "()V" } : Jvm.MethodName)) ∈ lw_all := lw_g (lw_at lw_m1 97 rfl) rfl
theorem q270 : (Jvm.Cond.fieldLink "PeerSearch$Packet" (11 : Nat) "PeerSearch$Packet" "bytes" "[B") ∈ lw_all := lw_g (lw_at lw_m1 98 rfl) rfl
theorem q274 : (Jvm.Cond.fieldLink "PeerSearch$Packet" (15 : Nat) "PeerSearch$Packet" "size" "I") ∈ lw_all := lw_g (lw_at lw_m1 102 rfl) rfl
theorem q277 : (Jvm.Cond.laysFinal "PeerSearch$Packet" "PeerSearch$Packet" "bytes" "[B") ∈ lw_all := lw_g (lw_at lw_m1 105 rfl) rfl
theorem q278 : (Jvm.Cond.soleField "PeerSearch$Packet" "bytes") ∈ lw_all := lw_g (lw_at lw_m1 106 rfl) rfl
theorem q279 : (Jvm.Cond.lays "PeerSearch$Packet" "PeerSearch$Packet" "size" "I") ∈ lw_all := lw_g (lw_at lw_m1 107 rfl) rfl
theorem q280 : (Jvm.Cond.soleField "PeerSearch$Packet" "size") ∈ lw_all := lw_g (lw_at lw_m1 108 rfl) rfl
theorem q281 : (Jvm.Cond.superclass "PeerSearch$Packet" "java/lang/Object") ∈ lw_all := lw_g (lw_at lw_m1 109 rfl) rfl
theorem q1057 : (Jvm.Cond.instanceMethod ({ cls := "PeerSearch$Packet", name := "begin", desc := "(IILPeerSearch$Key;)V" } : Jvm.MethodName)) ∈ lw_all := lw_g (lw_at lw_m4 165 rfl) rfl
theorem q1058 : (Jvm.Cond.selects "PeerSearch$Packet" ({ cls := "PeerSearch$Packet", name := "begin", desc := "(IILPeerSearch$Key;)V" } : Jvm.MethodName) ({ cls := "PeerSearch$Packet", name := "begin", desc := "(IILPeerSearch$Key;)V" } : Jvm.MethodName)) ∈ lw_all := lw_g (lw_at lw_m4 166 rfl) rfl
theorem q1059 : (Jvm.Cond.code ({ cls := "PeerSearch$Packet", name := "begin", desc := "(IILPeerSearch$Key;)V" } : Jvm.MethodName) prog_16_method_2_code (4 : Nat) (Option.none : Option Jvm.ClassFile.FieldType)) ∈ lw_all := lw_g (lw_at lw_m4 167 rfl) rfl
theorem q1060 : (Jvm.Cond.methodLink "PeerSearch$Packet" (19 : Nat) ({ cls := "PeerSearch$Packet", name := "put", desc := "(II)V" } : Jvm.MethodName)) ∈ lw_all := lw_g (lw_at lw_m4 168 rfl) rfl
theorem q1061 : (Jvm.Cond.instanceMethod ({ cls := "PeerSearch$Packet", name := "put", desc := "(II)V" } : Jvm.MethodName)) ∈ lw_all := lw_g (lw_at lw_m4 169 rfl) rfl
theorem q1062 : (Jvm.Cond.selects "PeerSearch$Packet" ({ cls := "PeerSearch$Packet", name := "put", desc := "(II)V" } : Jvm.MethodName) ({ cls := "PeerSearch$Packet", name := "put", desc := "(II)V" } : Jvm.MethodName)) ∈ lw_all := lw_g (lw_at lw_m4 170 rfl) rfl
theorem q1063 : (Jvm.Cond.code ({ cls := "PeerSearch$Packet", name := "put", desc := "(II)V" } : Jvm.MethodName) prog_16_method_3_code (4 : Nat) (Option.none : Option Jvm.ClassFile.FieldType)) ∈ lw_all := lw_g (lw_at lw_m4 171 rfl) rfl
theorem q1064 : (Jvm.Cond.methodLink "PeerSearch$Packet" (23 : Nat) ({ cls := "PeerSearch$Packet", name := "putKey", desc := "(LPeerSearch$Key;)V" } : Jvm.MethodName)) ∈ lw_all := lw_g (lw_at lw_m4 172 rfl) rfl
theorem q1065 : (Jvm.Cond.instanceMethod ({ cls := "PeerSearch$Packet", name := "putKey", desc := "(LPeerSearch$Key;)V" } : Jvm.MethodName)) ∈ lw_all := lw_g (lw_at lw_m4 173 rfl) rfl
theorem q1066 : (Jvm.Cond.selects "PeerSearch$Packet" ({ cls := "PeerSearch$Packet", name := "putKey", desc := "(LPeerSearch$Key;)V" } : Jvm.MethodName) ({ cls := "PeerSearch$Packet", name := "putKey", desc := "(LPeerSearch$Key;)V" } : Jvm.MethodName)) ∈ lw_all := lw_g (lw_at lw_m4 174 rfl) rfl
theorem q1067 : (Jvm.Cond.code ({ cls := "PeerSearch$Packet", name := "putKey", desc := "(LPeerSearch$Key;)V" } : Jvm.MethodName) prog_16_method_4_code (3 : Nat) (Option.none : Option Jvm.ClassFile.FieldType)) ∈ lw_all := lw_g (lw_at lw_m4 175 rfl) rfl
theorem q1118 : (Jvm.Cond.instanceMethod ({ cls := "PeerSearch$Packet", name := "copy", desc := "(LPeerSearch$Packet;)V" } : Jvm.MethodName)) ∈ lw_all := lw_g (lw_at lw_m4 226 rfl) rfl
theorem q1119 : (Jvm.Cond.selects "PeerSearch$Packet" ({ cls := "PeerSearch$Packet", name := "copy", desc := "(LPeerSearch$Packet;)V" } : Jvm.MethodName) ({ cls := "PeerSearch$Packet", name := "copy", desc := "(LPeerSearch$Packet;)V" } : Jvm.MethodName)) ∈ lw_all := lw_g (lw_at lw_m4 227 rfl) rfl
theorem q1120 : (Jvm.Cond.code ({ cls := "PeerSearch$Packet", name := "copy", desc := "(LPeerSearch$Packet;)V" } : Jvm.MethodName) prog_16_method_9_code (2 : Nat) (Option.none : Option Jvm.ClassFile.FieldType)) ∈ lw_all := lw_g (lw_at lw_m4 228 rfl) rfl
theorem q1121 : (Jvm.Cond.methodLink "PeerSearch$Packet" (37 : Nat) ({ cls := "java/lang/System", name := "arraycopy", desc := "(Ljava/lang/Object;ILjava/lang/Object;II)V" } : Jvm.MethodName)) ∈ lw_all := lw_g (lw_at lw_m4 229 rfl) rfl
theorem q1125 : (Jvm.Cond.instanceMethod ({ cls := "PeerSearch$Packet", name := "type", desc := "()I" } : Jvm.MethodName)) ∈ lw_all := lw_g (lw_at lw_m4 233 rfl) rfl
theorem q1126 : (Jvm.Cond.selects "PeerSearch$Packet" ({ cls := "PeerSearch$Packet", name := "type", desc := "()I" } : Jvm.MethodName) ({ cls := "PeerSearch$Packet", name := "type", desc := "()I" } : Jvm.MethodName)) ∈ lw_all := lw_g (lw_at lw_m4 234 rfl) rfl
theorem q1127 : (Jvm.Cond.code ({ cls := "PeerSearch$Packet", name := "type", desc := "()I" } : Jvm.MethodName) prog_16_method_7_code (1 : Nat) (Option.some Jvm.ClassFile.FieldType.int)) ∈ lw_all := lw_g (lw_at lw_m4 235 rfl) rfl
theorem q1128 : (Jvm.Cond.methodLink "PeerSearch$Packet" (33 : Nat) ({ cls := "PeerSearch$Packet", name := "get", desc := "(II)I" } : Jvm.MethodName)) ∈ lw_all := lw_g (lw_at lw_m4 236 rfl) rfl
theorem q1129 : (Jvm.Cond.instanceMethod ({ cls := "PeerSearch$Packet", name := "get", desc := "(II)I" } : Jvm.MethodName)) ∈ lw_all := lw_g (lw_at lw_m4 237 rfl) rfl
theorem q1130 : (Jvm.Cond.selects "PeerSearch$Packet" ({ cls := "PeerSearch$Packet", name := "get", desc := "(II)I" } : Jvm.MethodName) ({ cls := "PeerSearch$Packet", name := "get", desc := "(II)I" } : Jvm.MethodName)) ∈ lw_all := lw_g (lw_at lw_m4 238 rfl) rfl
theorem q1131 : (Jvm.Cond.code ({ cls := "PeerSearch$Packet", name := "get", desc := "(II)I" } : Jvm.MethodName) prog_16_method_5_code (5 : Nat) (Option.some Jvm.ClassFile.FieldType.int)) ∈ lw_all := lw_g (lw_at lw_m4 239 rfl) rfl
theorem q1468 : (Jvm.Cond.instanceMethod ({ cls := "PeerSearch$Packet", name := "number", desc := "()I" } : Jvm.MethodName)) ∈ lw_all := lw_g (lw_at lw_m6 96 rfl) rfl
theorem q1469 : (Jvm.Cond.selects "PeerSearch$Packet" ({ cls := "PeerSearch$Packet", name := "number", desc := "()I" } : Jvm.MethodName) ({ cls := "PeerSearch$Packet", name := "number", desc := "()I" } : Jvm.MethodName)) ∈ lw_all := lw_g (lw_at lw_m6 97 rfl) rfl
theorem q1470 : (Jvm.Cond.code ({ cls := "PeerSearch$Packet", name := "number", desc := "()I" } : Jvm.MethodName) prog_16_method_8_code (1 : Nat) (Option.some Jvm.ClassFile.FieldType.int)) ∈ lw_all := lw_g (lw_at lw_m6 98 rfl) rfl
theorem q1472 : (Jvm.Cond.instanceMethod ({ cls := "PeerSearch$Packet", name := "getKey", desc := "(ILPeerSearch$Key;)V" } : Jvm.MethodName)) ∈ lw_all := lw_g (lw_at lw_m6 100 rfl) rfl
theorem q1473 : (Jvm.Cond.selects "PeerSearch$Packet" ({ cls := "PeerSearch$Packet", name := "getKey", desc := "(ILPeerSearch$Key;)V" } : Jvm.MethodName) ({ cls := "PeerSearch$Packet", name := "getKey", desc := "(ILPeerSearch$Key;)V" } : Jvm.MethodName)) ∈ lw_all := lw_g (lw_at lw_m6 101 rfl) rfl
theorem q1474 : (Jvm.Cond.code ({ cls := "PeerSearch$Packet", name := "getKey", desc := "(ILPeerSearch$Key;)V" } : Jvm.MethodName) prog_16_method_6_code (4 : Nat) (Option.none : Option Jvm.ClassFile.FieldType)) ∈ lw_all := lw_g (lw_at lw_m6 102 rfl) rfl
theorem q1907 : (Jvm.Cond.instanceMethod ({ cls := "PeerSearch$Packet", name := "isWell", desc := "()Z" } : Jvm.MethodName)) ∈ lw_all := lw_g (lw_at lw_m8 55 rfl) rfl
theorem q1908 : (Jvm.Cond.selects "PeerSearch$Packet" ({ cls := "PeerSearch$Packet", name := "isWell", desc := "()Z" } : Jvm.MethodName) ({ cls := "PeerSearch$Packet", name := "isWell", desc := "()Z" } : Jvm.MethodName)) ∈ lw_all := lw_g (lw_at lw_m8 56 rfl) rfl
theorem q1909 : (Jvm.Cond.code ({ cls := "PeerSearch$Packet", name := "isWell", desc := "()Z" } : Jvm.MethodName) prog_16_method_15_code (1 : Nat) (Option.some Jvm.ClassFile.FieldType.boolean)) ∈ lw_all := lw_g (lw_at lw_m8 57 rfl) rfl
theorem q1910 : (Jvm.Cond.methodLink "PeerSearch$Packet" (43 : Nat) ({ cls := "PeerSearch$Packet", name := "isAtLeast", desc := "(I)Z" } : Jvm.MethodName)) ∈ lw_all := lw_g (lw_at lw_m8 58 rfl) rfl
theorem q1911 : (Jvm.Cond.privateMethod ({ cls := "PeerSearch$Packet", name := "isAtLeast", desc := "(I)Z" } : Jvm.MethodName)) ∈ lw_tbl := lw_at lw_m8 59 rfl
theorem q1912 : (Jvm.Cond.instanceMethod ({ cls := "PeerSearch$Packet", name := "isAtLeast", desc := "(I)Z" } : Jvm.MethodName)) ∈ lw_all := lw_g (lw_at lw_m8 60 rfl) rfl
theorem q1913 : (Jvm.Cond.code ({ cls := "PeerSearch$Packet", name := "isAtLeast", desc := "(I)Z" } : Jvm.MethodName) prog_16_method_11_code (2 : Nat) (Option.some Jvm.ClassFile.FieldType.boolean)) ∈ lw_all := lw_g (lw_at lw_m8 61 rfl) rfl
theorem q1914 : (Jvm.Cond.methodLink "PeerSearch$Packet" (50 : Nat) ({ cls := "PeerSearch$Packet", name := "type", desc := "()I" } : Jvm.MethodName)) ∈ lw_all := lw_g (lw_at lw_m8 62 rfl) rfl
theorem q1915 : (Jvm.Cond.methodLink "PeerSearch$Packet" (47 : Nat) ({ cls := "PeerSearch$Packet", name := "isLong", desc := "(I)Z" } : Jvm.MethodName)) ∈ lw_all := lw_g (lw_at lw_m8 63 rfl) rfl
theorem q1916 : (Jvm.Cond.privateMethod ({ cls := "PeerSearch$Packet", name := "isLong", desc := "(I)Z" } : Jvm.MethodName)) ∈ lw_tbl := lw_at lw_m8 64 rfl
theorem q1917 : (Jvm.Cond.instanceMethod ({ cls := "PeerSearch$Packet", name := "isLong", desc := "(I)Z" } : Jvm.MethodName)) ∈ lw_all := lw_g (lw_at lw_m8 65 rfl) rfl
theorem q1918 : (Jvm.Cond.code ({ cls := "PeerSearch$Packet", name := "isLong", desc := "(I)Z" } : Jvm.MethodName) prog_16_method_10_code (2 : Nat) (Option.some Jvm.ClassFile.FieldType.boolean)) ∈ lw_all := lw_g (lw_at lw_m8 66 rfl) rfl
theorem q1919 : (Jvm.Cond.methodLink "PeerSearch$Packet" (54 : Nat) ({ cls := "PeerSearch$Packet", name := "areNodes", desc := "(I)Z" } : Jvm.MethodName)) ∈ lw_all := lw_g (lw_at lw_m8 67 rfl) rfl
theorem q1920 : (Jvm.Cond.privateMethod ({ cls := "PeerSearch$Packet", name := "areNodes", desc := "(I)Z" } : Jvm.MethodName)) ∈ lw_tbl := lw_at lw_m8 68 rfl
theorem q1921 : (Jvm.Cond.instanceMethod ({ cls := "PeerSearch$Packet", name := "areNodes", desc := "(I)Z" } : Jvm.MethodName)) ∈ lw_all := lw_g (lw_at lw_m8 69 rfl) rfl
theorem q1922 : (Jvm.Cond.code ({ cls := "PeerSearch$Packet", name := "areNodes", desc := "(I)Z" } : Jvm.MethodName) prog_16_method_12_code (5 : Nat) (Option.some Jvm.ClassFile.FieldType.boolean)) ∈ lw_all := lw_g (lw_at lw_m8 70 rfl) rfl
theorem q1923 : (Jvm.Cond.methodLink "PeerSearch$Packet" (57 : Nat) ({ cls := "PeerSearch$Packet", name := "arePostings", desc := "(IIII)Z" } : Jvm.MethodName)) ∈ lw_all := lw_g (lw_at lw_m8 71 rfl) rfl
theorem q1924 : (Jvm.Cond.privateMethod ({ cls := "PeerSearch$Packet", name := "arePostings", desc := "(IIII)Z" } : Jvm.MethodName)) ∈ lw_tbl := lw_at lw_m8 72 rfl
theorem q1925 : (Jvm.Cond.instanceMethod ({ cls := "PeerSearch$Packet", name := "arePostings", desc := "(IIII)Z" } : Jvm.MethodName)) ∈ lw_all := lw_g (lw_at lw_m8 73 rfl) rfl
theorem q1926 : (Jvm.Cond.code ({ cls := "PeerSearch$Packet", name := "arePostings", desc := "(IIII)Z" } : Jvm.MethodName) prog_16_method_13_code (9 : Nat) (Option.some Jvm.ClassFile.FieldType.boolean)) ∈ lw_all := lw_g (lw_at lw_m8 74 rfl) rfl
theorem q1927 : (Jvm.Cond.methodLink "PeerSearch$Packet" (61 : Nat) ({ cls := "PeerSearch$Packet", name := "areBits", desc := "(I)Z" } : Jvm.MethodName)) ∈ lw_all := lw_g (lw_at lw_m8 75 rfl) rfl
theorem q1928 : (Jvm.Cond.privateMethod ({ cls := "PeerSearch$Packet", name := "areBits", desc := "(I)Z" } : Jvm.MethodName)) ∈ lw_tbl := lw_at lw_m8 76 rfl
theorem q1929 : (Jvm.Cond.instanceMethod ({ cls := "PeerSearch$Packet", name := "areBits", desc := "(I)Z" } : Jvm.MethodName)) ∈ lw_all := lw_g (lw_at lw_m8 77 rfl) rfl
theorem q1930 : (Jvm.Cond.code ({ cls := "PeerSearch$Packet", name := "areBits", desc := "(I)Z" } : Jvm.MethodName) prog_16_method_14_code (4 : Nat) (Option.some Jvm.ClassFile.FieldType.boolean)) ∈ lw_all := lw_g (lw_at lw_m8 78 rfl) rfl
theorem in_X4 : ∀ w ∈ wsX40, w ∈ lw_all := lw_in wsX40 [277, 279] (by decide +kernel) (by decide +kernel)
/-! PeerSearch$Ranking -/
def RX5 : String := "PeerSearch$Ranking"
def TX5 : u_T := fun k => match k with
  | 0 => ("PeerSearch$Ranking", "owners", "[I", true)
  | 1 => ("PeerSearch$Ranking", "documents", "[I", true)
  | 2 => ("PeerSearch$Ranking", "scores", "[I", true)
  | _ => ("PeerSearch$Ranking", "size", "I", false)
def tyX5 : Nat → FieldType := fun k => match k with
  | 0 => .array .int
  | 1 => .array .int
  | 2 => .array .int
  | _ => .int
abbrev wsX50 : List Cond := u_ws RX5 TX5 4
theorem nmX5 : ∀ a, a < 4 → ∀ b, b < 4 → a ≠ b → (TX5 a).2.1 ≠ (TX5 b).2.1 := by decide +kernel
theorem tyX5_ok : ∀ k, k < 4 → parseFieldDescriptor (TX5 k).2.2.1 = some (tyX5 k) := by decide +kernel
abbrev cX5_init : ByteArray := prog_22_method_1_code
def yX5_init : MethodName := ⟨RX5, "<init>", "(I)V"⟩
abbrev cX5_begin : ByteArray := prog_22_method_2_code
def yX5_begin : MethodName := ⟨RX5, "begin", "()V"⟩
abbrev cX5_add : ByteArray := prog_22_method_4_code
def yX5_add : MethodName := ⟨RX5, "add", "(III)V"⟩
abbrev cX5_isAhead : ByteArray := prog_22_method_3_code
def yX5_isAhead : MethodName := ⟨RX5, "isAhead", "(IIII)Z"⟩
abbrev cX5_told : ByteArray := prog_22_method_5_code
def yX5_told : MethodName := ⟨RX5, "told", "(II)I"⟩
theorem q177 : (Jvm.Cond.initialized "PeerSearch$Ranking") ∈ lw_all := lw_g (lw_at lw_m1 5 rfl) rfl
theorem q283 : (Jvm.Cond.instantiable "PeerSearch$Ranking" (4 : Nat)) ∈ lw_all := lw_g (lw_at lw_m1 111 rfl) rfl
theorem q285 : (Jvm.Cond.instanceMethod ({ cls := "PeerSearch$Ranking", name := "<init>", desc := "(I)V" } : Jvm.MethodName)) ∈ lw_all := lw_g (lw_at lw_m1 113 rfl) rfl
theorem q286 : (Jvm.Cond.code ({ cls := "PeerSearch$Ranking", name := "<init>", desc := "(I)V" } : Jvm.MethodName) prog_22_method_1_code (2 : Nat) (Option.none : Option Jvm.ClassFile.FieldType)) ∈ lw_all := lw_g (lw_at lw_m1 114 rfl) rfl
theorem q287 : (Jvm.Cond.methodLink "PeerSearch$Ranking" (1 : Nat) ({ cls := "java/lang/Object", name := "<init>", desc := "()V" } : Jvm.MethodName)) ∈ lw_all := lw_g (lw_at lw_m1 115 rfl) rfl
theorem q288 : (Jvm.Cond.fieldLink "PeerSearch$Ranking" (7 : Nat) "PeerSearch$Ranking" "owners" "[I") ∈ lw_all := lw_g (lw_at lw_m1 116 rfl) rfl
theorem q289 : (Jvm.Cond.fieldLink "PeerSearch$Ranking" (13 : Nat) "PeerSearch$Ranking" "documents" "[I") ∈ lw_all := lw_g (lw_at lw_m1 117 rfl) rfl
theorem q290 : (Jvm.Cond.fieldLink "PeerSearch$Ranking" (16 : Nat) "PeerSearch$Ranking" "scores" "[I") ∈ lw_all := lw_g (lw_at lw_m1 118 rfl) rfl
theorem q291 : (Jvm.Cond.fieldLink "PeerSearch$Ranking" (19 : Nat) "PeerSearch$Ranking" "size" "I") ∈ lw_all := lw_g (lw_at lw_m1 119 rfl) rfl
theorem q294 : (Jvm.Cond.laysFinal "PeerSearch$Ranking" "PeerSearch$Ranking" "owners" "[I") ∈ lw_all := lw_g (lw_at lw_m1 122 rfl) rfl
theorem q295 : (Jvm.Cond.soleField "PeerSearch$Ranking" "owners") ∈ lw_all := lw_g (lw_at lw_m1 123 rfl) rfl
theorem q296 : (Jvm.Cond.laysFinal "PeerSearch$Ranking" "PeerSearch$Ranking" "documents" "[I") ∈ lw_all := lw_g (lw_at lw_m1 124 rfl) rfl
theorem q297 : (Jvm.Cond.soleField "PeerSearch$Ranking" "documents") ∈ lw_all := lw_g (lw_at lw_m1 125 rfl) rfl
theorem q298 : (Jvm.Cond.laysFinal "PeerSearch$Ranking" "PeerSearch$Ranking" "scores" "[I") ∈ lw_all := lw_g (lw_at lw_m1 126 rfl) rfl
theorem q299 : (Jvm.Cond.soleField "PeerSearch$Ranking" "scores") ∈ lw_all := lw_g (lw_at lw_m1 127 rfl) rfl
theorem q300 : (Jvm.Cond.lays "PeerSearch$Ranking" "PeerSearch$Ranking" "size" "I") ∈ lw_all := lw_g (lw_at lw_m1 128 rfl) rfl
theorem q301 : (Jvm.Cond.soleField "PeerSearch$Ranking" "size") ∈ lw_all := lw_g (lw_at lw_m1 129 rfl) rfl
theorem q302 : (Jvm.Cond.superclass "PeerSearch$Ranking" "java/lang/Object") ∈ lw_all := lw_g (lw_at lw_m1 130 rfl) rfl
theorem q1417 : (Jvm.Cond.instanceMethod ({ cls := "PeerSearch$Ranking", name := "begin", desc := "()V" } : Jvm.MethodName)) ∈ lw_all := lw_g (lw_at lw_m6 45 rfl) rfl
theorem q1418 : (Jvm.Cond.selects "PeerSearch$Ranking" ({ cls := "PeerSearch$Ranking", name := "begin", desc := "()V" } : Jvm.MethodName) ({ cls := "PeerSearch$Ranking", name := "begin", desc := "()V" } : Jvm.MethodName)) ∈ lw_all := lw_g (lw_at lw_m6 46 rfl) rfl
theorem q1419 : (Jvm.Cond.code ({ cls := "PeerSearch$Ranking", name := "begin", desc := "()V" } : Jvm.MethodName) prog_22_method_2_code (1 : Nat) (Option.none : Option Jvm.ClassFile.FieldType)) ∈ lw_all := lw_g (lw_at lw_m6 47 rfl) rfl
theorem q1421 : (Jvm.Cond.instanceMethod ({ cls := "PeerSearch$Ranking", name := "add", desc := "(III)V" } : Jvm.MethodName)) ∈ lw_all := lw_g (lw_at lw_m6 49 rfl) rfl
theorem q1422 : (Jvm.Cond.selects "PeerSearch$Ranking" ({ cls := "PeerSearch$Ranking", name := "add", desc := "(III)V" } : Jvm.MethodName) ({ cls := "PeerSearch$Ranking", name := "add", desc := "(III)V" } : Jvm.MethodName)) ∈ lw_all := lw_g (lw_at lw_m6 50 rfl) rfl
theorem q1423 : (Jvm.Cond.code ({ cls := "PeerSearch$Ranking", name := "add", desc := "(III)V" } : Jvm.MethodName) prog_22_method_4_code (6 : Nat) (Option.none : Option Jvm.ClassFile.FieldType)) ∈ lw_all := lw_g (lw_at lw_m6 51 rfl) rfl
theorem q1424 : (Jvm.Cond.methodLink "PeerSearch$Ranking" (23 : Nat) ({ cls := "PeerSearch$Ranking", name := "isAhead", desc := "(IIII)Z" } : Jvm.MethodName)) ∈ lw_all := lw_g (lw_at lw_m6 52 rfl) rfl
theorem q1425 : (Jvm.Cond.privateMethod ({ cls := "PeerSearch$Ranking", name := "isAhead", desc := "(IIII)Z" } : Jvm.MethodName)) ∈ lw_tbl := lw_at lw_m6 53 rfl
theorem q1426 : (Jvm.Cond.instanceMethod ({ cls := "PeerSearch$Ranking", name := "isAhead", desc := "(IIII)Z" } : Jvm.MethodName)) ∈ lw_all := lw_g (lw_at lw_m6 54 rfl) rfl
theorem q1427 : (Jvm.Cond.code ({ cls := "PeerSearch$Ranking", name := "isAhead", desc := "(IIII)Z" } : Jvm.MethodName) prog_22_method_3_code (5 : Nat) (Option.some Jvm.ClassFile.FieldType.boolean)) ∈ lw_all := lw_g (lw_at lw_m6 55 rfl) rfl
theorem q1428 : (Jvm.Cond.methodLink "PeerSearch$Ranking" (27 : Nat) ({ cls := "java/lang/Math", name := "min", desc := "(II)I" } : Jvm.MethodName)) ∈ lw_all := lw_g (lw_at lw_m6 56 rfl) rfl
theorem q1434 : (Jvm.Cond.instanceMethod ({ cls := "PeerSearch$Ranking", name := "told", desc := "(II)I" } : Jvm.MethodName)) ∈ lw_all := lw_g (lw_at lw_m6 62 rfl) rfl
theorem q1435 : (Jvm.Cond.selects "PeerSearch$Ranking" ({ cls := "PeerSearch$Ranking", name := "told", desc := "(II)I" } : Jvm.MethodName) ({ cls := "PeerSearch$Ranking", name := "told", desc := "(II)I" } : Jvm.MethodName)) ∈ lw_all := lw_g (lw_at lw_m6 63 rfl) rfl
theorem q1436 : (Jvm.Cond.code ({ cls := "PeerSearch$Ranking", name := "told", desc := "(II)I" } : Jvm.MethodName) prog_22_method_5_code (3 : Nat) (Option.some Jvm.ClassFile.FieldType.int)) ∈ lw_all := lw_g (lw_at lw_m6 64 rfl) rfl
theorem in_X5 : ∀ w ∈ wsX50, w ∈ lw_all := lw_in wsX50 [294, 296, 298, 300] (by decide +kernel) (by decide +kernel)
/-! PeerSearch$Board -/
def RX6 : String := "PeerSearch$Board"
def TX6 : u_T := fun k => match k with
  | 0 => ("PeerSearch$Board", "most", "I", true)
  | 1 => ("PeerSearch$Board", "alpha", "I", true)
  | 2 => ("PeerSearch$Board", "net", "LPeerSearch$Net;", true)
  | 3 => ("PeerSearch$Board", "sha", "LPeerSearch$Sha;", true)
  | 4 => ("PeerSearch$Board", "pool", "LPeerSearch$Pool;", true)
  | 5 => ("PeerSearch$Board", "peers", "[LPeerSearch$Peer;", true)
  | 6 => ("PeerSearch$Board", "count", "I", false)
  | 7 => ("PeerSearch$Board", "best", "[LPeerSearch$Contact;", true)
  | 8 => ("PeerSearch$Board", "out", "LPeerSearch$Packet;", true)
  | 9 => ("PeerSearch$Board", "answer", "LPeerSearch$Packet;", true)
  | 10 => ("PeerSearch$Board", "filter", "LPeerSearch$Filter;", true)
  | 11 => ("PeerSearch$Board", "asked", "LPeerSearch$Key;", true)
  | 12 => ("PeerSearch$Board", "sender", "LPeerSearch$Key;", true)
  | 13 => ("PeerSearch$Board", "told", "LPeerSearch$Key;", true)
  | _ => ("PeerSearch$Board", "numbers", "[I", true)
def tyX6 : Nat → FieldType := fun k => match k with
  | 0 => .int
  | 1 => .int
  | 2 => .object "PeerSearch$Net"
  | 3 => .object "PeerSearch$Sha"
  | 4 => .object "PeerSearch$Pool"
  | 5 => .array (.object "PeerSearch$Peer")
  | 6 => .int
  | 7 => .array (.object "PeerSearch$Contact")
  | 8 => .object "PeerSearch$Packet"
  | 9 => .object "PeerSearch$Packet"
  | 10 => .object "PeerSearch$Filter"
  | 11 => .object "PeerSearch$Key"
  | 12 => .object "PeerSearch$Key"
  | 13 => .object "PeerSearch$Key"
  | _ => .array .int
abbrev wsX60 : List Cond := u_ws RX6 TX6 15
theorem nmX6 : ∀ a, a < 15 → ∀ b, b < 15 → a ≠ b → (TX6 a).2.1 ≠ (TX6 b).2.1 := by decide +kernel
theorem tyX6_ok : ∀ k, k < 15 → parseFieldDescriptor (TX6 k).2.2.1 = some (tyX6 k) := by decide +kernel
abbrev cX6_init : ByteArray := prog_3_method_1_code
def yX6_init : MethodName := ⟨RX6, "<init>", "(II)V"⟩
abbrev cX6_has : ByteArray := prog_3_method_2_code
def yX6_has : MethodName := ⟨RX6, "has", "(I)Z"⟩
abbrev cX6_areApart : ByteArray := prog_3_method_4_code
def yX6_areApart : MethodName := ⟨RX6, "areApart", "(II)Z"⟩
abbrev cX6_sideOf : ByteArray := prog_3_method_3_code
def yX6_sideOf : MethodName := ⟨RX6, "sideOf", "(I)I"⟩
theorem q178 : (Jvm.Cond.initialized "PeerSearch$Board") ∈ lw_all := lw_g (lw_at lw_m1 6 rfl) rfl
theorem q304 : (Jvm.Cond.instantiable "PeerSearch$Board" (15 : Nat)) ∈ lw_all := lw_g (lw_at lw_m1 132 rfl) rfl
theorem q315 : (Jvm.Cond.instanceMethod ({ cls := "PeerSearch$Board", name := "<init>", desc := "(II)V" } : Jvm.MethodName)) ∈ lw_all := lw_g (lw_at lw_m1 143 rfl) rfl
theorem q316 : (Jvm.Cond.code ({ cls := "PeerSearch$Board", name := "<init>", desc := "(II)V" } : Jvm.MethodName) prog_3_method_1_code (3 : Nat) (Option.none : Option Jvm.ClassFile.FieldType)) ∈ lw_all := lw_g (lw_at lw_m1 144 rfl) rfl
theorem q317 : (Jvm.Cond.methodLink "PeerSearch$Board" (3 : Nat) ({ cls := "java/lang/Object", name := "<init>", desc := "()V" } : Jvm.MethodName)) ∈ lw_all := lw_g (lw_at lw_m1 145 rfl) rfl
theorem q318 : (Jvm.Cond.classLink "PeerSearch$Board" (9 : Nat) "PeerSearch$Net") ∈ lw_all := lw_g (lw_at lw_m1 146 rfl) rfl
theorem q320 : (Jvm.Cond.methodLinkNest "PeerSearch$Board" (11 : Nat) ({ cls := "PeerSearch$Net", name := "<init>", desc := "()V" } : Jvm.MethodName) "PeerSearch") ∈ lw_tbl := lw_at lw_m1 148 rfl
theorem q354 : (Jvm.Cond.classLink "PeerSearch$Board" (18 : Nat) "PeerSearch$Sha") ∈ lw_all := lw_g (lw_at lw_m1 182 rfl) rfl
theorem q356 : (Jvm.Cond.methodLinkNest "PeerSearch$Board" (20 : Nat) ({ cls := "PeerSearch$Sha", name := "<init>", desc := "()V" } : Jvm.MethodName) "PeerSearch") ∈ lw_tbl := lw_at lw_m1 184 rfl
theorem q370 : (Jvm.Cond.classLink "PeerSearch$Board" (25 : Nat) "PeerSearch$Pool") ∈ lw_all := lw_g (lw_at lw_m1 198 rfl) rfl
theorem q372 : (Jvm.Cond.methodLinkNest "PeerSearch$Board" (27 : Nat) ({ cls := "PeerSearch$Pool", name := "<init>", desc := "()V" } : Jvm.MethodName) "PeerSearch") ∈ lw_tbl := lw_at lw_m1 200 rfl
theorem q385 : (Jvm.Cond.classLink "PeerSearch$Board" (32 : Nat) "PeerSearch$Peer") ∈ lw_all := lw_g (lw_at lw_m1 213 rfl) rfl
theorem q387 : (Jvm.Cond.classLink "PeerSearch$Board" (38 : Nat) "PeerSearch$Packet") ∈ lw_all := lw_g (lw_at lw_m1 215 rfl) rfl
theorem q388 : (Jvm.Cond.methodLinkNest "PeerSearch$Board" (40 : Nat) ({ cls := "PeerSearch$Packet", name := "<init>", desc := "()V" } : Jvm.MethodName) "PeerSearch") ∈ lw_tbl := lw_at lw_m1 216 rfl
theorem q389 : (Jvm.Cond.classLink "PeerSearch$Board" (48 : Nat) "PeerSearch$Filter") ∈ lw_all := lw_g (lw_at lw_m1 217 rfl) rfl
theorem q391 : (Jvm.Cond.methodLink "PeerSearch$Board" (50 : Nat) ({ cls := "PeerSearch$Filter", name := "<init>", desc := "(LPeerSearch$Sha;)V" } : Jvm.MethodName)) ∈ lw_all := lw_g (lw_at lw_m1 219 rfl) rfl
theorem q416 : (Jvm.Cond.classLink "PeerSearch$Board" (57 : Nat) "PeerSearch$Key") ∈ lw_all := lw_g (lw_at lw_m2 4 rfl) rfl
theorem q417 : (Jvm.Cond.methodLinkNest "PeerSearch$Board" (59 : Nat) ({ cls := "PeerSearch$Key", name := "<init>", desc := "()V" } : Jvm.MethodName) "PeerSearch") ∈ lw_tbl := lw_at lw_m2 5 rfl
theorem q418 : (Jvm.Cond.classLink "PeerSearch$Board" (81 : Nat) "PeerSearch$Contact") ∈ lw_all := lw_g (lw_at lw_m2 6 rfl) rfl
theorem q421 : (Jvm.Cond.fieldLink "PeerSearch$Board" (74 : Nat) "PeerSearch$Board" "most" "I") ∈ lw_all := lw_g (lw_at lw_m2 9 rfl) rfl
theorem q422 : (Jvm.Cond.fieldLink "PeerSearch$Board" (78 : Nat) "PeerSearch$Board" "alpha" "I") ∈ lw_all := lw_g (lw_at lw_m2 10 rfl) rfl
theorem q424 : (Jvm.Cond.fieldLink "PeerSearch$Board" (12 : Nat) "PeerSearch$Board" "net" "LPeerSearch$Net;") ∈ lw_all := lw_g (lw_at lw_m2 12 rfl) rfl
theorem q429 : (Jvm.Cond.fieldLink "PeerSearch$Board" (21 : Nat) "PeerSearch$Board" "sha" "LPeerSearch$Sha;") ∈ lw_all := lw_g (lw_at lw_m2 17 rfl) rfl
theorem q432 : (Jvm.Cond.fieldLink "PeerSearch$Board" (28 : Nat) "PeerSearch$Board" "pool" "LPeerSearch$Pool;") ∈ lw_all := lw_g (lw_at lw_m2 20 rfl) rfl
theorem q434 : (Jvm.Cond.fieldLink "PeerSearch$Board" (34 : Nat) "PeerSearch$Board" "peers" "[LPeerSearch$Peer;") ∈ lw_all := lw_g (lw_at lw_m2 22 rfl) rfl
theorem q436 : (Jvm.Cond.fieldLink "PeerSearch$Board" (87 : Nat) "PeerSearch$Board" "count" "I") ∈ lw_all := lw_g (lw_at lw_m2 24 rfl) rfl
theorem q438 : (Jvm.Cond.fieldLink "PeerSearch$Board" (83 : Nat) "PeerSearch$Board" "best" "[LPeerSearch$Contact;") ∈ lw_all := lw_g (lw_at lw_m2 26 rfl) rfl
theorem q441 : (Jvm.Cond.fieldLink "PeerSearch$Board" (41 : Nat) "PeerSearch$Board" "out" "LPeerSearch$Packet;") ∈ lw_all := lw_g (lw_at lw_m2 29 rfl) rfl
theorem q444 : (Jvm.Cond.fieldLink "PeerSearch$Board" (45 : Nat) "PeerSearch$Board" "answer" "LPeerSearch$Packet;") ∈ lw_all := lw_g (lw_at lw_m2 32 rfl) rfl
theorem q447 : (Jvm.Cond.fieldLink "PeerSearch$Board" (53 : Nat) "PeerSearch$Board" "filter" "LPeerSearch$Filter;") ∈ lw_all := lw_g (lw_at lw_m2 35 rfl) rfl
theorem q449 : (Jvm.Cond.fieldLink "PeerSearch$Board" (60 : Nat) "PeerSearch$Board" "asked" "LPeerSearch$Key;") ∈ lw_all := lw_g (lw_at lw_m2 37 rfl) rfl
theorem q451 : (Jvm.Cond.fieldLink "PeerSearch$Board" (64 : Nat) "PeerSearch$Board" "sender" "LPeerSearch$Key;") ∈ lw_all := lw_g (lw_at lw_m2 39 rfl) rfl
theorem q453 : (Jvm.Cond.fieldLink "PeerSearch$Board" (67 : Nat) "PeerSearch$Board" "told" "LPeerSearch$Key;") ∈ lw_all := lw_g (lw_at lw_m2 41 rfl) rfl
theorem q456 : (Jvm.Cond.fieldLink "PeerSearch$Board" (70 : Nat) "PeerSearch$Board" "numbers" "[I") ∈ lw_all := lw_g (lw_at lw_m2 44 rfl) rfl
theorem q458 : (Jvm.Cond.laysFinal "PeerSearch$Board" "PeerSearch$Board" "most" "I") ∈ lw_all := lw_g (lw_at lw_m2 46 rfl) rfl
theorem q459 : (Jvm.Cond.soleField "PeerSearch$Board" "most") ∈ lw_all := lw_g (lw_at lw_m2 47 rfl) rfl
theorem q460 : (Jvm.Cond.laysFinal "PeerSearch$Board" "PeerSearch$Board" "alpha" "I") ∈ lw_all := lw_g (lw_at lw_m2 48 rfl) rfl
theorem q461 : (Jvm.Cond.soleField "PeerSearch$Board" "alpha") ∈ lw_all := lw_g (lw_at lw_m2 49 rfl) rfl
theorem q462 : (Jvm.Cond.laysFinal "PeerSearch$Board" "PeerSearch$Board" "net" "LPeerSearch$Net;") ∈ lw_all := lw_g (lw_at lw_m2 50 rfl) rfl
theorem q463 : (Jvm.Cond.soleField "PeerSearch$Board" "net") ∈ lw_all := lw_g (lw_at lw_m2 51 rfl) rfl
theorem q464 : (Jvm.Cond.laysFinal "PeerSearch$Board" "PeerSearch$Board" "sha" "LPeerSearch$Sha;") ∈ lw_all := lw_g (lw_at lw_m2 52 rfl) rfl
theorem q465 : (Jvm.Cond.soleField "PeerSearch$Board" "sha") ∈ lw_all := lw_g (lw_at lw_m2 53 rfl) rfl
theorem q466 : (Jvm.Cond.laysFinal "PeerSearch$Board" "PeerSearch$Board" "pool" "LPeerSearch$Pool;") ∈ lw_all := lw_g (lw_at lw_m2 54 rfl) rfl
theorem q467 : (Jvm.Cond.soleField "PeerSearch$Board" "pool") ∈ lw_all := lw_g (lw_at lw_m2 55 rfl) rfl
theorem q468 : (Jvm.Cond.laysFinal "PeerSearch$Board" "PeerSearch$Board" "peers" "[LPeerSearch$Peer;") ∈ lw_all := lw_g (lw_at lw_m2 56 rfl) rfl
theorem q469 : (Jvm.Cond.soleField "PeerSearch$Board" "peers") ∈ lw_all := lw_g (lw_at lw_m2 57 rfl) rfl
theorem q470 : (Jvm.Cond.lays "PeerSearch$Board" "PeerSearch$Board" "count" "I") ∈ lw_all := lw_g (lw_at lw_m2 58 rfl) rfl
theorem q471 : (Jvm.Cond.soleField "PeerSearch$Board" "count") ∈ lw_all := lw_g (lw_at lw_m2 59 rfl) rfl
theorem q472 : (Jvm.Cond.laysFinal "PeerSearch$Board" "PeerSearch$Board" "best" "[LPeerSearch$Contact;") ∈ lw_all := lw_g (lw_at lw_m2 60 rfl) rfl
theorem q473 : (Jvm.Cond.soleField "PeerSearch$Board" "best") ∈ lw_all := lw_g (lw_at lw_m2 61 rfl) rfl
theorem q474 : (Jvm.Cond.laysFinal "PeerSearch$Board" "PeerSearch$Board" "out" "LPeerSearch$Packet;") ∈ lw_all := lw_g (lw_at lw_m2 62 rfl) rfl
theorem q475 : (Jvm.Cond.soleField "PeerSearch$Board" "out") ∈ lw_all := lw_g (lw_at lw_m2 63 rfl) rfl
theorem q476 : (Jvm.Cond.laysFinal "PeerSearch$Board" "PeerSearch$Board" "answer" "LPeerSearch$Packet;") ∈ lw_all := lw_g (lw_at lw_m2 64 rfl) rfl
theorem q477 : (Jvm.Cond.soleField "PeerSearch$Board" "answer") ∈ lw_all := lw_g (lw_at lw_m2 65 rfl) rfl
theorem q478 : (Jvm.Cond.laysFinal "PeerSearch$Board" "PeerSearch$Board" "filter" "LPeerSearch$Filter;") ∈ lw_all := lw_g (lw_at lw_m2 66 rfl) rfl
theorem q479 : (Jvm.Cond.soleField "PeerSearch$Board" "filter") ∈ lw_all := lw_g (lw_at lw_m2 67 rfl) rfl
theorem q480 : (Jvm.Cond.laysFinal "PeerSearch$Board" "PeerSearch$Board" "asked" "LPeerSearch$Key;") ∈ lw_all := lw_g (lw_at lw_m2 68 rfl) rfl
theorem q481 : (Jvm.Cond.soleField "PeerSearch$Board" "asked") ∈ lw_all := lw_g (lw_at lw_m2 69 rfl) rfl
theorem q482 : (Jvm.Cond.laysFinal "PeerSearch$Board" "PeerSearch$Board" "sender" "LPeerSearch$Key;") ∈ lw_all := lw_g (lw_at lw_m2 70 rfl) rfl
theorem q483 : (Jvm.Cond.soleField "PeerSearch$Board" "sender") ∈ lw_all := lw_g (lw_at lw_m2 71 rfl) rfl
theorem q484 : (Jvm.Cond.laysFinal "PeerSearch$Board" "PeerSearch$Board" "told" "LPeerSearch$Key;") ∈ lw_all := lw_g (lw_at lw_m2 72 rfl) rfl
theorem q485 : (Jvm.Cond.soleField "PeerSearch$Board" "told") ∈ lw_all := lw_g (lw_at lw_m2 73 rfl) rfl
theorem q486 : (Jvm.Cond.laysFinal "PeerSearch$Board" "PeerSearch$Board" "numbers" "[I") ∈ lw_all := lw_g (lw_at lw_m2 74 rfl) rfl
theorem q487 : (Jvm.Cond.soleField "PeerSearch$Board" "numbers") ∈ lw_all := lw_g (lw_at lw_m2 75 rfl) rfl
theorem q488 : (Jvm.Cond.superclass "PeerSearch$Board" "java/lang/Object") ∈ lw_all := lw_g (lw_at lw_m2 76 rfl) rfl
theorem q860 : (Jvm.Cond.fieldLinkNest "PeerSearch$Board" (90 : Nat) "PeerSearch$Peer" "side" "I" "PeerSearch") ∈ lw_tbl := lw_at lw_m3 208 rfl
theorem q944 : (Jvm.Cond.instanceMethod ({ cls := "PeerSearch$Board", name := "has", desc := "(I)Z" } : Jvm.MethodName)) ∈ lw_all := lw_g (lw_at lw_m4 52 rfl) rfl
theorem q945 : (Jvm.Cond.selects "PeerSearch$Board" ({ cls := "PeerSearch$Board", name := "has", desc := "(I)Z" } : Jvm.MethodName) ({ cls := "PeerSearch$Board", name := "has", desc := "(I)Z" } : Jvm.MethodName)) ∈ lw_all := lw_g (lw_at lw_m4 53 rfl) rfl
theorem q946 : (Jvm.Cond.code ({ cls := "PeerSearch$Board", name := "has", desc := "(I)Z" } : Jvm.MethodName) prog_3_method_2_code (2 : Nat) (Option.some Jvm.ClassFile.FieldType.boolean)) ∈ lw_all := lw_g (lw_at lw_m4 54 rfl) rfl
theorem q1145 : (Jvm.Cond.instanceMethod ({ cls := "PeerSearch$Board", name := "areApart", desc := "(II)Z" } : Jvm.MethodName)) ∈ lw_all := lw_g (lw_at lw_m5 13 rfl) rfl
theorem q1146 : (Jvm.Cond.selects "PeerSearch$Board" ({ cls := "PeerSearch$Board", name := "areApart", desc := "(II)Z" } : Jvm.MethodName) ({ cls := "PeerSearch$Board", name := "areApart", desc := "(II)Z" } : Jvm.MethodName)) ∈ lw_all := lw_g (lw_at lw_m5 14 rfl) rfl
theorem q1147 : (Jvm.Cond.code ({ cls := "PeerSearch$Board", name := "areApart", desc := "(II)Z" } : Jvm.MethodName) prog_3_method_4_code (3 : Nat) (Option.some Jvm.ClassFile.FieldType.boolean)) ∈ lw_all := lw_g (lw_at lw_m5 15 rfl) rfl
theorem q1148 : (Jvm.Cond.methodLink "PeerSearch$Board" (93 : Nat) ({ cls := "PeerSearch$Board", name := "sideOf", desc := "(I)I" } : Jvm.MethodName)) ∈ lw_all := lw_g (lw_at lw_m5 16 rfl) rfl
theorem q1149 : (Jvm.Cond.privateMethod ({ cls := "PeerSearch$Board", name := "sideOf", desc := "(I)I" } : Jvm.MethodName)) ∈ lw_tbl := lw_at lw_m5 17 rfl
theorem q1150 : (Jvm.Cond.instanceMethod ({ cls := "PeerSearch$Board", name := "sideOf", desc := "(I)I" } : Jvm.MethodName)) ∈ lw_all := lw_g (lw_at lw_m5 18 rfl) rfl
theorem q1151 : (Jvm.Cond.code ({ cls := "PeerSearch$Board", name := "sideOf", desc := "(I)I" } : Jvm.MethodName) prog_3_method_3_code (2 : Nat) (Option.some Jvm.ClassFile.FieldType.int)) ∈ lw_all := lw_g (lw_at lw_m5 19 rfl) rfl
theorem in_X6 : ∀ w ∈ wsX60, w ∈ lw_all := lw_in wsX60 [458, 460, 462, 464, 466, 468, 470, 472, 474, 476, 478, 480, 482, 484, 486] (by decide +kernel) (by decide +kernel)
/-! java/lang/Math -/
def RJ0 : String := "java/lang/Math"
abbrev cJ0_min : ByteArray := prog_34_method_69_code
def yJ0_min : MethodName := ⟨RJ0, "min", "(II)I"⟩
abbrev cJ0_max : ByteArray := prog_34_method_65_code
def yJ0_max : MethodName := ⟨RJ0, "max", "(II)I"⟩
theorem q179 : (Jvm.Cond.initialized "java/lang/Math") ∈ lw_all := lw_g (lw_at lw_m1 7 rfl) rfl
theorem q309 : (Jvm.Cond.static ({ cls := "java/lang/Math", name := "min", desc := "(II)I" } : Jvm.MethodName)) ∈ lw_all := lw_g (lw_at lw_m1 137 rfl) rfl
theorem q310 : (Jvm.Cond.code ({ cls := "java/lang/Math", name := "min", desc := "(II)I" } : Jvm.MethodName) prog_34_method_69_code (2 : Nat) (Option.some Jvm.ClassFile.FieldType.int)) ∈ lw_all := lw_g (lw_at lw_m1 138 rfl) rfl
theorem q312 : (Jvm.Cond.static ({ cls := "java/lang/Math", name := "max", desc := "(II)I" } : Jvm.MethodName)) ∈ lw_all := lw_g (lw_at lw_m1 140 rfl) rfl
theorem q313 : (Jvm.Cond.code ({ cls := "java/lang/Math", name := "max", desc := "(II)I" } : Jvm.MethodName) prog_34_method_65_code (2 : Nat) (Option.some Jvm.ClassFile.FieldType.int)) ∈ lw_all := lw_g (lw_at lw_m1 141 rfl) rfl
/-! PeerSearch$Net -/
def RX7 : String := "PeerSearch$Net"
def TX7 : u_T := fun k => match k with
  | 0 => ("PeerSearch$Net", "settings", "[I", true)
  | 1 => ("PeerSearch$Net", "flying", "[LPeerSearch$Datagram;", true)
  | 2 => ("PeerSearch$Net", "size", "I", false)
  | 3 => ("PeerSearch$Net", "time", "I", false)
  | 4 => ("PeerSearch$Net", "lost", "I", false)
  | _ => ("PeerSearch$Net", "inbox", "LPeerSearch$Packet;", true)
def tyX7 : Nat → FieldType := fun k => match k with
  | 0 => .array .int
  | 1 => .array (.object "PeerSearch$Datagram")
  | 2 => .int
  | 3 => .int
  | 4 => .int
  | _ => .object "PeerSearch$Packet"
abbrev wsX70 : List Cond := u_ws RX7 TX7 6
theorem nmX7 : ∀ a, a < 6 → ∀ b, b < 6 → a ≠ b → (TX7 a).2.1 ≠ (TX7 b).2.1 := by decide +kernel
theorem tyX7_ok : ∀ k, k < 6 → parseFieldDescriptor (TX7 k).2.2.1 = some (tyX7 k) := by decide +kernel
abbrev cX7_init : ByteArray := prog_15_method_1_code
def yX7_init : MethodName := ⟨RX7, "<init>", "()V"⟩
abbrev cX7_set : ByteArray := prog_15_method_3_code
def yX7_set : MethodName := ⟨RX7, "set", "(II)Z"⟩
abbrev cX7_canBe : ByteArray := prog_15_method_2_code
def yX7_canBe : MethodName := ⟨RX7, "canBe", "(II)Z"⟩
abbrev cX7_setting : ByteArray := prog_15_method_4_code
def yX7_setting : MethodName := ⟨RX7, "setting", "(I)I"⟩
abbrev cX7_send : ByteArray := prog_15_method_8_code
def yX7_send : MethodName := ⟨RX7, "send", "(IIZLPeerSearch$Packet;)V"⟩
abbrev cX7_draw : ByteArray := prog_15_method_5_code
def yX7_draw : MethodName := ⟨RX7, "draw", "()I"⟩
abbrev cX7_arrival : ByteArray := prog_15_method_7_code
def yX7_arrival : MethodName := ⟨RX7, "arrival", "()I"⟩
abbrev cX7_fly : ByteArray := prog_15_method_6_code
def yX7_fly : MethodName := ⟨RX7, "fly", "(IIILPeerSearch$Packet;)V"⟩
abbrev cX7_force : ByteArray := prog_15_method_9_code
def yX7_force : MethodName := ⟨RX7, "force", "(IILPeerSearch$Packet;)Z"⟩
abbrev cX7_isDue : ByteArray := prog_15_method_10_code
def yX7_isDue : MethodName := ⟨RX7, "isDue", "()Z"⟩
abbrev cX7_take : ByteArray := prog_15_method_11_code
def yX7_take : MethodName := ⟨RX7, "take", "()LPeerSearch$Datagram;"⟩
theorem q180 : (Jvm.Cond.initialized "PeerSearch$Net") ∈ lw_all := lw_g (lw_at lw_m1 8 rfl) rfl
theorem q319 : (Jvm.Cond.instantiable "PeerSearch$Net" (6 : Nat)) ∈ lw_all := lw_g (lw_at lw_m1 147 rfl) rfl
theorem q321 : (Jvm.Cond.instanceMethod ({ cls := "PeerSearch$Net", name := "<init>", desc := "()V" } : Jvm.MethodName)) ∈ lw_all := lw_g (lw_at lw_m1 149 rfl) rfl
theorem q322 : (Jvm.Cond.code ({ cls := "PeerSearch$Net", name := "<init>", desc := "()V" } : Jvm.MethodName) prog_15_method_1_code (1 : Nat) (Option.none : Option Jvm.ClassFile.FieldType)) ∈ lw_all := lw_g (lw_at lw_m1 150 rfl) rfl
theorem q323 : (Jvm.Cond.methodLink "PeerSearch$Net" (3 : Nat) ({ cls := "java/lang/Object", name := "<init>", desc := "()V" } : Jvm.MethodName)) ∈ lw_all := lw_g (lw_at lw_m1 151 rfl) rfl
theorem q324 : (Jvm.Cond.classLink "PeerSearch$Net" (15 : Nat) "PeerSearch$Datagram") ∈ lw_all := lw_g (lw_at lw_m1 152 rfl) rfl
theorem q326 : (Jvm.Cond.classLink "PeerSearch$Net" (21 : Nat) "PeerSearch$Packet") ∈ lw_all := lw_g (lw_at lw_m1 154 rfl) rfl
theorem q327 : (Jvm.Cond.methodLinkNest "PeerSearch$Net" (23 : Nat) ({ cls := "PeerSearch$Packet", name := "<init>", desc := "()V" } : Jvm.MethodName) "PeerSearch") ∈ lw_tbl := lw_at lw_m1 155 rfl
theorem q328 : (Jvm.Cond.fieldLink "PeerSearch$Net" (9 : Nat) "PeerSearch$Net" "settings" "[I") ∈ lw_all := lw_g (lw_at lw_m1 156 rfl) rfl
theorem q329 : (Jvm.Cond.fieldLink "PeerSearch$Net" (17 : Nat) "PeerSearch$Net" "flying" "[LPeerSearch$Datagram;") ∈ lw_all := lw_g (lw_at lw_m1 157 rfl) rfl
theorem q331 : (Jvm.Cond.fieldLink "PeerSearch$Net" (38 : Nat) "PeerSearch$Net" "size" "I") ∈ lw_all := lw_g (lw_at lw_m1 159 rfl) rfl
theorem q335 : (Jvm.Cond.fieldLink "PeerSearch$Net" (59 : Nat) "PeerSearch$Net" "time" "I") ∈ lw_all := lw_g (lw_at lw_m1 163 rfl) rfl
theorem q337 : (Jvm.Cond.fieldLink "PeerSearch$Net" (66 : Nat) "PeerSearch$Net" "lost" "I") ∈ lw_all := lw_g (lw_at lw_m1 165 rfl) rfl
theorem q339 : (Jvm.Cond.fieldLink "PeerSearch$Net" (24 : Nat) "PeerSearch$Net" "inbox" "LPeerSearch$Packet;") ∈ lw_all := lw_g (lw_at lw_m1 167 rfl) rfl
theorem q341 : (Jvm.Cond.laysFinal "PeerSearch$Net" "PeerSearch$Net" "settings" "[I") ∈ lw_all := lw_g (lw_at lw_m1 169 rfl) rfl
theorem q342 : (Jvm.Cond.soleField "PeerSearch$Net" "settings") ∈ lw_all := lw_g (lw_at lw_m1 170 rfl) rfl
theorem q343 : (Jvm.Cond.laysFinal "PeerSearch$Net" "PeerSearch$Net" "flying" "[LPeerSearch$Datagram;") ∈ lw_all := lw_g (lw_at lw_m1 171 rfl) rfl
theorem q344 : (Jvm.Cond.soleField "PeerSearch$Net" "flying") ∈ lw_all := lw_g (lw_at lw_m1 172 rfl) rfl
theorem q345 : (Jvm.Cond.lays "PeerSearch$Net" "PeerSearch$Net" "size" "I") ∈ lw_all := lw_g (lw_at lw_m1 173 rfl) rfl
theorem q346 : (Jvm.Cond.soleField "PeerSearch$Net" "size") ∈ lw_all := lw_g (lw_at lw_m1 174 rfl) rfl
theorem q347 : (Jvm.Cond.lays "PeerSearch$Net" "PeerSearch$Net" "time" "I") ∈ lw_all := lw_g (lw_at lw_m1 175 rfl) rfl
theorem q348 : (Jvm.Cond.soleField "PeerSearch$Net" "time") ∈ lw_all := lw_g (lw_at lw_m1 176 rfl) rfl
theorem q349 : (Jvm.Cond.lays "PeerSearch$Net" "PeerSearch$Net" "lost" "I") ∈ lw_all := lw_g (lw_at lw_m1 177 rfl) rfl
theorem q350 : (Jvm.Cond.soleField "PeerSearch$Net" "lost") ∈ lw_all := lw_g (lw_at lw_m1 178 rfl) rfl
theorem q351 : (Jvm.Cond.laysFinal "PeerSearch$Net" "PeerSearch$Net" "inbox" "LPeerSearch$Packet;") ∈ lw_all := lw_g (lw_at lw_m1 179 rfl) rfl
theorem q352 : (Jvm.Cond.soleField "PeerSearch$Net" "inbox") ∈ lw_all := lw_g (lw_at lw_m1 180 rfl) rfl
theorem q353 : (Jvm.Cond.superclass "PeerSearch$Net" "java/lang/Object") ∈ lw_all := lw_g (lw_at lw_m1 181 rfl) rfl
theorem q952 : (Jvm.Cond.instanceMethod ({ cls := "PeerSearch$Net", name := "set", desc := "(II)Z" } : Jvm.MethodName)) ∈ lw_all := lw_g (lw_at lw_m4 60 rfl) rfl
theorem q953 : (Jvm.Cond.selects "PeerSearch$Net" ({ cls := "PeerSearch$Net", name := "set", desc := "(II)Z" } : Jvm.MethodName) ({ cls := "PeerSearch$Net", name := "set", desc := "(II)Z" } : Jvm.MethodName)) ∈ lw_all := lw_g (lw_at lw_m4 61 rfl) rfl
theorem q954 : (Jvm.Cond.code ({ cls := "PeerSearch$Net", name := "set", desc := "(II)Z" } : Jvm.MethodName) prog_15_method_3_code (3 : Nat) (Option.some Jvm.ClassFile.FieldType.boolean)) ∈ lw_all := lw_g (lw_at lw_m4 62 rfl) rfl
theorem q955 : (Jvm.Cond.methodLink "PeerSearch$Net" (29 : Nat) ({ cls := "PeerSearch$Net", name := "canBe", desc := "(II)Z" } : Jvm.MethodName)) ∈ lw_all := lw_g (lw_at lw_m4 63 rfl) rfl
theorem q956 : (Jvm.Cond.static ({ cls := "PeerSearch$Net", name := "canBe", desc := "(II)Z" } : Jvm.MethodName)) ∈ lw_all := lw_g (lw_at lw_m4 64 rfl) rfl
theorem q957 : (Jvm.Cond.code ({ cls := "PeerSearch$Net", name := "canBe", desc := "(II)Z" } : Jvm.MethodName) prog_15_method_2_code (2 : Nat) (Option.some Jvm.ClassFile.FieldType.boolean)) ∈ lw_all := lw_g (lw_at lw_m4 65 rfl) rfl
theorem q958 : (Jvm.Cond.constant "PeerSearch$Net" (28 : Nat) (100000 : Int32)) ∈ lw_all := lw_g (lw_at lw_m4 66 rfl) rfl
theorem q1137 : (Jvm.Cond.instanceMethod ({ cls := "PeerSearch$Net", name := "setting", desc := "(I)I" } : Jvm.MethodName)) ∈ lw_all := lw_g (lw_at lw_m5 5 rfl) rfl
theorem q1138 : (Jvm.Cond.selects "PeerSearch$Net" ({ cls := "PeerSearch$Net", name := "setting", desc := "(I)I" } : Jvm.MethodName) ({ cls := "PeerSearch$Net", name := "setting", desc := "(I)I" } : Jvm.MethodName)) ∈ lw_all := lw_g (lw_at lw_m5 6 rfl) rfl
theorem q1139 : (Jvm.Cond.code ({ cls := "PeerSearch$Net", name := "setting", desc := "(I)I" } : Jvm.MethodName) prog_15_method_4_code (2 : Nat) (Option.some Jvm.ClassFile.FieldType.int)) ∈ lw_all := lw_g (lw_at lw_m5 7 rfl) rfl
theorem q1153 : (Jvm.Cond.instanceMethod ({ cls := "PeerSearch$Net", name := "send", desc := "(IIZLPeerSearch$Packet;)V" } : Jvm.MethodName)) ∈ lw_all := lw_g (lw_at lw_m5 21 rfl) rfl
theorem q1154 : (Jvm.Cond.selects "PeerSearch$Net" ({ cls := "PeerSearch$Net", name := "send", desc := "(IIZLPeerSearch$Packet;)V" } : Jvm.MethodName) ({ cls := "PeerSearch$Net", name := "send", desc := "(IIZLPeerSearch$Packet;)V" } : Jvm.MethodName)) ∈ lw_all := lw_g (lw_at lw_m5 22 rfl) rfl
theorem q1155 : (Jvm.Cond.code ({ cls := "PeerSearch$Net", name := "send", desc := "(IIZLPeerSearch$Packet;)V" } : Jvm.MethodName) prog_15_method_8_code (5 : Nat) (Option.none : Option Jvm.ClassFile.FieldType)) ∈ lw_all := lw_g (lw_at lw_m5 23 rfl) rfl
theorem q1156 : (Jvm.Cond.methodLink "PeerSearch$Net" (62 : Nat) ({ cls := "PeerSearch$Net", name := "draw", desc := "()I" } : Jvm.MethodName)) ∈ lw_all := lw_g (lw_at lw_m5 24 rfl) rfl
theorem q1157 : (Jvm.Cond.privateMethod ({ cls := "PeerSearch$Net", name := "draw", desc := "()I" } : Jvm.MethodName)) ∈ lw_tbl := lw_at lw_m5 25 rfl
theorem q1158 : (Jvm.Cond.instanceMethod ({ cls := "PeerSearch$Net", name := "draw", desc := "()I" } : Jvm.MethodName)) ∈ lw_all := lw_g (lw_at lw_m5 26 rfl) rfl
theorem q1159 : (Jvm.Cond.code ({ cls := "PeerSearch$Net", name := "draw", desc := "()I" } : Jvm.MethodName) prog_15_method_5_code (1 : Nat) (Option.some Jvm.ClassFile.FieldType.int)) ∈ lw_all := lw_g (lw_at lw_m5 27 rfl) rfl
theorem q1160 : (Jvm.Cond.constant "PeerSearch$Net" (33 : Nat) (1103515245 : Int32)) ∈ lw_all := lw_g (lw_at lw_m5 28 rfl) rfl
theorem q1161 : (Jvm.Cond.constant "PeerSearch$Net" (36 : Nat) (2147483647 : Int32)) ∈ lw_all := lw_g (lw_at lw_m5 29 rfl) rfl
theorem q1162 : (Jvm.Cond.constant "PeerSearch$Net" (37 : Nat) (65536 : Int32)) ∈ lw_all := lw_g (lw_at lw_m5 30 rfl) rfl
theorem q1163 : (Jvm.Cond.methodLink "PeerSearch$Net" (69 : Nat) ({ cls := "PeerSearch$Net", name := "arrival", desc := "()I" } : Jvm.MethodName)) ∈ lw_all := lw_g (lw_at lw_m5 31 rfl) rfl
theorem q1164 : (Jvm.Cond.privateMethod ({ cls := "PeerSearch$Net", name := "arrival", desc := "()I" } : Jvm.MethodName)) ∈ lw_tbl := lw_at lw_m5 32 rfl
theorem q1165 : (Jvm.Cond.instanceMethod ({ cls := "PeerSearch$Net", name := "arrival", desc := "()I" } : Jvm.MethodName)) ∈ lw_all := lw_g (lw_at lw_m5 33 rfl) rfl
theorem q1166 : (Jvm.Cond.code ({ cls := "PeerSearch$Net", name := "arrival", desc := "()I" } : Jvm.MethodName) prog_15_method_7_code (1 : Nat) (Option.some Jvm.ClassFile.FieldType.int)) ∈ lw_all := lw_g (lw_at lw_m5 34 rfl) rfl
theorem q1167 : (Jvm.Cond.methodLink "PeerSearch$Net" (72 : Nat) ({ cls := "PeerSearch$Net", name := "fly", desc := "(IIILPeerSearch$Packet;)V" } : Jvm.MethodName)) ∈ lw_all := lw_g (lw_at lw_m5 35 rfl) rfl
theorem q1168 : (Jvm.Cond.privateMethod ({ cls := "PeerSearch$Net", name := "fly", desc := "(IIILPeerSearch$Packet;)V" } : Jvm.MethodName)) ∈ lw_tbl := lw_at lw_m5 36 rfl
theorem q1169 : (Jvm.Cond.instanceMethod ({ cls := "PeerSearch$Net", name := "fly", desc := "(IIILPeerSearch$Packet;)V" } : Jvm.MethodName)) ∈ lw_all := lw_g (lw_at lw_m5 37 rfl) rfl
theorem q1170 : (Jvm.Cond.code ({ cls := "PeerSearch$Net", name := "fly", desc := "(IIILPeerSearch$Packet;)V" } : Jvm.MethodName) prog_15_method_6_code (7 : Nat) (Option.none : Option Jvm.ClassFile.FieldType)) ∈ lw_all := lw_g (lw_at lw_m5 38 rfl) rfl
theorem q1172 : (Jvm.Cond.methodLinkNest "PeerSearch$Net" (42 : Nat) ({ cls := "PeerSearch$Datagram", name := "<init>", desc := "()V" } : Jvm.MethodName) "PeerSearch") ∈ lw_tbl := lw_at lw_m5 40 rfl
theorem q1178 : (Jvm.Cond.fieldLinkNest "PeerSearch$Net" (43 : Nat) "PeerSearch$Datagram" "from" "I" "PeerSearch") ∈ lw_tbl := lw_at lw_m5 46 rfl
theorem q1180 : (Jvm.Cond.fieldLinkNest "PeerSearch$Net" (46 : Nat) "PeerSearch$Datagram" "to" "I" "PeerSearch") ∈ lw_tbl := lw_at lw_m5 48 rfl
theorem q1182 : (Jvm.Cond.fieldLinkNest "PeerSearch$Net" (49 : Nat) "PeerSearch$Datagram" "due" "I" "PeerSearch") ∈ lw_tbl := lw_at lw_m5 50 rfl
theorem q1185 : (Jvm.Cond.fieldLinkNest "PeerSearch$Net" (52 : Nat) "PeerSearch$Datagram" "packet" "LPeerSearch$Packet;" "PeerSearch") ∈ lw_tbl := lw_at lw_m5 53 rfl
theorem q1196 : (Jvm.Cond.methodLink "PeerSearch$Net" (55 : Nat) ({ cls := "PeerSearch$Packet", name := "copy", desc := "(LPeerSearch$Packet;)V" } : Jvm.MethodName)) ∈ lw_all := lw_g (lw_at lw_m5 64 rfl) rfl
theorem q1883 : (Jvm.Cond.instanceMethod ({ cls := "PeerSearch$Net", name := "force", desc := "(IILPeerSearch$Packet;)Z" } : Jvm.MethodName)) ∈ lw_all := lw_g (lw_at lw_m8 31 rfl) rfl
theorem q1884 : (Jvm.Cond.selects "PeerSearch$Net" ({ cls := "PeerSearch$Net", name := "force", desc := "(IILPeerSearch$Packet;)Z" } : Jvm.MethodName) ({ cls := "PeerSearch$Net", name := "force", desc := "(IILPeerSearch$Packet;)Z" } : Jvm.MethodName)) ∈ lw_all := lw_g (lw_at lw_m8 32 rfl) rfl
theorem q1885 : (Jvm.Cond.code ({ cls := "PeerSearch$Net", name := "force", desc := "(IILPeerSearch$Packet;)Z" } : Jvm.MethodName) prog_15_method_9_code (4 : Nat) (Option.some Jvm.ClassFile.FieldType.boolean)) ∈ lw_all := lw_g (lw_at lw_m8 33 rfl) rfl
theorem q1895 : (Jvm.Cond.instanceMethod ({ cls := "PeerSearch$Net", name := "isDue", desc := "()Z" } : Jvm.MethodName)) ∈ lw_all := lw_g (lw_at lw_m8 43 rfl) rfl
theorem q1896 : (Jvm.Cond.selects "PeerSearch$Net" ({ cls := "PeerSearch$Net", name := "isDue", desc := "()Z" } : Jvm.MethodName) ({ cls := "PeerSearch$Net", name := "isDue", desc := "()Z" } : Jvm.MethodName)) ∈ lw_all := lw_g (lw_at lw_m8 44 rfl) rfl
theorem q1897 : (Jvm.Cond.code ({ cls := "PeerSearch$Net", name := "isDue", desc := "()Z" } : Jvm.MethodName) prog_15_method_10_code (1 : Nat) (Option.some Jvm.ClassFile.FieldType.boolean)) ∈ lw_all := lw_g (lw_at lw_m8 45 rfl) rfl
theorem q1899 : (Jvm.Cond.instanceMethod ({ cls := "PeerSearch$Net", name := "take", desc := "()LPeerSearch$Datagram;" } : Jvm.MethodName)) ∈ lw_all := lw_g (lw_at lw_m8 47 rfl) rfl
theorem q1900 : (Jvm.Cond.selects "PeerSearch$Net" ({ cls := "PeerSearch$Net", name := "take", desc := "()LPeerSearch$Datagram;" } : Jvm.MethodName) ({ cls := "PeerSearch$Net", name := "take", desc := "()LPeerSearch$Datagram;" } : Jvm.MethodName)) ∈ lw_all := lw_g (lw_at lw_m8 48 rfl) rfl
theorem q1901 : (Jvm.Cond.code ({ cls := "PeerSearch$Net", name := "take", desc := "()LPeerSearch$Datagram;" } : Jvm.MethodName) prog_15_method_11_code (3 : Nat) (Option.some (Jvm.ClassFile.FieldType.object "PeerSearch$Datagram"))) ∈ lw_all := lw_g (lw_at lw_m8 49 rfl) rfl
theorem in_X7 : ∀ w ∈ wsX70, w ∈ lw_all := lw_in wsX70 [341, 343, 345, 347, 349, 351] (by decide +kernel) (by decide +kernel)
/-! PeerSearch$Sha -/
def RX8 : String := "PeerSearch$Sha"
def TX8 : u_T := fun k => match k with
  | 0 => ("PeerSearch$Sha", "sum", "[I", true)
  | 1 => ("PeerSearch$Sha", "schedule", "[I", true)
  | _ => ("PeerSearch$Sha", "block", "[B", true)
def tyX8 : Nat → FieldType := fun k => match k with
  | 0 => .array .int
  | 1 => .array .int
  | _ => .array .byte
abbrev wsX80 : List Cond := u_ws RX8 TX8 3
theorem nmX8 : ∀ a, a < 3 → ∀ b, b < 3 → a ≠ b → (TX8 a).2.1 ≠ (TX8 b).2.1 := by decide +kernel
theorem tyX8_ok : ∀ k, k < 3 → parseFieldDescriptor (TX8 k).2.2.1 = some (tyX8 k) := by decide +kernel
abbrev cX8_init : ByteArray := prog_25_method_1_code
def yX8_init : MethodName := ⟨RX8, "<init>", "()V"⟩
abbrev cX8_of : ByteArray := prog_25_method_4_code
def yX8_of : MethodName := ⟨RX8, "of", "([BILPeerSearch$Key;)V"⟩
abbrev cX8_work : ByteArray := prog_25_method_3_code
def yX8_work : MethodName := ⟨RX8, "work", "()V"⟩
abbrev cX8_mixed : ByteArray := prog_25_method_2_code
def yX8_mixed : MethodName := ⟨RX8, "mixed", "(IIII)I"⟩
theorem q181 : (Jvm.Cond.initialized "PeerSearch$Sha") ∈ lw_all := lw_g (lw_at lw_m1 9 rfl) rfl
theorem q259 : (Jvm.Cond.fieldLinkNest "PeerSearch$Sha" (44 : Nat) "PeerSearch$Key" "words" "[I" "PeerSearch") ∈ lw_tbl := lw_at lw_m1 87 rfl
theorem q355 : (Jvm.Cond.instantiable "PeerSearch$Sha" (3 : Nat)) ∈ lw_all := lw_g (lw_at lw_m1 183 rfl) rfl
theorem q357 : (Jvm.Cond.instanceMethod ({ cls := "PeerSearch$Sha", name := "<init>", desc := "()V" } : Jvm.MethodName)) ∈ lw_all := lw_g (lw_at lw_m1 185 rfl) rfl
theorem q358 : (Jvm.Cond.code ({ cls := "PeerSearch$Sha", name := "<init>", desc := "()V" } : Jvm.MethodName) prog_25_method_1_code (1 : Nat) (Option.none : Option Jvm.ClassFile.FieldType)) ∈ lw_all := lw_g (lw_at lw_m1 186 rfl) rfl
theorem q359 : (Jvm.Cond.methodLink "PeerSearch$Sha" (1 : Nat) ({ cls := "java/lang/Object", name := "<init>", desc := "()V" } : Jvm.MethodName)) ∈ lw_all := lw_g (lw_at lw_m1 187 rfl) rfl
theorem q360 : (Jvm.Cond.fieldLink "PeerSearch$Sha" (9 : Nat) "PeerSearch$Sha" "sum" "[I") ∈ lw_all := lw_g (lw_at lw_m1 188 rfl) rfl
theorem q361 : (Jvm.Cond.fieldLink "PeerSearch$Sha" (15 : Nat) "PeerSearch$Sha" "schedule" "[I") ∈ lw_all := lw_g (lw_at lw_m1 189 rfl) rfl
theorem q362 : (Jvm.Cond.fieldLink "PeerSearch$Sha" (18 : Nat) "PeerSearch$Sha" "block" "[B") ∈ lw_all := lw_g (lw_at lw_m1 190 rfl) rfl
theorem q363 : (Jvm.Cond.laysFinal "PeerSearch$Sha" "PeerSearch$Sha" "sum" "[I") ∈ lw_all := lw_g (lw_at lw_m1 191 rfl) rfl
theorem q364 : (Jvm.Cond.soleField "PeerSearch$Sha" "sum") ∈ lw_all := lw_g (lw_at lw_m1 192 rfl) rfl
theorem q365 : (Jvm.Cond.laysFinal "PeerSearch$Sha" "PeerSearch$Sha" "schedule" "[I") ∈ lw_all := lw_g (lw_at lw_m1 193 rfl) rfl
theorem q366 : (Jvm.Cond.soleField "PeerSearch$Sha" "schedule") ∈ lw_all := lw_g (lw_at lw_m1 194 rfl) rfl
theorem q367 : (Jvm.Cond.laysFinal "PeerSearch$Sha" "PeerSearch$Sha" "block" "[B") ∈ lw_all := lw_g (lw_at lw_m1 195 rfl) rfl
theorem q368 : (Jvm.Cond.soleField "PeerSearch$Sha" "block") ∈ lw_all := lw_g (lw_at lw_m1 196 rfl) rfl
theorem q369 : (Jvm.Cond.superclass "PeerSearch$Sha" "java/lang/Object") ∈ lw_all := lw_g (lw_at lw_m1 197 rfl) rfl
theorem q663 : (Jvm.Cond.instanceMethod ({ cls := "PeerSearch$Sha", name := "of", desc := "([BILPeerSearch$Key;)V" } : Jvm.MethodName)) ∈ lw_all := lw_g (lw_at lw_m3 11 rfl) rfl
theorem q664 : (Jvm.Cond.selects "PeerSearch$Sha" ({ cls := "PeerSearch$Sha", name := "of", desc := "([BILPeerSearch$Key;)V" } : Jvm.MethodName) ({ cls := "PeerSearch$Sha", name := "of", desc := "([BILPeerSearch$Key;)V" } : Jvm.MethodName)) ∈ lw_all := lw_g (lw_at lw_m3 12 rfl) rfl
theorem q665 : (Jvm.Cond.code ({ cls := "PeerSearch$Sha", name := "of", desc := "([BILPeerSearch$Key;)V" } : Jvm.MethodName) prog_25_method_4_code (9 : Nat) (Option.none : Option Jvm.ClassFile.FieldType)) ∈ lw_all := lw_g (lw_at lw_m3 13 rfl) rfl
theorem q666 : (Jvm.Cond.constant "PeerSearch$Sha" (36 : Nat) (1732584193 : Int32)) ∈ lw_all := lw_g (lw_at lw_m3 14 rfl) rfl
theorem q667 : (Jvm.Cond.constant "PeerSearch$Sha" (37 : Nat) (-271733879 : Int32)) ∈ lw_all := lw_g (lw_at lw_m3 15 rfl) rfl
theorem q668 : (Jvm.Cond.constant "PeerSearch$Sha" (38 : Nat) (-1732584194 : Int32)) ∈ lw_all := lw_g (lw_at lw_m3 16 rfl) rfl
theorem q669 : (Jvm.Cond.constant "PeerSearch$Sha" (39 : Nat) (271733878 : Int32)) ∈ lw_all := lw_g (lw_at lw_m3 17 rfl) rfl
theorem q670 : (Jvm.Cond.constant "PeerSearch$Sha" (40 : Nat) (-1009589776 : Int32)) ∈ lw_all := lw_g (lw_at lw_m3 18 rfl) rfl
theorem q671 : (Jvm.Cond.methodLink "PeerSearch$Sha" (41 : Nat) ({ cls := "PeerSearch$Sha", name := "work", desc := "()V" } : Jvm.MethodName)) ∈ lw_all := lw_g (lw_at lw_m3 19 rfl) rfl
theorem q672 : (Jvm.Cond.privateMethod ({ cls := "PeerSearch$Sha", name := "work", desc := "()V" } : Jvm.MethodName)) ∈ lw_tbl := lw_at lw_m3 20 rfl
theorem q673 : (Jvm.Cond.instanceMethod ({ cls := "PeerSearch$Sha", name := "work", desc := "()V" } : Jvm.MethodName)) ∈ lw_all := lw_g (lw_at lw_m3 21 rfl) rfl
theorem q674 : (Jvm.Cond.code ({ cls := "PeerSearch$Sha", name := "work", desc := "()V" } : Jvm.MethodName) prog_25_method_3_code (8 : Nat) (Option.none : Option Jvm.ClassFile.FieldType)) ∈ lw_all := lw_g (lw_at lw_m3 22 rfl) rfl
theorem q675 : (Jvm.Cond.methodLink "PeerSearch$Sha" (26 : Nat) ({ cls := "java/lang/Integer", name := "rotateLeft", desc := "(II)I" } : Jvm.MethodName)) ∈ lw_all := lw_g (lw_at lw_m3 23 rfl) rfl
theorem q678 : (Jvm.Cond.methodLink "PeerSearch$Sha" (32 : Nat) ({ cls := "PeerSearch$Sha", name := "mixed", desc := "(IIII)I" } : Jvm.MethodName)) ∈ lw_all := lw_g (lw_at lw_m3 26 rfl) rfl
theorem q679 : (Jvm.Cond.static ({ cls := "PeerSearch$Sha", name := "mixed", desc := "(IIII)I" } : Jvm.MethodName)) ∈ lw_all := lw_g (lw_at lw_m3 27 rfl) rfl
theorem q680 : (Jvm.Cond.code ({ cls := "PeerSearch$Sha", name := "mixed", desc := "(IIII)I" } : Jvm.MethodName) prog_25_method_2_code (4 : Nat) (Option.some Jvm.ClassFile.FieldType.int)) ∈ lw_all := lw_g (lw_at lw_m3 28 rfl) rfl
theorem q681 : (Jvm.Cond.constant "PeerSearch$Sha" (22 : Nat) (1518500249 : Int32)) ∈ lw_all := lw_g (lw_at lw_m3 29 rfl) rfl
theorem q682 : (Jvm.Cond.constant "PeerSearch$Sha" (23 : Nat) (1859775393 : Int32)) ∈ lw_all := lw_g (lw_at lw_m3 30 rfl) rfl
theorem q683 : (Jvm.Cond.constant "PeerSearch$Sha" (24 : Nat) (-1894007588 : Int32)) ∈ lw_all := lw_g (lw_at lw_m3 31 rfl) rfl
theorem q684 : (Jvm.Cond.constant "PeerSearch$Sha" (25 : Nat) (-899497514 : Int32)) ∈ lw_all := lw_g (lw_at lw_m3 32 rfl) rfl
theorem in_X8 : ∀ w ∈ wsX80, w ∈ lw_all := lw_in wsX80 [363, 365, 367] (by decide +kernel) (by decide +kernel)
/-! PeerSearch$Pool -/
def RX9 : String := "PeerSearch$Pool"
def TX9 : u_T := fun k => match k with
  | 0 => ("PeerSearch$Pool", "spare", "[LPeerSearch$Contact;", false)
  | _ => ("PeerSearch$Pool", "size", "I", false)
def tyX9 : Nat → FieldType := fun k => match k with
  | 0 => .array (.object "PeerSearch$Contact")
  | _ => .int
abbrev wsX90 : List Cond := u_ws RX9 TX9 2
theorem nmX9 : ∀ a, a < 2 → ∀ b, b < 2 → a ≠ b → (TX9 a).2.1 ≠ (TX9 b).2.1 := by decide +kernel
theorem tyX9_ok : ∀ k, k < 2 → parseFieldDescriptor (TX9 k).2.2.1 = some (tyX9 k) := by decide +kernel
abbrev cX9_init : ByteArray := prog_19_method_1_code
def yX9_init : MethodName := ⟨RX9, "<init>", "()V"⟩
abbrev cX9_give : ByteArray := prog_19_method_3_code
def yX9_give : MethodName := ⟨RX9, "give", "(LPeerSearch$Contact;)V"⟩
abbrev cX9_take : ByteArray := prog_19_method_2_code
def yX9_take : MethodName := ⟨RX9, "take", "(LPeerSearch$Key;I)LPeerSearch$Contact;"⟩
theorem q182 : (Jvm.Cond.initialized "PeerSearch$Pool") ∈ lw_all := lw_g (lw_at lw_m1 10 rfl) rfl
theorem q371 : (Jvm.Cond.instantiable "PeerSearch$Pool" (2 : Nat)) ∈ lw_all := lw_g (lw_at lw_m1 199 rfl) rfl
theorem q373 : (Jvm.Cond.instanceMethod ({ cls := "PeerSearch$Pool", name := "<init>", desc := "()V" } : Jvm.MethodName)) ∈ lw_all := lw_g (lw_at lw_m1 201 rfl) rfl
theorem q374 : (Jvm.Cond.code ({ cls := "PeerSearch$Pool", name := "<init>", desc := "()V" } : Jvm.MethodName) prog_19_method_1_code (1 : Nat) (Option.none : Option Jvm.ClassFile.FieldType)) ∈ lw_all := lw_g (lw_at lw_m1 202 rfl) rfl
theorem q375 : (Jvm.Cond.methodLink "PeerSearch$Pool" (1 : Nat) ({ cls := "java/lang/Object", name := "<init>", desc := "()V" } : Jvm.MethodName)) ∈ lw_all := lw_g (lw_at lw_m1 203 rfl) rfl
theorem q376 : (Jvm.Cond.classLink "PeerSearch$Pool" (7 : Nat) "PeerSearch$Contact") ∈ lw_all := lw_g (lw_at lw_m1 204 rfl) rfl
theorem q378 : (Jvm.Cond.fieldLink "PeerSearch$Pool" (9 : Nat) "PeerSearch$Pool" "spare" "[LPeerSearch$Contact;") ∈ lw_all := lw_g (lw_at lw_m1 206 rfl) rfl
theorem q379 : (Jvm.Cond.fieldLink "PeerSearch$Pool" (15 : Nat) "PeerSearch$Pool" "size" "I") ∈ lw_all := lw_g (lw_at lw_m1 207 rfl) rfl
theorem q380 : (Jvm.Cond.lays "PeerSearch$Pool" "PeerSearch$Pool" "spare" "[LPeerSearch$Contact;") ∈ lw_all := lw_g (lw_at lw_m1 208 rfl) rfl
theorem q381 : (Jvm.Cond.soleField "PeerSearch$Pool" "spare") ∈ lw_all := lw_g (lw_at lw_m1 209 rfl) rfl
theorem q382 : (Jvm.Cond.lays "PeerSearch$Pool" "PeerSearch$Pool" "size" "I") ∈ lw_all := lw_g (lw_at lw_m1 210 rfl) rfl
theorem q383 : (Jvm.Cond.soleField "PeerSearch$Pool" "size") ∈ lw_all := lw_g (lw_at lw_m1 211 rfl) rfl
theorem q384 : (Jvm.Cond.superclass "PeerSearch$Pool" "java/lang/Object") ∈ lw_all := lw_g (lw_at lw_m1 212 rfl) rfl
theorem q786 : (Jvm.Cond.instanceMethod ({ cls := "PeerSearch$Pool", name := "give", desc := "(LPeerSearch$Contact;)V" } : Jvm.MethodName)) ∈ lw_all := lw_g (lw_at lw_m3 134 rfl) rfl
theorem q787 : (Jvm.Cond.selects "PeerSearch$Pool" ({ cls := "PeerSearch$Pool", name := "give", desc := "(LPeerSearch$Contact;)V" } : Jvm.MethodName) ({ cls := "PeerSearch$Pool", name := "give", desc := "(LPeerSearch$Contact;)V" } : Jvm.MethodName)) ∈ lw_all := lw_g (lw_at lw_m3 135 rfl) rfl
theorem q788 : (Jvm.Cond.code ({ cls := "PeerSearch$Pool", name := "give", desc := "(LPeerSearch$Contact;)V" } : Jvm.MethodName) prog_19_method_3_code (4 : Nat) (Option.none : Option Jvm.ClassFile.FieldType)) ∈ lw_all := lw_g (lw_at lw_m3 136 rfl) rfl
theorem q1020 : (Jvm.Cond.instanceMethod ({ cls := "PeerSearch$Pool", name := "take", desc := "(LPeerSearch$Key;I)LPeerSearch$Contact;" } : Jvm.MethodName)) ∈ lw_all := lw_g (lw_at lw_m4 128 rfl) rfl
theorem q1021 : (Jvm.Cond.selects "PeerSearch$Pool" ({ cls := "PeerSearch$Pool", name := "take", desc := "(LPeerSearch$Key;I)LPeerSearch$Contact;" } : Jvm.MethodName) ({ cls := "PeerSearch$Pool", name := "take", desc := "(LPeerSearch$Key;I)LPeerSearch$Contact;" } : Jvm.MethodName)) ∈ lw_all := lw_g (lw_at lw_m4 129 rfl) rfl
theorem q1022 : (Jvm.Cond.code ({ cls := "PeerSearch$Pool", name := "take", desc := "(LPeerSearch$Key;I)LPeerSearch$Contact;" } : Jvm.MethodName) prog_19_method_2_code (4 : Nat) (Option.some (Jvm.ClassFile.FieldType.object "PeerSearch$Contact"))) ∈ lw_all := lw_g (lw_at lw_m4 130 rfl) rfl
theorem q1024 : (Jvm.Cond.methodLinkNest "PeerSearch$Pool" (19 : Nat) ({ cls := "PeerSearch$Contact", name := "<init>", desc := "()V" } : Jvm.MethodName) "PeerSearch") ∈ lw_tbl := lw_at lw_m4 132 rfl
theorem q1032 : (Jvm.Cond.fieldLinkNest "PeerSearch$Pool" (20 : Nat) "PeerSearch$Contact" "key" "LPeerSearch$Key;" "PeerSearch") ∈ lw_tbl := lw_at lw_m4 140 rfl
theorem q1037 : (Jvm.Cond.fieldLinkNest "PeerSearch$Pool" (30 : Nat) "PeerSearch$Contact" "address" "I" "PeerSearch") ∈ lw_tbl := lw_at lw_m4 145 rfl
theorem q1047 : (Jvm.Cond.methodLink "PeerSearch$Pool" (24 : Nat) ({ cls := "PeerSearch$Key", name := "set", desc := "(LPeerSearch$Key;)V" } : Jvm.MethodName)) ∈ lw_all := lw_g (lw_at lw_m4 155 rfl) rfl
theorem in_X9 : ∀ w ∈ wsX90, w ∈ lw_all := lw_in wsX90 [380, 382] (by decide +kernel) (by decide +kernel)
/-! PeerSearch$Filter -/
def RX10 : String := "PeerSearch$Filter"
def TX10 : u_T := fun k => match k with
  | 0 => ("PeerSearch$Filter", "bits", "[B", true)
  | 1 => ("PeerSearch$Filter", "bytes", "I", false)
  | 2 => ("PeerSearch$Filter", "hashes", "I", false)
  | 3 => ("PeerSearch$Filter", "sha", "LPeerSearch$Sha;", true)
  | 4 => ("PeerSearch$Filter", "two", "[B", true)
  | _ => ("PeerSearch$Filter", "sum", "LPeerSearch$Key;", true)
def tyX10 : Nat → FieldType := fun k => match k with
  | 0 => .array .byte
  | 1 => .int
  | 2 => .int
  | 3 => .object "PeerSearch$Sha"
  | 4 => .array .byte
  | _ => .object "PeerSearch$Key"
abbrev wsX100 : List Cond := u_ws RX10 TX10 6
theorem nmX10 : ∀ a, a < 6 → ∀ b, b < 6 → a ≠ b → (TX10 a).2.1 ≠ (TX10 b).2.1 := by decide +kernel
theorem tyX10_ok : ∀ k, k < 6 → parseFieldDescriptor (TX10 k).2.2.1 = some (tyX10 k) := by decide +kernel
abbrev cX10_init : ByteArray := prog_9_method_1_code
def yX10_init : MethodName := ⟨RX10, "<init>", "(LPeerSearch$Sha;)V"⟩
abbrev cX10_begin : ByteArray := prog_9_method_2_code
def yX10_begin : MethodName := ⟨RX10, "begin", "(II)V"⟩
abbrev cX10_write : ByteArray := prog_9_method_8_code
def yX10_write : MethodName := ⟨RX10, "write", "(LPeerSearch$Packet;)V"⟩
abbrev cX10_add : ByteArray := prog_9_method_5_code
def yX10_add : MethodName := ⟨RX10, "add", "(II)V"⟩
abbrev cX10_hash : ByteArray := prog_9_method_3_code
def yX10_hash : MethodName := ⟨RX10, "hash", "(II)V"⟩
abbrev cX10_bit : ByteArray := prog_9_method_4_code
def yX10_bit : MethodName := ⟨RX10, "bit", "(I)I"⟩
abbrev cX10_read : ByteArray := prog_9_method_7_code
def yX10_read : MethodName := ⟨RX10, "read", "(LPeerSearch$Packet;I)V"⟩
abbrev cX10_mayHave : ByteArray := prog_9_method_6_code
def yX10_mayHave : MethodName := ⟨RX10, "mayHave", "(II)Z"⟩
theorem q183 : (Jvm.Cond.initialized "PeerSearch$Filter") ∈ lw_all := lw_g (lw_at lw_m1 11 rfl) rfl
theorem q257 : (Jvm.Cond.fieldLinkNest "PeerSearch$Filter" (42 : Nat) "PeerSearch$Key" "words" "[I" "PeerSearch") ∈ lw_tbl := lw_at lw_m1 85 rfl
theorem q390 : (Jvm.Cond.instantiable "PeerSearch$Filter" (6 : Nat)) ∈ lw_all := lw_g (lw_at lw_m1 218 rfl) rfl
theorem q392 : (Jvm.Cond.instanceMethod ({ cls := "PeerSearch$Filter", name := "<init>", desc := "(LPeerSearch$Sha;)V" } : Jvm.MethodName)) ∈ lw_all := lw_g (lw_at lw_m1 220 rfl) rfl
theorem q393 : (Jvm.Cond.code ({ cls := "PeerSearch$Filter", name := "<init>", desc := "(LPeerSearch$Sha;)V" } : Jvm.MethodName) prog_9_method_1_code (2 : Nat) (Option.none : Option Jvm.ClassFile.FieldType)) ∈ lw_all := lw_g (lw_at lw_m1 221 rfl) rfl
theorem q394 : (Jvm.Cond.methodLink "PeerSearch$Filter" (3 : Nat) ({ cls := "java/lang/Object", name := "<init>", desc := "()V" } : Jvm.MethodName)) ∈ lw_all := lw_g (lw_at lw_m1 222 rfl) rfl
theorem q395 : (Jvm.Cond.classLink "PeerSearch$Filter" (18 : Nat) "PeerSearch$Key") ∈ lw_all := lw_g (lw_at lw_m1 223 rfl) rfl
theorem q396 : (Jvm.Cond.methodLinkNest "PeerSearch$Filter" (20 : Nat) ({ cls := "PeerSearch$Key", name := "<init>", desc := "()V" } : Jvm.MethodName) "PeerSearch") ∈ lw_tbl := lw_at lw_m1 224 rfl
theorem q397 : (Jvm.Cond.fieldLink "PeerSearch$Filter" (9 : Nat) "PeerSearch$Filter" "bits" "[B") ∈ lw_all := lw_g (lw_at lw_m1 225 rfl) rfl
theorem q398 : (Jvm.Cond.fieldLink "PeerSearch$Filter" (33 : Nat) "PeerSearch$Filter" "bytes" "I") ∈ lw_all := lw_g (lw_at lw_m1 226 rfl) rfl
theorem q399 : (Jvm.Cond.fieldLink "PeerSearch$Filter" (29 : Nat) "PeerSearch$Filter" "hashes" "I") ∈ lw_all := lw_g (lw_at lw_m1 227 rfl) rfl
theorem q400 : (Jvm.Cond.fieldLink "PeerSearch$Filter" (25 : Nat) "PeerSearch$Filter" "sha" "LPeerSearch$Sha;") ∈ lw_all := lw_g (lw_at lw_m1 228 rfl) rfl
theorem q401 : (Jvm.Cond.fieldLink "PeerSearch$Filter" (15 : Nat) "PeerSearch$Filter" "two" "[B") ∈ lw_all := lw_g (lw_at lw_m1 229 rfl) rfl
theorem q402 : (Jvm.Cond.fieldLink "PeerSearch$Filter" (21 : Nat) "PeerSearch$Filter" "sum" "LPeerSearch$Key;") ∈ lw_all := lw_g (lw_at lw_m1 230 rfl) rfl
theorem q403 : (Jvm.Cond.laysFinal "PeerSearch$Filter" "PeerSearch$Filter" "bits" "[B") ∈ lw_all := lw_g (lw_at lw_m1 231 rfl) rfl
theorem q404 : (Jvm.Cond.soleField "PeerSearch$Filter" "bits") ∈ lw_all := lw_g (lw_at lw_m1 232 rfl) rfl
theorem q405 : (Jvm.Cond.lays "PeerSearch$Filter" "PeerSearch$Filter" "bytes" "I") ∈ lw_all := lw_g (lw_at lw_m1 233 rfl) rfl
theorem q406 : (Jvm.Cond.soleField "PeerSearch$Filter" "bytes") ∈ lw_all := lw_g (lw_at lw_m1 234 rfl) rfl
theorem q407 : (Jvm.Cond.lays "PeerSearch$Filter" "PeerSearch$Filter" "hashes" "I") ∈ lw_all := lw_g (lw_at lw_m1 235 rfl) rfl
theorem q408 : (Jvm.Cond.soleField "PeerSearch$Filter" "hashes") ∈ lw_all := lw_g (lw_at lw_m1 236 rfl) rfl
theorem q409 : (Jvm.Cond.laysFinal "PeerSearch$Filter" "PeerSearch$Filter" "sha" "LPeerSearch$Sha;") ∈ lw_all := lw_g (lw_at lw_m1 237 rfl) rfl
theorem q410 : (Jvm.Cond.soleField "PeerSearch$Filter" "sha") ∈ lw_all := lw_g (lw_at lw_m1 238 rfl) rfl
theorem q411 : (Jvm.Cond.laysFinal "PeerSearch$Filter" "PeerSearch$Filter" "two" "[B") ∈ lw_all := lw_g (lw_at lw_m1 239 rfl) rfl
theorem q412 : (Jvm.Cond.soleField "PeerSearch$Filter" "two") ∈ lw_all := lw_g (lw_at lw_m2 0 rfl) rfl
theorem q413 : (Jvm.Cond.laysFinal "PeerSearch$Filter" "PeerSearch$Filter" "sum" "LPeerSearch$Key;") ∈ lw_all := lw_g (lw_at lw_m2 1 rfl) rfl
theorem q414 : (Jvm.Cond.soleField "PeerSearch$Filter" "sum") ∈ lw_all := lw_g (lw_at lw_m2 2 rfl) rfl
theorem q415 : (Jvm.Cond.superclass "PeerSearch$Filter" "java/lang/Object") ∈ lw_all := lw_g (lw_at lw_m2 3 rfl) rfl
theorem q1448 : (Jvm.Cond.instanceMethod ({ cls := "PeerSearch$Filter", name := "begin", desc := "(II)V" } : Jvm.MethodName)) ∈ lw_all := lw_g (lw_at lw_m6 76 rfl) rfl
theorem q1449 : (Jvm.Cond.selects "PeerSearch$Filter" ({ cls := "PeerSearch$Filter", name := "begin", desc := "(II)V" } : Jvm.MethodName) ({ cls := "PeerSearch$Filter", name := "begin", desc := "(II)V" } : Jvm.MethodName)) ∈ lw_all := lw_g (lw_at lw_m6 77 rfl) rfl
theorem q1450 : (Jvm.Cond.code ({ cls := "PeerSearch$Filter", name := "begin", desc := "(II)V" } : Jvm.MethodName) prog_9_method_2_code (4 : Nat) (Option.none : Option Jvm.ClassFile.FieldType)) ∈ lw_all := lw_g (lw_at lw_m6 78 rfl) rfl
theorem q1455 : (Jvm.Cond.instanceMethod ({ cls := "PeerSearch$Filter", name := "write", desc := "(LPeerSearch$Packet;)V" } : Jvm.MethodName)) ∈ lw_all := lw_g (lw_at lw_m6 83 rfl) rfl
theorem q1456 : (Jvm.Cond.selects "PeerSearch$Filter" ({ cls := "PeerSearch$Filter", name := "write", desc := "(LPeerSearch$Packet;)V" } : Jvm.MethodName) ({ cls := "PeerSearch$Filter", name := "write", desc := "(LPeerSearch$Packet;)V" } : Jvm.MethodName)) ∈ lw_all := lw_g (lw_at lw_m6 84 rfl) rfl
theorem q1457 : (Jvm.Cond.code ({ cls := "PeerSearch$Filter", name := "write", desc := "(LPeerSearch$Packet;)V" } : Jvm.MethodName) prog_9_method_8_code (3 : Nat) (Option.none : Option Jvm.ClassFile.FieldType)) ∈ lw_all := lw_g (lw_at lw_m6 85 rfl) rfl
theorem q1458 : (Jvm.Cond.methodLink "PeerSearch$Filter" (64 : Nat) ({ cls := "PeerSearch$Packet", name := "put", desc := "(II)V" } : Jvm.MethodName)) ∈ lw_all := lw_g (lw_at lw_m6 86 rfl) rfl
theorem q1540 : (Jvm.Cond.instanceMethod ({ cls := "PeerSearch$Filter", name := "add", desc := "(II)V" } : Jvm.MethodName)) ∈ lw_all := lw_g (lw_at lw_m6 168 rfl) rfl
theorem q1541 : (Jvm.Cond.selects "PeerSearch$Filter" ({ cls := "PeerSearch$Filter", name := "add", desc := "(II)V" } : Jvm.MethodName) ({ cls := "PeerSearch$Filter", name := "add", desc := "(II)V" } : Jvm.MethodName)) ∈ lw_all := lw_g (lw_at lw_m6 169 rfl) rfl
theorem q1542 : (Jvm.Cond.code ({ cls := "PeerSearch$Filter", name := "add", desc := "(II)V" } : Jvm.MethodName) prog_9_method_5_code (4 : Nat) (Option.none : Option Jvm.ClassFile.FieldType)) ∈ lw_all := lw_g (lw_at lw_m6 170 rfl) rfl
theorem q1543 : (Jvm.Cond.methodLink "PeerSearch$Filter" (50 : Nat) ({ cls := "PeerSearch$Filter", name := "hash", desc := "(II)V" } : Jvm.MethodName)) ∈ lw_all := lw_g (lw_at lw_m6 171 rfl) rfl
theorem q1544 : (Jvm.Cond.privateMethod ({ cls := "PeerSearch$Filter", name := "hash", desc := "(II)V" } : Jvm.MethodName)) ∈ lw_tbl := lw_at lw_m6 172 rfl
theorem q1545 : (Jvm.Cond.instanceMethod ({ cls := "PeerSearch$Filter", name := "hash", desc := "(II)V" } : Jvm.MethodName)) ∈ lw_all := lw_g (lw_at lw_m6 173 rfl) rfl
theorem q1546 : (Jvm.Cond.code ({ cls := "PeerSearch$Filter", name := "hash", desc := "(II)V" } : Jvm.MethodName) prog_9_method_3_code (3 : Nat) (Option.none : Option Jvm.ClassFile.FieldType)) ∈ lw_all := lw_g (lw_at lw_m6 174 rfl) rfl
theorem q1547 : (Jvm.Cond.methodLink "PeerSearch$Filter" (36 : Nat) ({ cls := "PeerSearch$Sha", name := "of", desc := "([BILPeerSearch$Key;)V" } : Jvm.MethodName)) ∈ lw_all := lw_g (lw_at lw_m6 175 rfl) rfl
theorem q1548 : (Jvm.Cond.methodLink "PeerSearch$Filter" (54 : Nat) ({ cls := "PeerSearch$Filter", name := "bit", desc := "(I)I" } : Jvm.MethodName)) ∈ lw_all := lw_g (lw_at lw_m6 176 rfl) rfl
theorem q1549 : (Jvm.Cond.privateMethod ({ cls := "PeerSearch$Filter", name := "bit", desc := "(I)I" } : Jvm.MethodName)) ∈ lw_tbl := lw_at lw_m6 177 rfl
theorem q1550 : (Jvm.Cond.instanceMethod ({ cls := "PeerSearch$Filter", name := "bit", desc := "(I)I" } : Jvm.MethodName)) ∈ lw_all := lw_g (lw_at lw_m6 178 rfl) rfl
theorem q1551 : (Jvm.Cond.code ({ cls := "PeerSearch$Filter", name := "bit", desc := "(I)I" } : Jvm.MethodName) prog_9_method_4_code (6 : Nat) (Option.some Jvm.ClassFile.FieldType.int)) ∈ lw_all := lw_g (lw_at lw_m6 179 rfl) rfl
theorem q1552 : (Jvm.Cond.constantLong "PeerSearch$Filter" (46 : Nat) (4294967295 : Int64)) ∈ lw_all := lw_g (lw_at lw_m6 180 rfl) rfl
theorem q1553 : (Jvm.Cond.constantLong "PeerSearch$Filter" (48 : Nat) (8 : Int64)) ∈ lw_all := lw_g (lw_at lw_m6 181 rfl) rfl
theorem q1560 : (Jvm.Cond.instanceMethod ({ cls := "PeerSearch$Filter", name := "read", desc := "(LPeerSearch$Packet;I)V" } : Jvm.MethodName)) ∈ lw_all := lw_g (lw_at lw_m6 188 rfl) rfl
theorem q1561 : (Jvm.Cond.selects "PeerSearch$Filter" ({ cls := "PeerSearch$Filter", name := "read", desc := "(LPeerSearch$Packet;I)V" } : Jvm.MethodName) ({ cls := "PeerSearch$Filter", name := "read", desc := "(LPeerSearch$Packet;I)V" } : Jvm.MethodName)) ∈ lw_all := lw_g (lw_at lw_m6 189 rfl) rfl
theorem q1562 : (Jvm.Cond.code ({ cls := "PeerSearch$Filter", name := "read", desc := "(LPeerSearch$Packet;I)V" } : Jvm.MethodName) prog_9_method_7_code (4 : Nat) (Option.none : Option Jvm.ClassFile.FieldType)) ∈ lw_all := lw_g (lw_at lw_m6 190 rfl) rfl
theorem q1563 : (Jvm.Cond.methodLink "PeerSearch$Filter" (58 : Nat) ({ cls := "PeerSearch$Packet", name := "get", desc := "(II)I" } : Jvm.MethodName)) ∈ lw_all := lw_g (lw_at lw_m6 191 rfl) rfl
theorem q1566 : (Jvm.Cond.instanceMethod ({ cls := "PeerSearch$Filter", name := "mayHave", desc := "(II)Z" } : Jvm.MethodName)) ∈ lw_all := lw_g (lw_at lw_m6 194 rfl) rfl
theorem q1567 : (Jvm.Cond.selects "PeerSearch$Filter" ({ cls := "PeerSearch$Filter", name := "mayHave", desc := "(II)Z" } : Jvm.MethodName) ({ cls := "PeerSearch$Filter", name := "mayHave", desc := "(II)Z" } : Jvm.MethodName)) ∈ lw_all := lw_g (lw_at lw_m6 195 rfl) rfl
theorem q1568 : (Jvm.Cond.code ({ cls := "PeerSearch$Filter", name := "mayHave", desc := "(II)Z" } : Jvm.MethodName) prog_9_method_6_code (4 : Nat) (Option.some Jvm.ClassFile.FieldType.boolean)) ∈ lw_all := lw_g (lw_at lw_m6 196 rfl) rfl
theorem in_X10 : ∀ w ∈ wsX100, w ∈ lw_all := lw_in wsX100 [403, 405, 407, 409, 411, 413] (by decide +kernel) (by decide +kernel)
/-! PeerSearch$Work -/
def RX11 : String := "PeerSearch$Work"
def TX11 : u_T := fun k => match k with
  | 0 => ("PeerSearch$Work", "board", "LPeerSearch$Board;", true)
  | 1 => ("PeerSearch$Work", "lookup", "LPeerSearch$Lookup;", true)
  | 2 => ("PeerSearch$Work", "peer", "LPeerSearch$Peer;", false)
  | 3 => ("PeerSearch$Work", "plan", "LPeerSearch$Plan;", false)
  | 4 => ("PeerSearch$Work", "task", "LPeerSearch$Task;", false)
  | 5 => ("PeerSearch$Work", "life", "I", false)
  | 6 => ("PeerSearch$Work", "goes", "Z", false)
  | 7 => ("PeerSearch$Work", "target", "LPeerSearch$Key;", true)
  | 8 => ("PeerSearch$Work", "joining", "LPeerSearch$Joining;", true)
  | 9 => ("PeerSearch$Work", "looking", "LPeerSearch$Looking;", true)
  | 10 => ("PeerSearch$Work", "publishing", "LPeerSearch$Publishing;", false)
  | _ => ("PeerSearch$Work", "asking", "LPeerSearch$Asking;", false)
def tyX11 : Nat → FieldType := fun k => match k with
  | 0 => .object "PeerSearch$Board"
  | 1 => .object "PeerSearch$Lookup"
  | 2 => .object "PeerSearch$Peer"
  | 3 => .object "PeerSearch$Plan"
  | 4 => .object "PeerSearch$Task"
  | 5 => .int
  | 6 => .boolean
  | 7 => .object "PeerSearch$Key"
  | 8 => .object "PeerSearch$Joining"
  | 9 => .object "PeerSearch$Looking"
  | 10 => .object "PeerSearch$Publishing"
  | _ => .object "PeerSearch$Asking"
abbrev wsX110 : List Cond := u_ws RX11 TX11 12
theorem nmX11 : ∀ a, a < 12 → ∀ b, b < 12 → a ≠ b → (TX11 a).2.1 ≠ (TX11 b).2.1 := by decide +kernel
theorem tyX11_ok : ∀ k, k < 12 → parseFieldDescriptor (TX11 k).2.2.1 = some (tyX11 k) := by decide +kernel
abbrev cX11_init : ByteArray := prog_30_method_1_code
def yX11_init : MethodName := ⟨RX11, "<init>", "(LPeerSearch$Board;)V"⟩
abbrev cX11_start : ByteArray := prog_30_method_4_code
def yX11_start : MethodName := ⟨RX11, "start", "(LPeerSearch$Peer;LPeerSearch$Plan;LPeerSearch$Task;)V"⟩
abbrev cX11_look : ByteArray := prog_30_method_6_code
def yX11_look : MethodName := ⟨RX11, "look", "(LPeerSearch$Key;Z)Z"⟩
abbrev cX11_end : ByteArray := prog_30_method_5_code
def yX11_end : MethodName := ⟨RX11, "end", "(I)V"⟩
abbrev cX11_goOn : ByteArray := prog_30_method_7_code
def yX11_goOn : MethodName := ⟨RX11, "goOn", "()V"⟩
abbrev cX11_ask : ByteArray := prog_30_method_10_code
def yX11_ask : MethodName := ⟨RX11, "ask", "(LPeerSearch$Key;I)Z"⟩
abbrev cX11_ask_2 : ByteArray := prog_30_method_9_code
def yX11_ask_2 : MethodName := ⟨RX11, "ask", "(LPeerSearch$Key;II)Z"⟩
abbrev cX11_askNext : ByteArray := prog_30_method_8_code
def yX11_askNext : MethodName := ⟨RX11, "askNext", "()Z"⟩
abbrev cX11_publishing : ByteArray := prog_30_method_2_code
def yX11_publishing : MethodName := ⟨RX11, "publishing", "()LPeerSearch$Publishing;"⟩
abbrev cX11_asking : ByteArray := prog_30_method_3_code
def yX11_asking : MethodName := ⟨RX11, "asking", "()LPeerSearch$Asking;"⟩
abbrev cX11_answered : ByteArray := prog_30_method_11_code
def yX11_answered : MethodName := ⟨RX11, "answered", "(ILPeerSearch$Key;LPeerSearch$Packet;)V"⟩
abbrev cX11_failed : ByteArray := prog_30_method_12_code
def yX11_failed : MethodName := ⟨RX11, "failed", "(ILPeerSearch$Key;)V"⟩
theorem q184 : (Jvm.Cond.initialized "PeerSearch$Work") ∈ lw_all := lw_g (lw_at lw_m1 12 rfl) rfl
theorem q419 : (Jvm.Cond.fieldLinkNest "PeerSearch$Work" (38 : Nat) "PeerSearch$Board" "most" "I" "PeerSearch") ∈ lw_tbl := lw_at lw_m2 7 rfl
theorem q423 : (Jvm.Cond.fieldLinkNest "PeerSearch$Work" (147 : Nat) "PeerSearch$Board" "alpha" "I" "PeerSearch") ∈ lw_tbl := lw_at lw_m2 11 rfl
theorem q439 : (Jvm.Cond.fieldLinkNest "PeerSearch$Work" (121 : Nat) "PeerSearch$Board" "best" "[LPeerSearch$Contact;" "PeerSearch") ∈ lw_tbl := lw_at lw_m2 27 rfl
theorem q454 : (Jvm.Cond.fieldLinkNest "PeerSearch$Work" (198 : Nat) "PeerSearch$Board" "told" "LPeerSearch$Key;" "PeerSearch") ∈ lw_tbl := lw_at lw_m2 42 rfl
theorem q489 : (Jvm.Cond.instantiable "PeerSearch$Work" (12 : Nat)) ∈ lw_all := lw_g (lw_at lw_m2 77 rfl) rfl
theorem q491 : (Jvm.Cond.instanceMethod ({ cls := "PeerSearch$Work", name := "<init>", desc := "(LPeerSearch$Board;)V" } : Jvm.MethodName)) ∈ lw_all := lw_g (lw_at lw_m2 79 rfl) rfl
theorem q492 : (Jvm.Cond.code ({ cls := "PeerSearch$Work", name := "<init>", desc := "(LPeerSearch$Board;)V" } : Jvm.MethodName) prog_30_method_1_code (2 : Nat) (Option.none : Option Jvm.ClassFile.FieldType)) ∈ lw_all := lw_g (lw_at lw_m2 80 rfl) rfl
theorem q493 : (Jvm.Cond.methodLink "PeerSearch$Work" (3 : Nat) ({ cls := "java/lang/Object", name := "<init>", desc := "()V" } : Jvm.MethodName)) ∈ lw_all := lw_g (lw_at lw_m2 81 rfl) rfl
theorem q494 : (Jvm.Cond.classLink "PeerSearch$Work" (9 : Nat) "PeerSearch$Key") ∈ lw_all := lw_g (lw_at lw_m2 82 rfl) rfl
theorem q495 : (Jvm.Cond.methodLinkNest "PeerSearch$Work" (11 : Nat) ({ cls := "PeerSearch$Key", name := "<init>", desc := "()V" } : Jvm.MethodName) "PeerSearch") ∈ lw_tbl := lw_at lw_m2 83 rfl
theorem q496 : (Jvm.Cond.classLink "PeerSearch$Work" (18 : Nat) "PeerSearch$Joining") ∈ lw_all := lw_g (lw_at lw_m2 84 rfl) rfl
theorem q498 : (Jvm.Cond.methodLinkNest "PeerSearch$Work" (20 : Nat) ({ cls := "PeerSearch$Joining", name := "<init>", desc := "()V" } : Jvm.MethodName) "PeerSearch") ∈ lw_tbl := lw_at lw_m2 86 rfl
theorem q515 : (Jvm.Cond.classLink "PeerSearch$Work" (25 : Nat) "PeerSearch$Looking") ∈ lw_all := lw_g (lw_at lw_m2 103 rfl) rfl
theorem q517 : (Jvm.Cond.methodLinkNest "PeerSearch$Work" (27 : Nat) ({ cls := "PeerSearch$Looking", name := "<init>", desc := "()V" } : Jvm.MethodName) "PeerSearch") ∈ lw_tbl := lw_at lw_m2 105 rfl
theorem q522 : (Jvm.Cond.classLink "PeerSearch$Work" (36 : Nat) "PeerSearch$Lookup") ∈ lw_all := lw_g (lw_at lw_m2 110 rfl) rfl
theorem q524 : (Jvm.Cond.methodLink "PeerSearch$Work" (44 : Nat) ({ cls := "PeerSearch$Lookup", name := "<init>", desc := "(I)V" } : Jvm.MethodName)) ∈ lw_all := lw_g (lw_at lw_m2 112 rfl) rfl
theorem q534 : (Jvm.Cond.fieldLinkNest "PeerSearch$Work" (163 : Nat) "PeerSearch$Lookup" "target" "LPeerSearch$Key;" "PeerSearch") ∈ lw_tbl := lw_at lw_m2 122 rfl
theorem q538 : (Jvm.Cond.fieldLinkNest "PeerSearch$Work" (144 : Nat) "PeerSearch$Lookup" "waits" "I" "PeerSearch") ∈ lw_tbl := lw_at lw_m2 126 rfl
theorem q540 : (Jvm.Cond.fieldLinkNest "PeerSearch$Work" (157 : Nat) "PeerSearch$Lookup" "seeks" "Z" "PeerSearch") ∈ lw_tbl := lw_at lw_m2 128 rfl
theorem q554 : (Jvm.Cond.fieldLink "PeerSearch$Work" (32 : Nat) "PeerSearch$Work" "board" "LPeerSearch$Board;") ∈ lw_all := lw_g (lw_at lw_m2 142 rfl) rfl
theorem q557 : (Jvm.Cond.fieldLink "PeerSearch$Work" (47 : Nat) "PeerSearch$Work" "lookup" "LPeerSearch$Lookup;") ∈ lw_all := lw_g (lw_at lw_m2 145 rfl) rfl
theorem q563 : (Jvm.Cond.fieldLink "PeerSearch$Work" (67 : Nat) "PeerSearch$Work" "peer" "LPeerSearch$Peer;") ∈ lw_all := lw_g (lw_at lw_m2 151 rfl) rfl
theorem q566 : (Jvm.Cond.fieldLink "PeerSearch$Work" (71 : Nat) "PeerSearch$Work" "plan" "LPeerSearch$Plan;") ∈ lw_all := lw_g (lw_at lw_m2 154 rfl) rfl
theorem q569 : (Jvm.Cond.fieldLink "PeerSearch$Work" (75 : Nat) "PeerSearch$Work" "task" "LPeerSearch$Task;") ∈ lw_all := lw_g (lw_at lw_m2 157 rfl) rfl
theorem q571 : (Jvm.Cond.fieldLink "PeerSearch$Work" (83 : Nat) "PeerSearch$Work" "life" "I") ∈ lw_all := lw_g (lw_at lw_m2 159 rfl) rfl
theorem q573 : (Jvm.Cond.fieldLink "PeerSearch$Work" (79 : Nat) "PeerSearch$Work" "goes" "Z") ∈ lw_all := lw_g (lw_at lw_m2 161 rfl) rfl
theorem q575 : (Jvm.Cond.fieldLink "PeerSearch$Work" (12 : Nat) "PeerSearch$Work" "target" "LPeerSearch$Key;") ∈ lw_all := lw_g (lw_at lw_m2 163 rfl) rfl
theorem q579 : (Jvm.Cond.fieldLink "PeerSearch$Work" (21 : Nat) "PeerSearch$Work" "joining" "LPeerSearch$Joining;") ∈ lw_all := lw_g (lw_at lw_m2 167 rfl) rfl
theorem q581 : (Jvm.Cond.fieldLink "PeerSearch$Work" (28 : Nat) "PeerSearch$Work" "looking" "LPeerSearch$Looking;") ∈ lw_all := lw_g (lw_at lw_m2 169 rfl) rfl
theorem q583 : (Jvm.Cond.fieldLink "PeerSearch$Work" (51 : Nat) "PeerSearch$Work" "publishing" "LPeerSearch$Publishing;") ∈ lw_all := lw_g (lw_at lw_m2 171 rfl) rfl
theorem q584 : (Jvm.Cond.fieldLink "PeerSearch$Work" (58 : Nat) "PeerSearch$Work" "asking" "LPeerSearch$Asking;") ∈ lw_all := lw_g (lw_at lw_m2 172 rfl) rfl
theorem q585 : (Jvm.Cond.laysFinal "PeerSearch$Work" "PeerSearch$Work" "board" "LPeerSearch$Board;") ∈ lw_all := lw_g (lw_at lw_m2 173 rfl) rfl
theorem q586 : (Jvm.Cond.soleField "PeerSearch$Work" "board") ∈ lw_all := lw_g (lw_at lw_m2 174 rfl) rfl
theorem q587 : (Jvm.Cond.laysFinal "PeerSearch$Work" "PeerSearch$Work" "lookup" "LPeerSearch$Lookup;") ∈ lw_all := lw_g (lw_at lw_m2 175 rfl) rfl
theorem q588 : (Jvm.Cond.soleField "PeerSearch$Work" "lookup") ∈ lw_all := lw_g (lw_at lw_m2 176 rfl) rfl
theorem q589 : (Jvm.Cond.lays "PeerSearch$Work" "PeerSearch$Work" "peer" "LPeerSearch$Peer;") ∈ lw_all := lw_g (lw_at lw_m2 177 rfl) rfl
theorem q590 : (Jvm.Cond.soleField "PeerSearch$Work" "peer") ∈ lw_all := lw_g (lw_at lw_m2 178 rfl) rfl
theorem q591 : (Jvm.Cond.lays "PeerSearch$Work" "PeerSearch$Work" "plan" "LPeerSearch$Plan;") ∈ lw_all := lw_g (lw_at lw_m2 179 rfl) rfl
theorem q592 : (Jvm.Cond.soleField "PeerSearch$Work" "plan") ∈ lw_all := lw_g (lw_at lw_m2 180 rfl) rfl
theorem q593 : (Jvm.Cond.lays "PeerSearch$Work" "PeerSearch$Work" "task" "LPeerSearch$Task;") ∈ lw_all := lw_g (lw_at lw_m2 181 rfl) rfl
theorem q594 : (Jvm.Cond.soleField "PeerSearch$Work" "task") ∈ lw_all := lw_g (lw_at lw_m2 182 rfl) rfl
theorem q595 : (Jvm.Cond.lays "PeerSearch$Work" "PeerSearch$Work" "life" "I") ∈ lw_all := lw_g (lw_at lw_m2 183 rfl) rfl
theorem q596 : (Jvm.Cond.soleField "PeerSearch$Work" "life") ∈ lw_all := lw_g (lw_at lw_m2 184 rfl) rfl
theorem q597 : (Jvm.Cond.lays "PeerSearch$Work" "PeerSearch$Work" "goes" "Z") ∈ lw_all := lw_g (lw_at lw_m2 185 rfl) rfl
theorem q598 : (Jvm.Cond.soleField "PeerSearch$Work" "goes") ∈ lw_all := lw_g (lw_at lw_m2 186 rfl) rfl
theorem q599 : (Jvm.Cond.laysFinal "PeerSearch$Work" "PeerSearch$Work" "target" "LPeerSearch$Key;") ∈ lw_all := lw_g (lw_at lw_m2 187 rfl) rfl
theorem q600 : (Jvm.Cond.soleField "PeerSearch$Work" "target") ∈ lw_all := lw_g (lw_at lw_m2 188 rfl) rfl
theorem q601 : (Jvm.Cond.laysFinal "PeerSearch$Work" "PeerSearch$Work" "joining" "LPeerSearch$Joining;") ∈ lw_all := lw_g (lw_at lw_m2 189 rfl) rfl
theorem q602 : (Jvm.Cond.soleField "PeerSearch$Work" "joining") ∈ lw_all := lw_g (lw_at lw_m2 190 rfl) rfl
theorem q603 : (Jvm.Cond.laysFinal "PeerSearch$Work" "PeerSearch$Work" "looking" "LPeerSearch$Looking;") ∈ lw_all := lw_g (lw_at lw_m2 191 rfl) rfl
theorem q604 : (Jvm.Cond.soleField "PeerSearch$Work" "looking") ∈ lw_all := lw_g (lw_at lw_m2 192 rfl) rfl
theorem q605 : (Jvm.Cond.lays "PeerSearch$Work" "PeerSearch$Work" "publishing" "LPeerSearch$Publishing;") ∈ lw_all := lw_g (lw_at lw_m2 193 rfl) rfl
theorem q606 : (Jvm.Cond.soleField "PeerSearch$Work" "publishing") ∈ lw_all := lw_g (lw_at lw_m2 194 rfl) rfl
theorem q607 : (Jvm.Cond.lays "PeerSearch$Work" "PeerSearch$Work" "asking" "LPeerSearch$Asking;") ∈ lw_all := lw_g (lw_at lw_m2 195 rfl) rfl
theorem q608 : (Jvm.Cond.soleField "PeerSearch$Work" "asking") ∈ lw_all := lw_g (lw_at lw_m2 196 rfl) rfl
theorem q609 : (Jvm.Cond.superclass "PeerSearch$Work" "java/lang/Object") ∈ lw_all := lw_g (lw_at lw_m2 197 rfl) rfl
theorem q850 : (Jvm.Cond.fieldLinkNest "PeerSearch$Work" (108 : Nat) "PeerSearch$Peer" "number" "I" "PeerSearch") ∈ lw_tbl := lw_at lw_m3 198 rfl
theorem q855 : (Jvm.Cond.fieldLinkNest "PeerSearch$Work" (103 : Nat) "PeerSearch$Peer" "key" "LPeerSearch$Key;" "PeerSearch") ∈ lw_tbl := lw_at lw_m3 203 rfl
theorem q864 : (Jvm.Cond.fieldLinkNest "PeerSearch$Work" (117 : Nat) "PeerSearch$Peer" "table" "LPeerSearch$Table;" "PeerSearch") ∈ lw_tbl := lw_at lw_m3 212 rfl
theorem q1034 : (Jvm.Cond.fieldLinkNest "PeerSearch$Work" (131 : Nat) "PeerSearch$Contact" "key" "LPeerSearch$Key;" "PeerSearch") ∈ lw_tbl := lw_at lw_m4 142 rfl
theorem q1038 : (Jvm.Cond.fieldLinkNest "PeerSearch$Work" (134 : Nat) "PeerSearch$Contact" "address" "I" "PeerSearch") ∈ lw_tbl := lw_at lw_m4 146 rfl
theorem q1215 : (Jvm.Cond.fieldLinkNest "PeerSearch$Work" (95 : Nat) "PeerSearch$Task" "state" "I" "PeerSearch") ∈ lw_tbl := lw_at lw_m5 83 rfl
theorem q1217 : (Jvm.Cond.fieldLinkNest "PeerSearch$Work" (177 : Nat) "PeerSearch$Task" "asked" "I" "PeerSearch") ∈ lw_tbl := lw_at lw_m5 85 rfl
theorem q1242 : (Jvm.Cond.instanceMethod ({ cls := "PeerSearch$Work", name := "start", desc := "(LPeerSearch$Peer;LPeerSearch$Plan;LPeerSearch$Task;)V" } : Jvm.MethodName)) ∈ lw_all := lw_g (lw_at lw_m5 110 rfl) rfl
theorem q1243 : (Jvm.Cond.selects "PeerSearch$Work" ({ cls := "PeerSearch$Work", name := "start", desc := "(LPeerSearch$Peer;LPeerSearch$Plan;LPeerSearch$Task;)V" } : Jvm.MethodName) ({ cls := "PeerSearch$Work", name := "start", desc := "(LPeerSearch$Peer;LPeerSearch$Plan;LPeerSearch$Task;)V" } : Jvm.MethodName)) ∈ lw_all := lw_g (lw_at lw_m5 111 rfl) rfl
theorem q1244 : (Jvm.Cond.code ({ cls := "PeerSearch$Work", name := "start", desc := "(LPeerSearch$Peer;LPeerSearch$Plan;LPeerSearch$Task;)V" } : Jvm.MethodName) prog_30_method_4_code (4 : Nat) (Option.none : Option Jvm.ClassFile.FieldType)) ∈ lw_all := lw_g (lw_at lw_m5 112 rfl) rfl
theorem q1245 : (Jvm.Cond.methodLink "PeerSearch$Work" (86 : Nat) ({ cls := "PeerSearch$Plan", name := "begin", desc := "(LPeerSearch$Work;)Z" } : Jvm.MethodName)) ∈ lw_all := lw_g (lw_at lw_m5 113 rfl) rfl
theorem q1252 : (Jvm.Cond.instanceMethod ({ cls := "PeerSearch$Work", name := "look", desc := "(LPeerSearch$Key;Z)Z" } : Jvm.MethodName)) ∈ lw_all := lw_g (lw_at lw_m5 120 rfl) rfl
theorem q1253 : (Jvm.Cond.selects "PeerSearch$Work" ({ cls := "PeerSearch$Work", name := "look", desc := "(LPeerSearch$Key;Z)Z" } : Jvm.MethodName) ({ cls := "PeerSearch$Work", name := "look", desc := "(LPeerSearch$Key;Z)Z" } : Jvm.MethodName)) ∈ lw_all := lw_g (lw_at lw_m5 121 rfl) rfl
theorem q1254 : (Jvm.Cond.code ({ cls := "PeerSearch$Work", name := "look", desc := "(LPeerSearch$Key;Z)Z" } : Jvm.MethodName) prog_30_method_6_code (5 : Nat) (Option.some Jvm.ClassFile.FieldType.boolean)) ∈ lw_all := lw_g (lw_at lw_m5 122 rfl) rfl
theorem q1255 : (Jvm.Cond.methodLink "PeerSearch$Work" (100 : Nat) ({ cls := "PeerSearch$Lookup", name := "begin", desc := "(LPeerSearch$Key;Z)V" } : Jvm.MethodName)) ∈ lw_all := lw_g (lw_at lw_m5 123 rfl) rfl
theorem q1260 : (Jvm.Cond.methodLink "PeerSearch$Work" (113 : Nat) ({ cls := "PeerSearch$Lookup", name := "add", desc := "(LPeerSearch$Key;II)V" } : Jvm.MethodName)) ∈ lw_all := lw_g (lw_at lw_m5 128 rfl) rfl
theorem q1281 : (Jvm.Cond.fieldLinkNest "PeerSearch$Work" (170 : Nat) "PeerSearch$Entry" "key" "LPeerSearch$Key;" "PeerSearch") ∈ lw_tbl := lw_at lw_m5 149 rfl
theorem q1286 : (Jvm.Cond.fieldLinkNest "PeerSearch$Work" (171 : Nat) "PeerSearch$Entry" "address" "I" "PeerSearch") ∈ lw_tbl := lw_at lw_m5 154 rfl
theorem q1288 : (Jvm.Cond.fieldLinkNest "PeerSearch$Work" (176 : Nat) "PeerSearch$Entry" "state" "I" "PeerSearch") ∈ lw_tbl := lw_at lw_m5 156 rfl
theorem q1291 : (Jvm.Cond.fieldLinkNest "PeerSearch$Work" (195 : Nat) "PeerSearch$Entry" "count" "I" "PeerSearch") ∈ lw_tbl := lw_at lw_m5 159 rfl
theorem q1306 : (Jvm.Cond.methodLink "PeerSearch$Work" (125 : Nat) ({ cls := "PeerSearch$Table", name := "nearest", desc := "(LPeerSearch$Key;LPeerSearch$Key;[LPeerSearch$Contact;)I" } : Jvm.MethodName)) ∈ lw_all := lw_g (lw_at lw_m5 174 rfl) rfl
theorem q1330 : (Jvm.Cond.instanceMethod ({ cls := "PeerSearch$Work", name := "end", desc := "(I)V" } : Jvm.MethodName)) ∈ lw_all := lw_g (lw_at lw_m5 198 rfl) rfl
theorem q1331 : (Jvm.Cond.selects "PeerSearch$Work" ({ cls := "PeerSearch$Work", name := "end", desc := "(I)V" } : Jvm.MethodName) ({ cls := "PeerSearch$Work", name := "end", desc := "(I)V" } : Jvm.MethodName)) ∈ lw_all := lw_g (lw_at lw_m5 199 rfl) rfl
theorem q1332 : (Jvm.Cond.code ({ cls := "PeerSearch$Work", name := "end", desc := "(I)V" } : Jvm.MethodName) prog_30_method_5_code (2 : Nat) (Option.none : Option Jvm.ClassFile.FieldType)) ∈ lw_all := lw_g (lw_at lw_m5 200 rfl) rfl
theorem q1356 : (Jvm.Cond.methodLink "PeerSearch$Work" (92 : Nat) ({ cls := "PeerSearch$Work", name := "goOn", desc := "()V" } : Jvm.MethodName)) ∈ lw_all := lw_g (lw_at lw_m5 224 rfl) rfl
theorem q1357 : (Jvm.Cond.instanceMethod ({ cls := "PeerSearch$Work", name := "goOn", desc := "()V" } : Jvm.MethodName)) ∈ lw_all := lw_g (lw_at lw_m5 225 rfl) rfl
theorem q1358 : (Jvm.Cond.selects "PeerSearch$Work" ({ cls := "PeerSearch$Work", name := "goOn", desc := "()V" } : Jvm.MethodName) ({ cls := "PeerSearch$Work", name := "goOn", desc := "()V" } : Jvm.MethodName)) ∈ lw_all := lw_g (lw_at lw_m5 226 rfl) rfl
theorem q1359 : (Jvm.Cond.code ({ cls := "PeerSearch$Work", name := "goOn", desc := "()V" } : Jvm.MethodName) prog_30_method_7_code (2 : Nat) (Option.none : Option Jvm.ClassFile.FieldType)) ∈ lw_all := lw_g (lw_at lw_m5 227 rfl) rfl
theorem q1360 : (Jvm.Cond.methodLink "PeerSearch$Work" (137 : Nat) ({ cls := "PeerSearch$Lookup", name := "isOver", desc := "()Z" } : Jvm.MethodName)) ∈ lw_all := lw_g (lw_at lw_m5 228 rfl) rfl
theorem q1372 : (Jvm.Cond.methodLink "PeerSearch$Work" (141 : Nat) ({ cls := "PeerSearch$Plan", name := "looked", desc := "(LPeerSearch$Work;)Z" } : Jvm.MethodName)) ∈ lw_all := lw_g (lw_at lw_m6 0 rfl) rfl
theorem q1605 : (Jvm.Cond.instanceMethod ({ cls := "PeerSearch$Work", name := "ask", desc := "(LPeerSearch$Key;I)Z" } : Jvm.MethodName)) ∈ lw_all := lw_g (lw_at lw_m6 233 rfl) rfl
theorem q1606 : (Jvm.Cond.selects "PeerSearch$Work" ({ cls := "PeerSearch$Work", name := "ask", desc := "(LPeerSearch$Key;I)Z" } : Jvm.MethodName) ({ cls := "PeerSearch$Work", name := "ask", desc := "(LPeerSearch$Key;I)Z" } : Jvm.MethodName)) ∈ lw_all := lw_g (lw_at lw_m6 234 rfl) rfl
theorem q1607 : (Jvm.Cond.code ({ cls := "PeerSearch$Work", name := "ask", desc := "(LPeerSearch$Key;I)Z" } : Jvm.MethodName) prog_30_method_10_code (3 : Nat) (Option.some Jvm.ClassFile.FieldType.boolean)) ∈ lw_all := lw_g (lw_at lw_m6 235 rfl) rfl
theorem q1608 : (Jvm.Cond.methodLink "PeerSearch$Work" (172 : Nat) ({ cls := "PeerSearch$Work", name := "ask", desc := "(LPeerSearch$Key;II)Z" } : Jvm.MethodName)) ∈ lw_all := lw_g (lw_at lw_m6 236 rfl) rfl
theorem q1609 : (Jvm.Cond.privateMethod ({ cls := "PeerSearch$Work", name := "ask", desc := "(LPeerSearch$Key;II)Z" } : Jvm.MethodName)) ∈ lw_tbl := lw_at lw_m6 237 rfl
theorem q1610 : (Jvm.Cond.instanceMethod ({ cls := "PeerSearch$Work", name := "ask", desc := "(LPeerSearch$Key;II)Z" } : Jvm.MethodName)) ∈ lw_all := lw_g (lw_at lw_m6 238 rfl) rfl
theorem q1611 : (Jvm.Cond.code ({ cls := "PeerSearch$Work", name := "ask", desc := "(LPeerSearch$Key;II)Z" } : Jvm.MethodName) prog_30_method_9_code (4 : Nat) (Option.some Jvm.ClassFile.FieldType.boolean)) ∈ lw_all := lw_g (lw_at lw_m6 239 rfl) rfl
theorem q1612 : (Jvm.Cond.methodLink "PeerSearch$Work" (180 : Nat) ({ cls := "PeerSearch$Peer", name := "ask", desc := "(LPeerSearch$Key;ILPeerSearch$Work;ILPeerSearch$Bucket;)Z" } : Jvm.MethodName)) ∈ lw_all := lw_g (lw_at lw_m7 0 rfl) rfl
theorem q1644 : (Jvm.Cond.methodLink "PeerSearch$Work" (150 : Nat) ({ cls := "PeerSearch$Work", name := "askNext", desc := "()Z" } : Jvm.MethodName)) ∈ lw_all := lw_g (lw_at lw_m7 32 rfl) rfl
theorem q1645 : (Jvm.Cond.privateMethod ({ cls := "PeerSearch$Work", name := "askNext", desc := "()Z" } : Jvm.MethodName)) ∈ lw_tbl := lw_at lw_m7 33 rfl
theorem q1646 : (Jvm.Cond.instanceMethod ({ cls := "PeerSearch$Work", name := "askNext", desc := "()Z" } : Jvm.MethodName)) ∈ lw_all := lw_g (lw_at lw_m7 34 rfl) rfl
theorem q1647 : (Jvm.Cond.code ({ cls := "PeerSearch$Work", name := "askNext", desc := "()Z" } : Jvm.MethodName) prog_30_method_8_code (4 : Nat) (Option.some Jvm.ClassFile.FieldType.boolean)) ∈ lw_all := lw_g (lw_at lw_m7 35 rfl) rfl
theorem q1648 : (Jvm.Cond.methodLink "PeerSearch$Work" (153 : Nat) ({ cls := "PeerSearch$Lookup", name := "next", desc := "()LPeerSearch$Entry;" } : Jvm.MethodName)) ∈ lw_all := lw_g (lw_at lw_m7 36 rfl) rfl
theorem q1652 : (Jvm.Cond.methodLink "PeerSearch$Work" (160 : Nat) ({ cls := "PeerSearch$Peer", name := "begin", desc := "(I)LPeerSearch$Packet;" } : Jvm.MethodName)) ∈ lw_all := lw_g (lw_at lw_m7 40 rfl) rfl
theorem q1653 : (Jvm.Cond.methodLink "PeerSearch$Work" (164 : Nat) ({ cls := "PeerSearch$Packet", name := "putKey", desc := "(LPeerSearch$Key;)V" } : Jvm.MethodName)) ∈ lw_all := lw_g (lw_at lw_m7 41 rfl) rfl
theorem q1755 : (Jvm.Cond.instanceMethod ({ cls := "PeerSearch$Work", name := "publishing", desc := "()LPeerSearch$Publishing;" } : Jvm.MethodName)) ∈ lw_all := lw_g (lw_at lw_m7 143 rfl) rfl
theorem q1756 : (Jvm.Cond.selects "PeerSearch$Work" ({ cls := "PeerSearch$Work", name := "publishing", desc := "()LPeerSearch$Publishing;" } : Jvm.MethodName) ({ cls := "PeerSearch$Work", name := "publishing", desc := "()LPeerSearch$Publishing;" } : Jvm.MethodName)) ∈ lw_all := lw_g (lw_at lw_m7 144 rfl) rfl
theorem q1757 : (Jvm.Cond.code ({ cls := "PeerSearch$Work", name := "publishing", desc := "()LPeerSearch$Publishing;" } : Jvm.MethodName) prog_30_method_2_code (1 : Nat) (Option.some (Jvm.ClassFile.FieldType.object "PeerSearch$Publishing"))) ∈ lw_all := lw_g (lw_at lw_m7 145 rfl) rfl
theorem q1758 : (Jvm.Cond.classLink "PeerSearch$Work" (55 : Nat) "PeerSearch$Publishing") ∈ lw_all := lw_g (lw_at lw_m7 146 rfl) rfl
theorem q1759 : (Jvm.Cond.methodLinkNest "PeerSearch$Work" (57 : Nat) ({ cls := "PeerSearch$Publishing", name := "<init>", desc := "()V" } : Jvm.MethodName) "PeerSearch") ∈ lw_tbl := lw_at lw_m7 147 rfl
theorem q1799 : (Jvm.Cond.instanceMethod ({ cls := "PeerSearch$Work", name := "asking", desc := "()LPeerSearch$Asking;" } : Jvm.MethodName)) ∈ lw_all := lw_g (lw_at lw_m7 187 rfl) rfl
theorem q1800 : (Jvm.Cond.selects "PeerSearch$Work" ({ cls := "PeerSearch$Work", name := "asking", desc := "()LPeerSearch$Asking;" } : Jvm.MethodName) ({ cls := "PeerSearch$Work", name := "asking", desc := "()LPeerSearch$Asking;" } : Jvm.MethodName)) ∈ lw_all := lw_g (lw_at lw_m7 188 rfl) rfl
theorem q1801 : (Jvm.Cond.code ({ cls := "PeerSearch$Work", name := "asking", desc := "()LPeerSearch$Asking;" } : Jvm.MethodName) prog_30_method_3_code (1 : Nat) (Option.some (Jvm.ClassFile.FieldType.object "PeerSearch$Asking"))) ∈ lw_all := lw_g (lw_at lw_m7 189 rfl) rfl
theorem q1802 : (Jvm.Cond.classLink "PeerSearch$Work" (62 : Nat) "PeerSearch$Asking") ∈ lw_all := lw_g (lw_at lw_m7 190 rfl) rfl
theorem q1803 : (Jvm.Cond.methodLink "PeerSearch$Work" (64 : Nat) ({ cls := "PeerSearch$Asking", name := "<init>", desc := "(LPeerSearch$Board;)V" } : Jvm.MethodName)) ∈ lw_all := lw_g (lw_at lw_m7 191 rfl) rfl
theorem q1949 : (Jvm.Cond.instanceMethod ({ cls := "PeerSearch$Work", name := "answered", desc := "(ILPeerSearch$Key;LPeerSearch$Packet;)V" } : Jvm.MethodName)) ∈ lw_all := lw_g (lw_at lw_m8 97 rfl) rfl
theorem q1950 : (Jvm.Cond.selects "PeerSearch$Work" ({ cls := "PeerSearch$Work", name := "answered", desc := "(ILPeerSearch$Key;LPeerSearch$Packet;)V" } : Jvm.MethodName) ({ cls := "PeerSearch$Work", name := "answered", desc := "(ILPeerSearch$Key;LPeerSearch$Packet;)V" } : Jvm.MethodName)) ∈ lw_all := lw_g (lw_at lw_m8 98 rfl) rfl
theorem q1951 : (Jvm.Cond.code ({ cls := "PeerSearch$Work", name := "answered", desc := "(ILPeerSearch$Key;LPeerSearch$Packet;)V" } : Jvm.MethodName) prog_30_method_11_code (8 : Nat) (Option.none : Option Jvm.ClassFile.FieldType)) ∈ lw_all := lw_g (lw_at lw_m8 99 rfl) rfl
theorem q1952 : (Jvm.Cond.methodLink "PeerSearch$Work" (183 : Nat) ({ cls := "PeerSearch$Plan", name := "answered", desc := "(LPeerSearch$Work;LPeerSearch$Packet;)V" } : Jvm.MethodName)) ∈ lw_all := lw_g (lw_at lw_m8 100 rfl) rfl
theorem q1967 : (Jvm.Cond.methodLink "PeerSearch$Work" (187 : Nat) ({ cls := "PeerSearch$Lookup", name := "find", desc := "(LPeerSearch$Key;)LPeerSearch$Entry;" } : Jvm.MethodName)) ∈ lw_all := lw_g (lw_at lw_m8 115 rfl) rfl
theorem q1968 : (Jvm.Cond.methodLink "PeerSearch$Work" (191 : Nat) ({ cls := "PeerSearch$Packet", name := "get", desc := "(II)I" } : Jvm.MethodName)) ∈ lw_all := lw_g (lw_at lw_m8 116 rfl) rfl
theorem q1969 : (Jvm.Cond.methodLink "PeerSearch$Work" (201 : Nat) ({ cls := "PeerSearch$Packet", name := "getKey", desc := "(ILPeerSearch$Key;)V" } : Jvm.MethodName)) ∈ lw_all := lw_g (lw_at lw_m8 117 rfl) rfl
theorem q1988 : (Jvm.Cond.instanceMethod ({ cls := "PeerSearch$Work", name := "failed", desc := "(ILPeerSearch$Key;)V" } : Jvm.MethodName)) ∈ lw_all := lw_g (lw_at lw_m8 136 rfl) rfl
theorem q1989 : (Jvm.Cond.selects "PeerSearch$Work" ({ cls := "PeerSearch$Work", name := "failed", desc := "(ILPeerSearch$Key;)V" } : Jvm.MethodName) ({ cls := "PeerSearch$Work", name := "failed", desc := "(ILPeerSearch$Key;)V" } : Jvm.MethodName)) ∈ lw_all := lw_g (lw_at lw_m8 137 rfl) rfl
theorem q1990 : (Jvm.Cond.code ({ cls := "PeerSearch$Work", name := "failed", desc := "(ILPeerSearch$Key;)V" } : Jvm.MethodName) prog_30_method_12_code (4 : Nat) (Option.none : Option Jvm.ClassFile.FieldType)) ∈ lw_all := lw_g (lw_at lw_m8 138 rfl) rfl
theorem q1991 : (Jvm.Cond.methodLink "PeerSearch$Work" (205 : Nat) ({ cls := "PeerSearch$Plan", name := "failed", desc := "(LPeerSearch$Work;)V" } : Jvm.MethodName)) ∈ lw_all := lw_g (lw_at lw_m8 139 rfl) rfl
theorem in_X11 : ∀ w ∈ wsX110, w ∈ lw_all := lw_in wsX110 [585, 587, 589, 591, 593, 595, 597, 599, 601, 603, 605, 607] (by decide +kernel) (by decide +kernel)
/-! PeerSearch$Plan -/
def RX12 : String := "PeerSearch$Plan"
abbrev cX12_init : ByteArray := prog_18_method_1_code
def yX12_init : MethodName := ⟨RX12, "<init>", "()V"⟩
abbrev cX12_answered : ByteArray := prog_18_method_4_code
def yX12_answered : MethodName := ⟨RX12, "answered", "(LPeerSearch$Work;LPeerSearch$Packet;)V"⟩
abbrev cX12_failed : ByteArray := prog_18_method_5_code
def yX12_failed : MethodName := ⟨RX12, "failed", "(LPeerSearch$Work;)V"⟩
theorem q185 : (Jvm.Cond.initialized "PeerSearch$Plan") ∈ lw_all := lw_g (lw_at lw_m1 13 rfl) rfl
theorem q502 : (Jvm.Cond.instanceMethod ({ cls := "PeerSearch$Plan", name := "<init>", desc := "()V" } : Jvm.MethodName)) ∈ lw_all := lw_g (lw_at lw_m2 90 rfl) rfl
theorem q503 : (Jvm.Cond.code ({ cls := "PeerSearch$Plan", name := "<init>", desc := "()V" } : Jvm.MethodName) prog_18_method_1_code (1 : Nat) (Option.none : Option Jvm.ClassFile.FieldType)) ∈ lw_all := lw_g (lw_at lw_m2 91 rfl) rfl
theorem q504 : (Jvm.Cond.methodLink "PeerSearch$Plan" (1 : Nat) ({ cls := "java/lang/Object", name := "<init>", desc := "()V" } : Jvm.MethodName)) ∈ lw_all := lw_g (lw_at lw_m2 92 rfl) rfl
theorem q1246 : (Jvm.Cond.declares ({ cls := "PeerSearch$Plan", name := "begin", desc := "(LPeerSearch$Work;)Z" } : Jvm.MethodName)) ∈ lw_tbl := lw_at lw_m5 114 rfl
theorem q1247 : (Jvm.Cond.sameMethod "PeerSearch$Plan" "PeerSearch$Plan" "begin" "(LPeerSearch$Work;)Z") ∈ lw_all := lw_g (lw_at lw_m5 115 rfl) rfl
theorem q1373 : (Jvm.Cond.declares ({ cls := "PeerSearch$Plan", name := "looked", desc := "(LPeerSearch$Work;)Z" } : Jvm.MethodName)) ∈ lw_tbl := lw_at lw_m6 1 rfl
theorem q1374 : (Jvm.Cond.sameMethod "PeerSearch$Plan" "PeerSearch$Plan" "looked" "(LPeerSearch$Work;)Z") ∈ lw_all := lw_g (lw_at lw_m6 2 rfl) rfl
theorem q1953 : (Jvm.Cond.instanceMethod ({ cls := "PeerSearch$Plan", name := "answered", desc := "(LPeerSearch$Work;LPeerSearch$Packet;)V" } : Jvm.MethodName)) ∈ lw_all := lw_g (lw_at lw_m8 101 rfl) rfl
theorem q1954 : (Jvm.Cond.sameMethod "PeerSearch$Plan" "PeerSearch$Plan" "answered" "(LPeerSearch$Work;LPeerSearch$Packet;)V") ∈ lw_all := lw_g (lw_at lw_m8 102 rfl) rfl
theorem q1966 : (Jvm.Cond.code ({ cls := "PeerSearch$Plan", name := "answered", desc := "(LPeerSearch$Work;LPeerSearch$Packet;)V" } : Jvm.MethodName) prog_18_method_4_code (3 : Nat) (Option.none : Option Jvm.ClassFile.FieldType)) ∈ lw_all := lw_g (lw_at lw_m8 114 rfl) rfl
theorem q1992 : (Jvm.Cond.instanceMethod ({ cls := "PeerSearch$Plan", name := "failed", desc := "(LPeerSearch$Work;)V" } : Jvm.MethodName)) ∈ lw_all := lw_g (lw_at lw_m8 140 rfl) rfl
theorem q1993 : (Jvm.Cond.sameMethod "PeerSearch$Plan" "PeerSearch$Plan" "failed" "(LPeerSearch$Work;)V") ∈ lw_all := lw_g (lw_at lw_m8 141 rfl) rfl
theorem q2000 : (Jvm.Cond.code ({ cls := "PeerSearch$Plan", name := "failed", desc := "(LPeerSearch$Work;)V" } : Jvm.MethodName) prog_18_method_5_code (2 : Nat) (Option.none : Option Jvm.ClassFile.FieldType)) ∈ lw_all := lw_g (lw_at lw_m8 148 rfl) rfl
/-! PeerSearch$Joining -/
def RX13 : String := "PeerSearch$Joining"
def TX13 : u_T := fun k => match k with
  | 0 => ("PeerSearch$Joining", "isFirst", "Z", false)
  | 1 => ("PeerSearch$Joining", "bit", "I", false)
  | _ => ("PeerSearch$Joining", "last", "I", false)
def tyX13 : Nat → FieldType := fun k => match k with
  | 0 => .boolean
  | 1 => .int
  | _ => .int
abbrev wsX130 : List Cond := u_ws RX13 TX13 3
theorem nmX13 : ∀ a, a < 3 → ∀ b, b < 3 → a ≠ b → (TX13 a).2.1 ≠ (TX13 b).2.1 := by decide +kernel
theorem tyX13_ok : ∀ k, k < 3 → parseFieldDescriptor (TX13 k).2.2.1 = some (tyX13 k) := by decide +kernel
abbrev cX13_init : ByteArray := prog_10_method_1_code
def yX13_init : MethodName := ⟨RX13, "<init>", "()V"⟩
abbrev cX13_from : ByteArray := prog_10_method_2_code
def yX13_from : MethodName := ⟨RX13, "from", "(Z)LPeerSearch$Joining;"⟩
abbrev cX13_begin : ByteArray := prog_10_method_3_code
def yX13_begin : MethodName := ⟨RX13, "begin", "(LPeerSearch$Work;)Z"⟩
abbrev cX13_refresh : ByteArray := prog_10_method_4_code
def yX13_refresh : MethodName := ⟨RX13, "refresh", "(LPeerSearch$Work;)Z"⟩
abbrev cX13_goes : ByteArray := prog_10_method_5_code
def yX13_goes : MethodName := ⟨RX13, "goes", "(LPeerSearch$Work;)Z"⟩
abbrev cX13_looked : ByteArray := prog_10_method_6_code
def yX13_looked : MethodName := ⟨RX13, "looked", "(LPeerSearch$Work;)Z"⟩
theorem q186 : (Jvm.Cond.initialized "PeerSearch$Joining") ∈ lw_all := lw_g (lw_at lw_m1 14 rfl) rfl
theorem q497 : (Jvm.Cond.instantiable "PeerSearch$Joining" (3 : Nat)) ∈ lw_all := lw_g (lw_at lw_m2 85 rfl) rfl
theorem q499 : (Jvm.Cond.instanceMethod ({ cls := "PeerSearch$Joining", name := "<init>", desc := "()V" } : Jvm.MethodName)) ∈ lw_all := lw_g (lw_at lw_m2 87 rfl) rfl
theorem q500 : (Jvm.Cond.code ({ cls := "PeerSearch$Joining", name := "<init>", desc := "()V" } : Jvm.MethodName) prog_10_method_1_code (1 : Nat) (Option.none : Option Jvm.ClassFile.FieldType)) ∈ lw_all := lw_g (lw_at lw_m2 88 rfl) rfl
theorem q501 : (Jvm.Cond.methodLinkNest "PeerSearch$Joining" (1 : Nat) ({ cls := "PeerSearch$Plan", name := "<init>", desc := "()V" } : Jvm.MethodName) "PeerSearch") ∈ lw_tbl := lw_at lw_m2 89 rfl
theorem q505 : (Jvm.Cond.fieldLink "PeerSearch$Joining" (7 : Nat) "PeerSearch$Joining" "isFirst" "Z") ∈ lw_all := lw_g (lw_at lw_m2 93 rfl) rfl
theorem q506 : (Jvm.Cond.fieldLink "PeerSearch$Joining" (33 : Nat) "PeerSearch$Joining" "bit" "I") ∈ lw_all := lw_g (lw_at lw_m2 94 rfl) rfl
theorem q507 : (Jvm.Cond.fieldLink "PeerSearch$Joining" (47 : Nat) "PeerSearch$Joining" "last" "I") ∈ lw_all := lw_g (lw_at lw_m2 95 rfl) rfl
theorem q508 : (Jvm.Cond.lays "PeerSearch$Joining" "PeerSearch$Joining" "isFirst" "Z") ∈ lw_all := lw_g (lw_at lw_m2 96 rfl) rfl
theorem q509 : (Jvm.Cond.soleField "PeerSearch$Joining" "isFirst") ∈ lw_all := lw_g (lw_at lw_m2 97 rfl) rfl
theorem q510 : (Jvm.Cond.lays "PeerSearch$Joining" "PeerSearch$Joining" "bit" "I") ∈ lw_all := lw_g (lw_at lw_m2 98 rfl) rfl
theorem q511 : (Jvm.Cond.soleField "PeerSearch$Joining" "bit") ∈ lw_all := lw_g (lw_at lw_m2 99 rfl) rfl
theorem q512 : (Jvm.Cond.lays "PeerSearch$Joining" "PeerSearch$Joining" "last" "I") ∈ lw_all := lw_g (lw_at lw_m2 100 rfl) rfl
theorem q513 : (Jvm.Cond.soleField "PeerSearch$Joining" "last") ∈ lw_all := lw_g (lw_at lw_m2 101 rfl) rfl
theorem q514 : (Jvm.Cond.superclass "PeerSearch$Joining" "PeerSearch$Plan") ∈ lw_all := lw_g (lw_at lw_m2 102 rfl) rfl
theorem q562 : (Jvm.Cond.fieldLinkNest "PeerSearch$Joining" (13 : Nat) "PeerSearch$Work" "peer" "LPeerSearch$Peer;" "PeerSearch") ∈ lw_tbl := lw_at lw_m2 150 rfl
theorem q577 : (Jvm.Cond.fieldLinkNest "PeerSearch$Joining" (59 : Nat) "PeerSearch$Work" "target" "LPeerSearch$Key;" "PeerSearch") ∈ lw_tbl := lw_at lw_m2 165 rfl
theorem q853 : (Jvm.Cond.fieldLinkNest "PeerSearch$Joining" (19 : Nat) "PeerSearch$Peer" "key" "LPeerSearch$Key;" "PeerSearch") ∈ lw_tbl := lw_at lw_m3 201 rfl
theorem q863 : (Jvm.Cond.fieldLinkNest "PeerSearch$Joining" (37 : Nat) "PeerSearch$Peer" "table" "LPeerSearch$Table;" "PeerSearch") ∈ lw_tbl := lw_at lw_m3 211 rfl
theorem q1198 : (Jvm.Cond.instanceMethod ({ cls := "PeerSearch$Joining", name := "from", desc := "(Z)LPeerSearch$Joining;" } : Jvm.MethodName)) ∈ lw_all := lw_g (lw_at lw_m5 66 rfl) rfl
theorem q1199 : (Jvm.Cond.selects "PeerSearch$Joining" ({ cls := "PeerSearch$Joining", name := "from", desc := "(Z)LPeerSearch$Joining;" } : Jvm.MethodName) ({ cls := "PeerSearch$Joining", name := "from", desc := "(Z)LPeerSearch$Joining;" } : Jvm.MethodName)) ∈ lw_all := lw_g (lw_at lw_m5 67 rfl) rfl
theorem q1200 : (Jvm.Cond.code ({ cls := "PeerSearch$Joining", name := "from", desc := "(Z)LPeerSearch$Joining;" } : Jvm.MethodName) prog_10_method_2_code (2 : Nat) (Option.some (Jvm.ClassFile.FieldType.object "PeerSearch$Joining"))) ∈ lw_all := lw_g (lw_at lw_m5 68 rfl) rfl
theorem q1312 : (Jvm.Cond.selects "PeerSearch$Joining" ({ cls := "PeerSearch$Plan", name := "begin", desc := "(LPeerSearch$Work;)Z" } : Jvm.MethodName) ({ cls := "PeerSearch$Joining", name := "begin", desc := "(LPeerSearch$Work;)Z" } : Jvm.MethodName)) ∈ lw_all := lw_g (lw_at lw_m5 180 rfl) rfl
theorem q1313 : (Jvm.Cond.instanceMethod ({ cls := "PeerSearch$Joining", name := "begin", desc := "(LPeerSearch$Work;)Z" } : Jvm.MethodName)) ∈ lw_all := lw_g (lw_at lw_m5 181 rfl) rfl
theorem q1314 : (Jvm.Cond.code ({ cls := "PeerSearch$Joining", name := "begin", desc := "(LPeerSearch$Work;)Z" } : Jvm.MethodName) prog_10_method_3_code (2 : Nat) (Option.some Jvm.ClassFile.FieldType.boolean)) ∈ lw_all := lw_g (lw_at lw_m5 182 rfl) rfl
theorem q1315 : (Jvm.Cond.methodLink "PeerSearch$Joining" (25 : Nat) ({ cls := "PeerSearch$Work", name := "look", desc := "(LPeerSearch$Key;Z)Z" } : Jvm.MethodName)) ∈ lw_all := lw_g (lw_at lw_m5 183 rfl) rfl
theorem q1316 : (Jvm.Cond.methodLink "PeerSearch$Joining" (29 : Nat) ({ cls := "PeerSearch$Joining", name := "refresh", desc := "(LPeerSearch$Work;)Z" } : Jvm.MethodName)) ∈ lw_all := lw_g (lw_at lw_m5 184 rfl) rfl
theorem q1317 : (Jvm.Cond.privateMethod ({ cls := "PeerSearch$Joining", name := "refresh", desc := "(LPeerSearch$Work;)Z" } : Jvm.MethodName)) ∈ lw_tbl := lw_at lw_m5 185 rfl
theorem q1318 : (Jvm.Cond.instanceMethod ({ cls := "PeerSearch$Joining", name := "refresh", desc := "(LPeerSearch$Work;)Z" } : Jvm.MethodName)) ∈ lw_all := lw_g (lw_at lw_m5 186 rfl) rfl
theorem q1319 : (Jvm.Cond.code ({ cls := "PeerSearch$Joining", name := "refresh", desc := "(LPeerSearch$Work;)Z" } : Jvm.MethodName) prog_10_method_4_code (2 : Nat) (Option.some Jvm.ClassFile.FieldType.boolean)) ∈ lw_all := lw_g (lw_at lw_m5 187 rfl) rfl
theorem q1320 : (Jvm.Cond.methodLink "PeerSearch$Joining" (41 : Nat) ({ cls := "PeerSearch$Table", name := "closest", desc := "()I" } : Jvm.MethodName)) ∈ lw_all := lw_g (lw_at lw_m5 188 rfl) rfl
theorem q1325 : (Jvm.Cond.methodLink "PeerSearch$Joining" (50 : Nat) ({ cls := "PeerSearch$Joining", name := "goes", desc := "(LPeerSearch$Work;)Z" } : Jvm.MethodName)) ∈ lw_all := lw_g (lw_at lw_m5 193 rfl) rfl
theorem q1326 : (Jvm.Cond.privateMethod ({ cls := "PeerSearch$Joining", name := "goes", desc := "(LPeerSearch$Work;)Z" } : Jvm.MethodName)) ∈ lw_tbl := lw_at lw_m5 194 rfl
theorem q1327 : (Jvm.Cond.instanceMethod ({ cls := "PeerSearch$Joining", name := "goes", desc := "(LPeerSearch$Work;)Z" } : Jvm.MethodName)) ∈ lw_all := lw_g (lw_at lw_m5 195 rfl) rfl
theorem q1328 : (Jvm.Cond.code ({ cls := "PeerSearch$Joining", name := "goes", desc := "(LPeerSearch$Work;)Z" } : Jvm.MethodName) prog_10_method_5_code (2 : Nat) (Option.some Jvm.ClassFile.FieldType.boolean)) ∈ lw_all := lw_g (lw_at lw_m5 196 rfl) rfl
theorem q1329 : (Jvm.Cond.methodLink "PeerSearch$Joining" (55 : Nat) ({ cls := "PeerSearch$Work", name := "end", desc := "(I)V" } : Jvm.MethodName)) ∈ lw_all := lw_g (lw_at lw_m5 197 rfl) rfl
theorem q1333 : (Jvm.Cond.methodLink "PeerSearch$Joining" (62 : Nat) ({ cls := "PeerSearch$Key", name := "set", desc := "(LPeerSearch$Key;)V" } : Jvm.MethodName)) ∈ lw_all := lw_g (lw_at lw_m5 201 rfl) rfl
theorem q1334 : (Jvm.Cond.methodLink "PeerSearch$Joining" (68 : Nat) ({ cls := "PeerSearch$Key", name := "turn", desc := "(I)V" } : Jvm.MethodName)) ∈ lw_all := lw_g (lw_at lw_m5 202 rfl) rfl
theorem q1617 : (Jvm.Cond.selects "PeerSearch$Joining" ({ cls := "PeerSearch$Plan", name := "looked", desc := "(LPeerSearch$Work;)Z" } : Jvm.MethodName) ({ cls := "PeerSearch$Joining", name := "looked", desc := "(LPeerSearch$Work;)Z" } : Jvm.MethodName)) ∈ lw_all := lw_g (lw_at lw_m7 5 rfl) rfl
theorem q1618 : (Jvm.Cond.instanceMethod ({ cls := "PeerSearch$Joining", name := "looked", desc := "(LPeerSearch$Work;)Z" } : Jvm.MethodName)) ∈ lw_all := lw_g (lw_at lw_m7 6 rfl) rfl
theorem q1619 : (Jvm.Cond.code ({ cls := "PeerSearch$Joining", name := "looked", desc := "(LPeerSearch$Work;)Z" } : Jvm.MethodName) prog_10_method_6_code (2 : Nat) (Option.some Jvm.ClassFile.FieldType.boolean)) ∈ lw_all := lw_g (lw_at lw_m7 7 rfl) rfl
theorem q1956 : (Jvm.Cond.selects "PeerSearch$Joining" ({ cls := "PeerSearch$Plan", name := "answered", desc := "(LPeerSearch$Work;LPeerSearch$Packet;)V" } : Jvm.MethodName) ({ cls := "PeerSearch$Plan", name := "answered", desc := "(LPeerSearch$Work;LPeerSearch$Packet;)V" } : Jvm.MethodName)) ∈ lw_all := lw_g (lw_at lw_m8 104 rfl) rfl
theorem q1995 : (Jvm.Cond.selects "PeerSearch$Joining" ({ cls := "PeerSearch$Plan", name := "failed", desc := "(LPeerSearch$Work;)V" } : Jvm.MethodName) ({ cls := "PeerSearch$Plan", name := "failed", desc := "(LPeerSearch$Work;)V" } : Jvm.MethodName)) ∈ lw_all := lw_g (lw_at lw_m8 143 rfl) rfl
theorem in_X13 : ∀ w ∈ wsX130, w ∈ lw_all := lw_in wsX130 [508, 510, 512] (by decide +kernel) (by decide +kernel)
/-! PeerSearch$Looking -/
def RX14 : String := "PeerSearch$Looking"
abbrev cX14_init : ByteArray := prog_13_method_1_code
def yX14_init : MethodName := ⟨RX14, "<init>", "()V"⟩
abbrev cX14_begin : ByteArray := prog_13_method_2_code
def yX14_begin : MethodName := ⟨RX14, "begin", "(LPeerSearch$Work;)Z"⟩
abbrev cX14_looked : ByteArray := prog_13_method_3_code
def yX14_looked : MethodName := ⟨RX14, "looked", "(LPeerSearch$Work;)Z"⟩
theorem q187 : (Jvm.Cond.initialized "PeerSearch$Looking") ∈ lw_all := lw_g (lw_at lw_m1 15 rfl) rfl
theorem q256 : (Jvm.Cond.fieldLinkNest "PeerSearch$Looking" (52 : Nat) "PeerSearch$Key" "words" "[I" "PeerSearch") ∈ lw_tbl := lw_at lw_m1 84 rfl
theorem q516 : (Jvm.Cond.instantiable "PeerSearch$Looking" (0 : Nat)) ∈ lw_all := lw_g (lw_at lw_m2 104 rfl) rfl
theorem q518 : (Jvm.Cond.instanceMethod ({ cls := "PeerSearch$Looking", name := "<init>", desc := "()V" } : Jvm.MethodName)) ∈ lw_all := lw_g (lw_at lw_m2 106 rfl) rfl
theorem q519 : (Jvm.Cond.code ({ cls := "PeerSearch$Looking", name := "<init>", desc := "()V" } : Jvm.MethodName) prog_13_method_1_code (1 : Nat) (Option.none : Option Jvm.ClassFile.FieldType)) ∈ lw_all := lw_g (lw_at lw_m2 107 rfl) rfl
theorem q520 : (Jvm.Cond.methodLinkNest "PeerSearch$Looking" (1 : Nat) ({ cls := "PeerSearch$Plan", name := "<init>", desc := "()V" } : Jvm.MethodName) "PeerSearch") ∈ lw_tbl := lw_at lw_m2 108 rfl
theorem q521 : (Jvm.Cond.superclass "PeerSearch$Looking" "PeerSearch$Plan") ∈ lw_all := lw_g (lw_at lw_m2 109 rfl) rfl
theorem q558 : (Jvm.Cond.fieldLinkNest "PeerSearch$Looking" (17 : Nat) "PeerSearch$Work" "lookup" "LPeerSearch$Lookup;" "PeerSearch") ∈ lw_tbl := lw_at lw_m2 146 rfl
theorem q568 : (Jvm.Cond.fieldLinkNest "PeerSearch$Looking" (27 : Nat) "PeerSearch$Work" "task" "LPeerSearch$Task;" "PeerSearch") ∈ lw_tbl := lw_at lw_m2 156 rfl
theorem q576 : (Jvm.Cond.fieldLinkNest "PeerSearch$Looking" (7 : Nat) "PeerSearch$Work" "target" "LPeerSearch$Key;" "PeerSearch") ∈ lw_tbl := lw_at lw_m2 164 rfl
theorem q1224 : (Jvm.Cond.fieldLinkNest "PeerSearch$Looking" (39 : Nat) "PeerSearch$Task" "found" "[I" "PeerSearch") ∈ lw_tbl := lw_at lw_m5 92 rfl
theorem q1278 : (Jvm.Cond.fieldLinkNest "PeerSearch$Looking" (49 : Nat) "PeerSearch$Entry" "key" "LPeerSearch$Key;" "PeerSearch") ∈ lw_tbl := lw_at lw_m5 146 rfl
theorem q1282 : (Jvm.Cond.fieldLinkNest "PeerSearch$Looking" (43 : Nat) "PeerSearch$Entry" "address" "I" "PeerSearch") ∈ lw_tbl := lw_at lw_m5 150 rfl
theorem q1338 : (Jvm.Cond.selects "PeerSearch$Looking" ({ cls := "PeerSearch$Plan", name := "begin", desc := "(LPeerSearch$Work;)Z" } : Jvm.MethodName) ({ cls := "PeerSearch$Looking", name := "begin", desc := "(LPeerSearch$Work;)Z" } : Jvm.MethodName)) ∈ lw_all := lw_g (lw_at lw_m5 206 rfl) rfl
theorem q1339 : (Jvm.Cond.instanceMethod ({ cls := "PeerSearch$Looking", name := "begin", desc := "(LPeerSearch$Work;)Z" } : Jvm.MethodName)) ∈ lw_all := lw_g (lw_at lw_m5 207 rfl) rfl
theorem q1340 : (Jvm.Cond.code ({ cls := "PeerSearch$Looking", name := "begin", desc := "(LPeerSearch$Work;)Z" } : Jvm.MethodName) prog_13_method_2_code (2 : Nat) (Option.some Jvm.ClassFile.FieldType.boolean)) ∈ lw_all := lw_g (lw_at lw_m5 208 rfl) rfl
theorem q1341 : (Jvm.Cond.methodLink "PeerSearch$Looking" (13 : Nat) ({ cls := "PeerSearch$Work", name := "look", desc := "(LPeerSearch$Key;Z)Z" } : Jvm.MethodName)) ∈ lw_all := lw_g (lw_at lw_m5 209 rfl) rfl
theorem q1620 : (Jvm.Cond.selects "PeerSearch$Looking" ({ cls := "PeerSearch$Plan", name := "looked", desc := "(LPeerSearch$Work;)Z" } : Jvm.MethodName) ({ cls := "PeerSearch$Looking", name := "looked", desc := "(LPeerSearch$Work;)Z" } : Jvm.MethodName)) ∈ lw_all := lw_g (lw_at lw_m7 8 rfl) rfl
theorem q1621 : (Jvm.Cond.instanceMethod ({ cls := "PeerSearch$Looking", name := "looked", desc := "(LPeerSearch$Work;)Z" } : Jvm.MethodName)) ∈ lw_all := lw_g (lw_at lw_m7 9 rfl) rfl
theorem q1622 : (Jvm.Cond.code ({ cls := "PeerSearch$Looking", name := "looked", desc := "(LPeerSearch$Work;)Z" } : Jvm.MethodName) prog_13_method_3_code (7 : Nat) (Option.some Jvm.ClassFile.FieldType.boolean)) ∈ lw_all := lw_g (lw_at lw_m7 10 rfl) rfl
theorem q1623 : (Jvm.Cond.methodLink "PeerSearch$Looking" (21 : Nat) ({ cls := "PeerSearch$Lookup", name := "front", desc := "(I)LPeerSearch$Entry;" } : Jvm.MethodName)) ∈ lw_all := lw_g (lw_at lw_m7 11 rfl) rfl
theorem q1624 : (Jvm.Cond.methodLink "PeerSearch$Looking" (33 : Nat) ({ cls := "PeerSearch$Task", name := "tell", desc := "(II)V" } : Jvm.MethodName)) ∈ lw_all := lw_g (lw_at lw_m7 12 rfl) rfl
theorem q1625 : (Jvm.Cond.methodLink "PeerSearch$Looking" (55 : Nat) ({ cls := "PeerSearch$Work", name := "end", desc := "(I)V" } : Jvm.MethodName)) ∈ lw_all := lw_g (lw_at lw_m7 13 rfl) rfl
theorem q1957 : (Jvm.Cond.selects "PeerSearch$Looking" ({ cls := "PeerSearch$Plan", name := "answered", desc := "(LPeerSearch$Work;LPeerSearch$Packet;)V" } : Jvm.MethodName) ({ cls := "PeerSearch$Plan", name := "answered", desc := "(LPeerSearch$Work;LPeerSearch$Packet;)V" } : Jvm.MethodName)) ∈ lw_all := lw_g (lw_at lw_m8 105 rfl) rfl
theorem q1996 : (Jvm.Cond.selects "PeerSearch$Looking" ({ cls := "PeerSearch$Plan", name := "failed", desc := "(LPeerSearch$Work;)V" } : Jvm.MethodName) ({ cls := "PeerSearch$Plan", name := "failed", desc := "(LPeerSearch$Work;)V" } : Jvm.MethodName)) ∈ lw_all := lw_g (lw_at lw_m8 144 rfl) rfl
/-! PeerSearch$Lookup -/
def RX15 : String := "PeerSearch$Lookup"
def TX15 : u_T := fun k => match k with
  | 0 => ("PeerSearch$Lookup", "entries", "[LPeerSearch$Entry;", true)
  | 1 => ("PeerSearch$Lookup", "target", "LPeerSearch$Key;", true)
  | 2 => ("PeerSearch$Lookup", "most", "I", true)
  | 3 => ("PeerSearch$Lookup", "size", "I", false)
  | 4 => ("PeerSearch$Lookup", "waits", "I", false)
  | _ => ("PeerSearch$Lookup", "seeks", "Z", false)
def tyX15 : Nat → FieldType := fun k => match k with
  | 0 => .array (.object "PeerSearch$Entry")
  | 1 => .object "PeerSearch$Key"
  | 2 => .int
  | 3 => .int
  | 4 => .int
  | _ => .boolean
abbrev wsX150 : List Cond := u_ws RX15 TX15 6
theorem nmX15 : ∀ a, a < 6 → ∀ b, b < 6 → a ≠ b → (TX15 a).2.1 ≠ (TX15 b).2.1 := by decide +kernel
theorem tyX15_ok : ∀ k, k < 6 → parseFieldDescriptor (TX15 k).2.2.1 = some (tyX15 k) := by decide +kernel
abbrev cX15_init : ByteArray := prog_14_method_1_code
def yX15_init : MethodName := ⟨RX15, "<init>", "(I)V"⟩
abbrev cX15_begin : ByteArray := prog_14_method_2_code
def yX15_begin : MethodName := ⟨RX15, "begin", "(LPeerSearch$Key;Z)V"⟩
abbrev cX15_add : ByteArray := prog_14_method_4_code
def yX15_add : MethodName := ⟨RX15, "add", "(LPeerSearch$Key;II)V"⟩
abbrev cX15_find : ByteArray := prog_14_method_3_code
def yX15_find : MethodName := ⟨RX15, "find", "(LPeerSearch$Key;)LPeerSearch$Entry;"⟩
abbrev cX15_isOver : ByteArray := prog_14_method_6_code
def yX15_isOver : MethodName := ⟨RX15, "isOver", "()Z"⟩
abbrev cX15_first : ByteArray := prog_14_method_8_code
def yX15_first : MethodName := ⟨RX15, "first", "(IZ)LPeerSearch$Entry;"⟩
abbrev cX15_front : ByteArray := prog_14_method_5_code
def yX15_front : MethodName := ⟨RX15, "front", "(I)LPeerSearch$Entry;"⟩
abbrev cX15_next : ByteArray := prog_14_method_7_code
def yX15_next : MethodName := ⟨RX15, "next", "()LPeerSearch$Entry;"⟩
theorem q188 : (Jvm.Cond.initialized "PeerSearch$Lookup") ∈ lw_all := lw_g (lw_at lw_m1 16 rfl) rfl
theorem q523 : (Jvm.Cond.instantiable "PeerSearch$Lookup" (6 : Nat)) ∈ lw_all := lw_g (lw_at lw_m2 111 rfl) rfl
theorem q525 : (Jvm.Cond.instanceMethod ({ cls := "PeerSearch$Lookup", name := "<init>", desc := "(I)V" } : Jvm.MethodName)) ∈ lw_all := lw_g (lw_at lw_m2 113 rfl) rfl
theorem q526 : (Jvm.Cond.code ({ cls := "PeerSearch$Lookup", name := "<init>", desc := "(I)V" } : Jvm.MethodName) prog_14_method_1_code (2 : Nat) (Option.none : Option Jvm.ClassFile.FieldType)) ∈ lw_all := lw_g (lw_at lw_m2 114 rfl) rfl
theorem q527 : (Jvm.Cond.methodLink "PeerSearch$Lookup" (3 : Nat) ({ cls := "java/lang/Object", name := "<init>", desc := "()V" } : Jvm.MethodName)) ∈ lw_all := lw_g (lw_at lw_m2 115 rfl) rfl
theorem q528 : (Jvm.Cond.classLink "PeerSearch$Lookup" (9 : Nat) "PeerSearch$Entry") ∈ lw_all := lw_g (lw_at lw_m2 116 rfl) rfl
theorem q530 : (Jvm.Cond.classLink "PeerSearch$Lookup" (17 : Nat) "PeerSearch$Key") ∈ lw_all := lw_g (lw_at lw_m2 118 rfl) rfl
theorem q531 : (Jvm.Cond.methodLinkNest "PeerSearch$Lookup" (19 : Nat) ({ cls := "PeerSearch$Key", name := "<init>", desc := "()V" } : Jvm.MethodName) "PeerSearch") ∈ lw_tbl := lw_at lw_m2 119 rfl
theorem q532 : (Jvm.Cond.fieldLink "PeerSearch$Lookup" (11 : Nat) "PeerSearch$Lookup" "entries" "[LPeerSearch$Entry;") ∈ lw_all := lw_g (lw_at lw_m2 120 rfl) rfl
theorem q533 : (Jvm.Cond.fieldLink "PeerSearch$Lookup" (20 : Nat) "PeerSearch$Lookup" "target" "LPeerSearch$Key;") ∈ lw_all := lw_g (lw_at lw_m2 121 rfl) rfl
theorem q535 : (Jvm.Cond.fieldLink "PeerSearch$Lookup" (24 : Nat) "PeerSearch$Lookup" "most" "I") ∈ lw_all := lw_g (lw_at lw_m2 123 rfl) rfl
theorem q536 : (Jvm.Cond.fieldLink "PeerSearch$Lookup" (36 : Nat) "PeerSearch$Lookup" "size" "I") ∈ lw_all := lw_g (lw_at lw_m2 124 rfl) rfl
theorem q537 : (Jvm.Cond.fieldLink "PeerSearch$Lookup" (39 : Nat) "PeerSearch$Lookup" "waits" "I") ∈ lw_all := lw_g (lw_at lw_m2 125 rfl) rfl
theorem q539 : (Jvm.Cond.fieldLink "PeerSearch$Lookup" (32 : Nat) "PeerSearch$Lookup" "seeks" "Z") ∈ lw_all := lw_g (lw_at lw_m2 127 rfl) rfl
theorem q541 : (Jvm.Cond.laysFinal "PeerSearch$Lookup" "PeerSearch$Lookup" "entries" "[LPeerSearch$Entry;") ∈ lw_all := lw_g (lw_at lw_m2 129 rfl) rfl
theorem q542 : (Jvm.Cond.soleField "PeerSearch$Lookup" "entries") ∈ lw_all := lw_g (lw_at lw_m2 130 rfl) rfl
theorem q543 : (Jvm.Cond.laysFinal "PeerSearch$Lookup" "PeerSearch$Lookup" "target" "LPeerSearch$Key;") ∈ lw_all := lw_g (lw_at lw_m2 131 rfl) rfl
theorem q544 : (Jvm.Cond.soleField "PeerSearch$Lookup" "target") ∈ lw_all := lw_g (lw_at lw_m2 132 rfl) rfl
theorem q545 : (Jvm.Cond.laysFinal "PeerSearch$Lookup" "PeerSearch$Lookup" "most" "I") ∈ lw_all := lw_g (lw_at lw_m2 133 rfl) rfl
theorem q546 : (Jvm.Cond.soleField "PeerSearch$Lookup" "most") ∈ lw_all := lw_g (lw_at lw_m2 134 rfl) rfl
theorem q547 : (Jvm.Cond.lays "PeerSearch$Lookup" "PeerSearch$Lookup" "size" "I") ∈ lw_all := lw_g (lw_at lw_m2 135 rfl) rfl
theorem q548 : (Jvm.Cond.soleField "PeerSearch$Lookup" "size") ∈ lw_all := lw_g (lw_at lw_m2 136 rfl) rfl
theorem q549 : (Jvm.Cond.lays "PeerSearch$Lookup" "PeerSearch$Lookup" "waits" "I") ∈ lw_all := lw_g (lw_at lw_m2 137 rfl) rfl
theorem q550 : (Jvm.Cond.soleField "PeerSearch$Lookup" "waits") ∈ lw_all := lw_g (lw_at lw_m2 138 rfl) rfl
theorem q551 : (Jvm.Cond.lays "PeerSearch$Lookup" "PeerSearch$Lookup" "seeks" "Z") ∈ lw_all := lw_g (lw_at lw_m2 139 rfl) rfl
theorem q552 : (Jvm.Cond.soleField "PeerSearch$Lookup" "seeks") ∈ lw_all := lw_g (lw_at lw_m2 140 rfl) rfl
theorem q553 : (Jvm.Cond.superclass "PeerSearch$Lookup" "java/lang/Object") ∈ lw_all := lw_g (lw_at lw_m2 141 rfl) rfl
theorem q1256 : (Jvm.Cond.instanceMethod ({ cls := "PeerSearch$Lookup", name := "begin", desc := "(LPeerSearch$Key;Z)V" } : Jvm.MethodName)) ∈ lw_all := lw_g (lw_at lw_m5 124 rfl) rfl
theorem q1257 : (Jvm.Cond.selects "PeerSearch$Lookup" ({ cls := "PeerSearch$Lookup", name := "begin", desc := "(LPeerSearch$Key;Z)V" } : Jvm.MethodName) ({ cls := "PeerSearch$Lookup", name := "begin", desc := "(LPeerSearch$Key;Z)V" } : Jvm.MethodName)) ∈ lw_all := lw_g (lw_at lw_m5 125 rfl) rfl
theorem q1258 : (Jvm.Cond.code ({ cls := "PeerSearch$Lookup", name := "begin", desc := "(LPeerSearch$Key;Z)V" } : Jvm.MethodName) prog_14_method_2_code (3 : Nat) (Option.none : Option Jvm.ClassFile.FieldType)) ∈ lw_all := lw_g (lw_at lw_m5 126 rfl) rfl
theorem q1259 : (Jvm.Cond.methodLink "PeerSearch$Lookup" (28 : Nat) ({ cls := "PeerSearch$Key", name := "set", desc := "(LPeerSearch$Key;)V" } : Jvm.MethodName)) ∈ lw_all := lw_g (lw_at lw_m5 127 rfl) rfl
theorem q1261 : (Jvm.Cond.instanceMethod ({ cls := "PeerSearch$Lookup", name := "add", desc := "(LPeerSearch$Key;II)V" } : Jvm.MethodName)) ∈ lw_all := lw_g (lw_at lw_m5 129 rfl) rfl
theorem q1262 : (Jvm.Cond.selects "PeerSearch$Lookup" ({ cls := "PeerSearch$Lookup", name := "add", desc := "(LPeerSearch$Key;II)V" } : Jvm.MethodName) ({ cls := "PeerSearch$Lookup", name := "add", desc := "(LPeerSearch$Key;II)V" } : Jvm.MethodName)) ∈ lw_all := lw_g (lw_at lw_m5 130 rfl) rfl
theorem q1263 : (Jvm.Cond.code ({ cls := "PeerSearch$Lookup", name := "add", desc := "(LPeerSearch$Key;II)V" } : Jvm.MethodName) prog_14_method_4_code (6 : Nat) (Option.none : Option Jvm.ClassFile.FieldType)) ∈ lw_all := lw_g (lw_at lw_m5 131 rfl) rfl
theorem q1264 : (Jvm.Cond.methodLink "PeerSearch$Lookup" (49 : Nat) ({ cls := "PeerSearch$Lookup", name := "find", desc := "(LPeerSearch$Key;)LPeerSearch$Entry;" } : Jvm.MethodName)) ∈ lw_all := lw_g (lw_at lw_m5 132 rfl) rfl
theorem q1265 : (Jvm.Cond.instanceMethod ({ cls := "PeerSearch$Lookup", name := "find", desc := "(LPeerSearch$Key;)LPeerSearch$Entry;" } : Jvm.MethodName)) ∈ lw_all := lw_g (lw_at lw_m5 133 rfl) rfl
theorem q1266 : (Jvm.Cond.selects "PeerSearch$Lookup" ({ cls := "PeerSearch$Lookup", name := "find", desc := "(LPeerSearch$Key;)LPeerSearch$Entry;" } : Jvm.MethodName) ({ cls := "PeerSearch$Lookup", name := "find", desc := "(LPeerSearch$Key;)LPeerSearch$Entry;" } : Jvm.MethodName)) ∈ lw_all := lw_g (lw_at lw_m5 134 rfl) rfl
theorem q1267 : (Jvm.Cond.code ({ cls := "PeerSearch$Lookup", name := "find", desc := "(LPeerSearch$Key;)LPeerSearch$Entry;" } : Jvm.MethodName) prog_14_method_3_code (3 : Nat) (Option.some (Jvm.ClassFile.FieldType.object "PeerSearch$Entry"))) ∈ lw_all := lw_g (lw_at lw_m5 135 rfl) rfl
theorem q1268 : (Jvm.Cond.methodLink "PeerSearch$Lookup" (45 : Nat) ({ cls := "PeerSearch$Key", name := "is", desc := "(LPeerSearch$Key;)Z" } : Jvm.MethodName)) ∈ lw_all := lw_g (lw_at lw_m5 136 rfl) rfl
theorem q1270 : (Jvm.Cond.methodLinkNest "PeerSearch$Lookup" (53 : Nat) ({ cls := "PeerSearch$Entry", name := "<init>", desc := "()V" } : Jvm.MethodName) "PeerSearch") ∈ lw_tbl := lw_at lw_m5 138 rfl
theorem q1277 : (Jvm.Cond.fieldLinkNest "PeerSearch$Lookup" (42 : Nat) "PeerSearch$Entry" "key" "LPeerSearch$Key;" "PeerSearch") ∈ lw_tbl := lw_at lw_m5 145 rfl
theorem q1283 : (Jvm.Cond.fieldLinkNest "PeerSearch$Lookup" (54 : Nat) "PeerSearch$Entry" "address" "I" "PeerSearch") ∈ lw_tbl := lw_at lw_m5 151 rfl
theorem q1287 : (Jvm.Cond.fieldLinkNest "PeerSearch$Lookup" (57 : Nat) "PeerSearch$Entry" "state" "I" "PeerSearch") ∈ lw_tbl := lw_at lw_m5 155 rfl
theorem q1289 : (Jvm.Cond.fieldLinkNest "PeerSearch$Lookup" (60 : Nat) "PeerSearch$Entry" "count" "I" "PeerSearch") ∈ lw_tbl := lw_at lw_m5 157 rfl
theorem q1301 : (Jvm.Cond.methodLink "PeerSearch$Lookup" (63 : Nat) ({ cls := "PeerSearch$Key", name := "isNearer", desc := "(LPeerSearch$Key;LPeerSearch$Key;)Z" } : Jvm.MethodName)) ∈ lw_all := lw_g (lw_at lw_m5 169 rfl) rfl
theorem q1305 : (Jvm.Cond.methodLink "PeerSearch$Lookup" (67 : Nat) ({ cls := "java/lang/Math", name := "min", desc := "(II)I" } : Jvm.MethodName)) ∈ lw_all := lw_g (lw_at lw_m5 173 rfl) rfl
theorem q1361 : (Jvm.Cond.instanceMethod ({ cls := "PeerSearch$Lookup", name := "isOver", desc := "()Z" } : Jvm.MethodName)) ∈ lw_all := lw_g (lw_at lw_m5 229 rfl) rfl
theorem q1362 : (Jvm.Cond.selects "PeerSearch$Lookup" ({ cls := "PeerSearch$Lookup", name := "isOver", desc := "()Z" } : Jvm.MethodName) ({ cls := "PeerSearch$Lookup", name := "isOver", desc := "()Z" } : Jvm.MethodName)) ∈ lw_all := lw_g (lw_at lw_m5 230 rfl) rfl
theorem q1363 : (Jvm.Cond.code ({ cls := "PeerSearch$Lookup", name := "isOver", desc := "()Z" } : Jvm.MethodName) prog_14_method_6_code (1 : Nat) (Option.some Jvm.ClassFile.FieldType.boolean)) ∈ lw_all := lw_g (lw_at lw_m5 231 rfl) rfl
theorem q1364 : (Jvm.Cond.methodLink "PeerSearch$Lookup" (73 : Nat) ({ cls := "PeerSearch$Lookup", name := "first", desc := "(IZ)LPeerSearch$Entry;" } : Jvm.MethodName)) ∈ lw_all := lw_g (lw_at lw_m5 232 rfl) rfl
theorem q1365 : (Jvm.Cond.privateMethod ({ cls := "PeerSearch$Lookup", name := "first", desc := "(IZ)LPeerSearch$Entry;" } : Jvm.MethodName)) ∈ lw_tbl := lw_at lw_m5 233 rfl
theorem q1366 : (Jvm.Cond.instanceMethod ({ cls := "PeerSearch$Lookup", name := "first", desc := "(IZ)LPeerSearch$Entry;" } : Jvm.MethodName)) ∈ lw_all := lw_g (lw_at lw_m5 234 rfl) rfl
theorem q1367 : (Jvm.Cond.code ({ cls := "PeerSearch$Lookup", name := "first", desc := "(IZ)LPeerSearch$Entry;" } : Jvm.MethodName) prog_14_method_8_code (5 : Nat) (Option.some (Jvm.ClassFile.FieldType.object "PeerSearch$Entry"))) ∈ lw_all := lw_g (lw_at lw_m5 235 rfl) rfl
theorem q1368 : (Jvm.Cond.methodLink "PeerSearch$Lookup" (77 : Nat) ({ cls := "PeerSearch$Lookup", name := "front", desc := "(I)LPeerSearch$Entry;" } : Jvm.MethodName)) ∈ lw_all := lw_g (lw_at lw_m5 236 rfl) rfl
theorem q1369 : (Jvm.Cond.instanceMethod ({ cls := "PeerSearch$Lookup", name := "front", desc := "(I)LPeerSearch$Entry;" } : Jvm.MethodName)) ∈ lw_all := lw_g (lw_at lw_m5 237 rfl) rfl
theorem q1370 : (Jvm.Cond.selects "PeerSearch$Lookup" ({ cls := "PeerSearch$Lookup", name := "front", desc := "(I)LPeerSearch$Entry;" } : Jvm.MethodName) ({ cls := "PeerSearch$Lookup", name := "front", desc := "(I)LPeerSearch$Entry;" } : Jvm.MethodName)) ∈ lw_all := lw_g (lw_at lw_m5 238 rfl) rfl
theorem q1371 : (Jvm.Cond.code ({ cls := "PeerSearch$Lookup", name := "front", desc := "(I)LPeerSearch$Entry;" } : Jvm.MethodName) prog_14_method_5_code (4 : Nat) (Option.some (Jvm.ClassFile.FieldType.object "PeerSearch$Entry"))) ∈ lw_all := lw_g (lw_at lw_m5 239 rfl) rfl
theorem q1649 : (Jvm.Cond.instanceMethod ({ cls := "PeerSearch$Lookup", name := "next", desc := "()LPeerSearch$Entry;" } : Jvm.MethodName)) ∈ lw_all := lw_g (lw_at lw_m7 37 rfl) rfl
theorem q1650 : (Jvm.Cond.selects "PeerSearch$Lookup" ({ cls := "PeerSearch$Lookup", name := "next", desc := "()LPeerSearch$Entry;" } : Jvm.MethodName) ({ cls := "PeerSearch$Lookup", name := "next", desc := "()LPeerSearch$Entry;" } : Jvm.MethodName)) ∈ lw_all := lw_g (lw_at lw_m7 38 rfl) rfl
theorem q1651 : (Jvm.Cond.code ({ cls := "PeerSearch$Lookup", name := "next", desc := "()LPeerSearch$Entry;" } : Jvm.MethodName) prog_14_method_7_code (1 : Nat) (Option.some (Jvm.ClassFile.FieldType.object "PeerSearch$Entry"))) ∈ lw_all := lw_g (lw_at lw_m7 39 rfl) rfl
theorem in_X15 : ∀ w ∈ wsX150, w ∈ lw_all := lw_in wsX150 [541, 543, 545, 547, 549, 551] (by decide +kernel) (by decide +kernel)
/-! PeerSearchModel -/
def RX16 : String := "PeerSearchModel"
def TX16 : u_T := fun k => match k with
  | 0 => ("PeerSearchModel", "k", "I", true)
  | 1 => ("PeerSearchModel", "alpha", "I", true)
  | 2 => ("PeerSearchModel", "ready", "[I", true)
  | 3 => ("PeerSearchModel", "tape", "[I", true)
  | 4 => ("PeerSearchModel", "taped", "I", false)
  | 5 => ("PeerSearchModel", "msg", "[I", true)
  | 6 => ("PeerSearchModel", "schedule", "[I", true)
  | 7 => ("PeerSearchModel", "h", "[I", true)
  | 8 => ("PeerSearchModel", "setting", "[I", true)
  | 9 => ("PeerSearchModel", "least", "[I", true)
  | 10 => ("PeerSearchModel", "most", "[I", true)
  | 11 => ("PeerSearchModel", "time", "I", false)
  | 12 => ("PeerSearchModel", "lostOnes", "I", false)
  | 13 => ("PeerSearchModel", "peers", "I", false)
  | 14 => ("PeerSearchModel", "keys", "[I", true)
  | 15 => ("PeerSearchModel", "sides", "[I", true)
  | 16 => ("PeerSearchModel", "state", "[I", true)
  | 17 => ("PeerSearchModel", "since", "[I", true)
  | 18 => ("PeerSearchModel", "published", "[I", true)
  | 19 => ("PeerSearchModel", "refreshed", "[I", true)
  | 20 => ("PeerSearchModel", "number", "[I", true)
  | 21 => ("PeerSearchModel", "tally", "[I", true)
  | 22 => ("PeerSearchModel", "documents", "[I", true)
  | 23 => ("PeerSearchModel", "terms", "[I", true)
  | 24 => ("PeerSearchModel", "termText", "[I", true)
  | 25 => ("PeerSearchModel", "termLength", "[I", true)
  | 26 => ("PeerSearchModel", "termKey", "[I", true)
  | 27 => ("PeerSearchModel", "weights", "[I", true)
  | 28 => ("PeerSearchModel", "found", "I", false)
  | 29 => ("PeerSearchModel", "foundText", "[I", true)
  | 30 => ("PeerSearchModel", "foundLength", "[I", true)
  | 31 => ("PeerSearchModel", "foundTimes", "[I", true)
  | 32 => ("PeerSearchModel", "flying", "I", false)
  | 33 => ("PeerSearchModel", "launched", "I", false)
  | 34 => ("PeerSearchModel", "from", "[I", true)
  | 35 => ("PeerSearchModel", "to", "[I", true)
  | 36 => ("PeerSearchModel", "due", "[I", true)
  | 37 => ("PeerSearchModel", "serial", "[I", true)
  | 38 => ("PeerSearchModel", "length", "[I", true)
  | 39 => ("PeerSearchModel", "bytes", "[I", true)
  | 40 => ("PeerSearchModel", "out", "[I", true)
  | 41 => ("PeerSearchModel", "outLength", "I", false)
  | 42 => ("PeerSearchModel", "stamps", "I", false)
  | 43 => ("PeerSearchModel", "rows", "[I", true)
  | 44 => ("PeerSearchModel", "rowKey", "[I", true)
  | 45 => ("PeerSearchModel", "rowPeer", "[I", true)
  | 46 => ("PeerSearchModel", "rowC", "[I", true)
  | 47 => ("PeerSearchModel", "rowReserve", "[Z", true)
  | 48 => ("PeerSearchModel", "rowStamp", "[I", true)
  | 49 => ("PeerSearchModel", "one", "[I", true)
  | 50 => ("PeerSearchModel", "nears", "I", false)
  | 51 => ("PeerSearchModel", "near", "[I", true)
  | 52 => ("PeerSearchModel", "waits", "[Z", true)
  | 53 => ("PeerSearchModel", "asked", "[I", true)
  | 54 => ("PeerSearchModel", "askedPeer", "[I", true)
  | 55 => ("PeerSearchModel", "askedKey", "[I", true)
  | 56 => ("PeerSearchModel", "askedType", "[I", true)
  | 57 => ("PeerSearchModel", "deadline", "[I", true)
  | 58 => ("PeerSearchModel", "sents", "[I", true)
  | 59 => ("PeerSearchModel", "askedTask", "[I", true)
  | 60 => ("PeerSearchModel", "askedSerial", "[I", true)
  | 61 => ("PeerSearchModel", "probed", "[I", true)
  | 62 => ("PeerSearchModel", "askedLength", "[I", true)
  | 63 => ("PeerSearchModel", "askedBytes", "[I", true)
  | 64 => ("PeerSearchModel", "bodyLength", "I", false)
  | 65 => ("PeerSearchModel", "body", "[I", true)
  | 66 => ("PeerSearchModel", "kept", "[I", true)
  | 67 => ("PeerSearchModel", "postKey", "[I", true)
  | 68 => ("PeerSearchModel", "postOwner", "[I", true)
  | 69 => ("PeerSearchModel", "postDocument", "[I", true)
  | 70 => ("PeerSearchModel", "postWeight", "[I", true)
  | 71 => ("PeerSearchModel", "postEnd", "[I", true)
  | 72 => ("PeerSearchModel", "chosen", "I", false)
  | 73 => ("PeerSearchModel", "choice", "[I", true)
  | 74 => ("PeerSearchModel", "storing", "I", false)
  | 75 => ("PeerSearchModel", "storeOwner", "[I", true)
  | 76 => ("PeerSearchModel", "storeDocument", "[I", true)
  | 77 => ("PeerSearchModel", "storeWeight", "[I", true)
  | 78 => ("PeerSearchModel", "filterLength", "I", false)
  | 79 => ("PeerSearchModel", "filterHashes", "I", false)
  | 80 => ("PeerSearchModel", "filter", "[I", true)
  | 81 => ("PeerSearchModel", "hashA", "J", false)
  | 82 => ("PeerSearchModel", "hashB", "J", false)
  | 83 => ("PeerSearchModel", "told", "I", false)
  | 84 => ("PeerSearchModel", "tellsMore", "Z", false)
  | 85 => ("PeerSearchModel", "toldOwner", "[I", true)
  | 86 => ("PeerSearchModel", "toldDocument", "[I", true)
  | 87 => ("PeerSearchModel", "toldWeight", "[I", true)
  | 88 => ("PeerSearchModel", "checking", "I", false)
  | 89 => ("PeerSearchModel", "checkOwner", "[I", true)
  | 90 => ("PeerSearchModel", "checkDocument", "[I", true)
  | 91 => ("PeerSearchModel", "begun", "I", false)
  | 92 => ("PeerSearchModel", "goes", "[Z", true)
  | 93 => ("PeerSearchModel", "kindOf", "[I", true)
  | 94 => ("PeerSearchModel", "taskPeer", "[I", true)
  | 95 => ("PeerSearchModel", "record", "[I", true)
  | 96 => ("PeerSearchModel", "stage", "[I", true)
  | 97 => ("PeerSearchModel", "turn", "[I", true)
  | 98 => ("PeerSearchModel", "target", "[I", true)
  | 99 => ("PeerSearchModel", "ofValues", "[Z", true)
  | 100 => ("PeerSearchModel", "entries", "[I", true)
  | 101 => ("PeerSearchModel", "entryKey", "[I", true)
  | 102 => ("PeerSearchModel", "entryPeer", "[I", true)
  | 103 => ("PeerSearchModel", "entryState", "[I", true)
  | 104 => ("PeerSearchModel", "entryCount", "[I", true)
  | 105 => ("PeerSearchModel", "asking", "[I", true)
  | 106 => ("PeerSearchModel", "fronts", "I", false)
  | 107 => ("PeerSearchModel", "front", "[I", true)
  | 108 => ("PeerSearchModel", "lastBit", "[I", true)
  | 109 => ("PeerSearchModel", "bitAt", "[I", true)
  | 110 => ("PeerSearchModel", "limit", "[I", true)
  | 111 => ("PeerSearchModel", "term", "[I", true)
  | 112 => ("PeerSearchModel", "pending", "[I", true)
  | 113 => ("PeerSearchModel", "anyFailed", "[Z", true)
  | 114 => ("PeerSearchModel", "queried", "[I", true)
  | 115 => ("PeerSearchModel", "queryAt", "[I", true)
  | 116 => ("PeerSearchModel", "queryKey", "[I", true)
  | 117 => ("PeerSearchModel", "holderPeer", "[I", true)
  | 118 => ("PeerSearchModel", "holderKey", "[I", true)
  | 119 => ("PeerSearchModel", "holderCount", "[I", true)
  | 120 => ("PeerSearchModel", "ordered", "[I", true)
  | 121 => ("PeerSearchModel", "skips", "[I", true)
  | 122 => ("PeerSearchModel", "bitsLength", "[I", true)
  | 123 => ("PeerSearchModel", "bitsHashes", "[I", true)
  | 124 => ("PeerSearchModel", "bits", "[I", true)
  | 125 => ("PeerSearchModel", "listed", "[I", true)
  | 126 => ("PeerSearchModel", "listOwner", "[I", true)
  | 127 => ("PeerSearchModel", "listDocument", "[I", true)
  | 128 => ("PeerSearchModel", "listScore", "[I", true)
  | 129 => ("PeerSearchModel", "listStays", "[Z", true)
  | 130 => ("PeerSearchModel", "checkWith", "[I", true)
  | 131 => ("PeerSearchModel", "checkFrom", "[I", true)
  | 132 => ("PeerSearchModel", "recordKind", "[I", true)
  | 133 => ("PeerSearchModel", "recordPeer", "[I", true)
  | 134 => ("PeerSearchModel", "recordState", "[I", true)
  | 135 => ("PeerSearchModel", "recordAsks", "[I", true)
  | 136 => ("PeerSearchModel", "recordFound", "[I", true)
  | 137 => ("PeerSearchModel", "recordWords", "[I", true)
  | 138 => ("PeerSearchModel", "came", "I", false)
  | 139 => ("PeerSearchModel", "in", "[I", true)
  | 140 => ("PeerSearchModel", "two", "[I", true)
  | 141 => ("PeerSearchModel", "three", "[I", true)
  | 142 => ("PeerSearchModel", "deliveries", "I", false)
  | 143 => ("PeerSearchModel", "out2", "[I", true)
  | _ => ("PeerSearchModel", "score", "[I", true)
def tyX16 : Nat → FieldType := fun k => match k with
  | 0 => .int
  | 1 => .int
  | 2 => .array .int
  | 3 => .array .int
  | 4 => .int
  | 5 => .array .int
  | 6 => .array .int
  | 7 => .array .int
  | 8 => .array .int
  | 9 => .array .int
  | 10 => .array .int
  | 11 => .int
  | 12 => .int
  | 13 => .int
  | 14 => .array .int
  | 15 => .array .int
  | 16 => .array .int
  | 17 => .array .int
  | 18 => .array .int
  | 19 => .array .int
  | 20 => .array .int
  | 21 => .array .int
  | 22 => .array .int
  | 23 => .array .int
  | 24 => .array .int
  | 25 => .array .int
  | 26 => .array .int
  | 27 => .array .int
  | 28 => .int
  | 29 => .array .int
  | 30 => .array .int
  | 31 => .array .int
  | 32 => .int
  | 33 => .int
  | 34 => .array .int
  | 35 => .array .int
  | 36 => .array .int
  | 37 => .array .int
  | 38 => .array .int
  | 39 => .array .int
  | 40 => .array .int
  | 41 => .int
  | 42 => .int
  | 43 => .array .int
  | 44 => .array .int
  | 45 => .array .int
  | 46 => .array .int
  | 47 => .array .boolean
  | 48 => .array .int
  | 49 => .array .int
  | 50 => .int
  | 51 => .array .int
  | 52 => .array .boolean
  | 53 => .array .int
  | 54 => .array .int
  | 55 => .array .int
  | 56 => .array .int
  | 57 => .array .int
  | 58 => .array .int
  | 59 => .array .int
  | 60 => .array .int
  | 61 => .array .int
  | 62 => .array .int
  | 63 => .array .int
  | 64 => .int
  | 65 => .array .int
  | 66 => .array .int
  | 67 => .array .int
  | 68 => .array .int
  | 69 => .array .int
  | 70 => .array .int
  | 71 => .array .int
  | 72 => .int
  | 73 => .array .int
  | 74 => .int
  | 75 => .array .int
  | 76 => .array .int
  | 77 => .array .int
  | 78 => .int
  | 79 => .int
  | 80 => .array .int
  | 81 => .long
  | 82 => .long
  | 83 => .int
  | 84 => .boolean
  | 85 => .array .int
  | 86 => .array .int
  | 87 => .array .int
  | 88 => .int
  | 89 => .array .int
  | 90 => .array .int
  | 91 => .int
  | 92 => .array .boolean
  | 93 => .array .int
  | 94 => .array .int
  | 95 => .array .int
  | 96 => .array .int
  | 97 => .array .int
  | 98 => .array .int
  | 99 => .array .boolean
  | 100 => .array .int
  | 101 => .array .int
  | 102 => .array .int
  | 103 => .array .int
  | 104 => .array .int
  | 105 => .array .int
  | 106 => .int
  | 107 => .array .int
  | 108 => .array .int
  | 109 => .array .int
  | 110 => .array .int
  | 111 => .array .int
  | 112 => .array .int
  | 113 => .array .boolean
  | 114 => .array .int
  | 115 => .array .int
  | 116 => .array .int
  | 117 => .array .int
  | 118 => .array .int
  | 119 => .array .int
  | 120 => .array .int
  | 121 => .array .int
  | 122 => .array .int
  | 123 => .array .int
  | 124 => .array .int
  | 125 => .array .int
  | 126 => .array .int
  | 127 => .array .int
  | 128 => .array .int
  | 129 => .array .boolean
  | 130 => .array .int
  | 131 => .array .int
  | 132 => .array .int
  | 133 => .array .int
  | 134 => .array .int
  | 135 => .array .int
  | 136 => .array .int
  | 137 => .array .int
  | 138 => .int
  | 139 => .array .int
  | 140 => .array .int
  | 141 => .array .int
  | 142 => .int
  | 143 => .array .int
  | _ => .array .int
abbrev wsX160 : List Cond := u_ws RX16 TX16 145
theorem nmX16 : ∀ a, a < 145 → ∀ b, b < 145 → a ≠ b → (TX16 a).2.1 ≠ (TX16 b).2.1 := by decide +kernel
theorem tyX16_ok : ∀ k, k < 145 → parseFieldDescriptor (TX16 k).2.2.1 = some (tyX16 k) := by decide +kernel
abbrev cX16_init : ByteArray := prog_32_method_1_code
def yX16_init : MethodName := ⟨RX16, "<init>", "(II)V"⟩
abbrev cX16_feed : ByteArray := prog_32_method_3_code
def yX16_feed : MethodName := ⟨RX16, "feed", "(IIIII)V"⟩
abbrev cX16_word : ByteArray := prog_32_method_2_code
def yX16_word : MethodName := ⟨RX16, "word", "(II)V"⟩
abbrev cX16_end : ByteArray := prog_32_method_4_code
def yX16_end : MethodName := ⟨RX16, "end", "(I)I"⟩
abbrev cX16_set : ByteArray := prog_32_method_15_code
def yX16_set : MethodName := ⟨RX16, "set", "(II)Z"⟩
abbrev cX16_peer : ByteArray := prog_32_method_19_code
def yX16_peer : MethodName := ⟨RX16, "peer", "()I"⟩
abbrev cX16_hashTape : ByteArray := prog_32_method_8_code
def yX16_hashTape : MethodName := ⟨RX16, "hashTape", "()V"⟩
abbrev cX16_sha : ByteArray := prog_32_method_6_code
def yX16_sha : MethodName := ⟨RX16, "sha", "(I)V"⟩
abbrev cX16_block : ByteArray := prog_32_method_7_code
def yX16_block : MethodName := ⟨RX16, "block", "(I)V"⟩
abbrev cX16_turned : ByteArray := prog_32_method_5_code
def yX16_turned : MethodName := ⟨RX16, "turned", "(II)I"⟩
abbrev cX16_same : ByteArray := prog_32_method_9_code
def yX16_same : MethodName := ⟨RX16, "same", "([II[II)Z"⟩
abbrev cX16_put : ByteArray := prog_32_method_10_code
def yX16_put : MethodName := ⟨RX16, "put", "([II[II)V"⟩
abbrev cX16_key : ByteArray := prog_32_method_20_code
def yX16_key : MethodName := ⟨RX16, "key", "(II)I"⟩
abbrev cX16_isPeer : ByteArray := prog_32_method_17_code
def yX16_isPeer : MethodName := ⟨RX16, "isPeer", "(I)Z"⟩
abbrev cX16_hash : ByteArray := prog_32_method_21_code
def yX16_hash : MethodName := ⟨RX16, "hash", "(I)I"⟩
abbrev cX16_side : ByteArray := prog_32_method_22_code
def yX16_side : MethodName := ⟨RX16, "side", "(II)Z"⟩
abbrev cX16_document : ByteArray := prog_32_method_29_code
def yX16_document : MethodName := ⟨RX16, "document", "(I)I"⟩
abbrev cX16_terms : ByteArray := prog_32_method_26_code
def yX16_terms : MethodName := ⟨RX16, "terms", "()V"⟩
abbrev cX16_isWord : ByteArray := prog_32_method_24_code
def yX16_isWord : MethodName := ⟨RX16, "isWord", "(I)Z"⟩
abbrev cX16_small : ByteArray := prog_32_method_23_code
def yX16_small : MethodName := ⟨RX16, "small", "(I)I"⟩
abbrev cX16_alike : ByteArray := prog_32_method_25_code
def yX16_alike : MethodName := ⟨RX16, "alike", "([III[III)Z"⟩
abbrev cX16_termOf : ByteArray := prog_32_method_27_code
def yX16_termOf : MethodName := ⟨RX16, "termOf", "(I[III)I"⟩
abbrev cX16_hashFound : ByteArray := prog_32_method_28_code
def yX16_hashFound : MethodName := ⟨RX16, "hashFound", "(I)V"⟩
abbrev cX16_start : ByteArray := prog_32_method_94_code
def yX16_start : MethodName := ⟨RX16, "start", "(I)Z"⟩
abbrev cX16_alive : ByteArray := prog_32_method_92_code
def yX16_alive : MethodName := ⟨RX16, "alive", "(I)V"⟩
abbrev cX16_join : ByteArray := prog_32_method_95_code
def yX16_join : MethodName := ⟨RX16, "join", "(II)I"⟩
abbrev cX16_freePlace : ByteArray := prog_32_method_67_code
def yX16_freePlace : MethodName := ⟨RX16, "freePlace", "()I"⟩
abbrev cX16_open : ByteArray := prog_32_method_68_code
def yX16_open : MethodName := ⟨RX16, "open", "(III)V"⟩
abbrev cX16_see : ByteArray := prog_32_method_46_code
def yX16_see : MethodName := ⟨RX16, "see", "(I[III)V"⟩
abbrev cX16_seen : ByteArray := prog_32_method_45_code
def yX16_seen : MethodName := ⟨RX16, "seen", "(I[III)I"⟩
abbrev cX16_common : ByteArray := prog_32_method_13_code
def yX16_common : MethodName := ⟨RX16, "common", "([II[II)I"⟩
abbrev cX16_rowWith : ByteArray := prog_32_method_39_code
def yX16_rowWith : MethodName := ⟨RX16, "rowWith", "(I[II)I"⟩
abbrev cX16_touch : ByteArray := prog_32_method_42_code
def yX16_touch : MethodName := ⟨RX16, "touch", "(I)V"⟩
abbrev cX16_inBucket : ByteArray := prog_32_method_40_code
def yX16_inBucket : MethodName := ⟨RX16, "inBucket", "(IIZ)I"⟩
abbrev cX16_removeRow : ByteArray := prog_32_method_43_code
def yX16_removeRow : MethodName := ⟨RX16, "removeRow", "(II)V"⟩
abbrev cX16_addRow : ByteArray := prog_32_method_44_code
def yX16_addRow : MethodName := ⟨RX16, "addRow", "(I[IIIIZ)I"⟩
abbrev cX16_edge : ByteArray := prog_32_method_41_code
def yX16_edge : MethodName := ⟨RX16, "edge", "(IIZZ)I"⟩
abbrev cX16_probes : ByteArray := prog_32_method_49_code
def yX16_probes : MethodName := ⟨RX16, "probes", "(II)Z"⟩
abbrev cX16_ask : ByteArray := prog_32_method_53_code
def yX16_ask : MethodName := ⟨RX16, "ask", "(II[IIIII)Z"⟩
abbrev cX16_head : ByteArray := prog_32_method_38_code
def yX16_head : MethodName := ⟨RX16, "head", "(III)V"⟩
abbrev cX16_byteOut : ByteArray := prog_32_method_36_code
def yX16_byteOut : MethodName := ⟨RX16, "byteOut", "(I)V"⟩
abbrev cX16_keyOut : ByteArray := prog_32_method_37_code
def yX16_keyOut : MethodName := ⟨RX16, "keyOut", "([II)V"⟩
abbrev cX16_go : ByteArray := prog_32_method_54_code
def yX16_go : MethodName := ⟨RX16, "go", "(II)V"⟩
abbrev cX16_send : ByteArray := prog_32_method_33_code
def yX16_send : MethodName := ⟨RX16, "send", "(II)V"⟩
abbrev cX16_sideOf : ByteArray := prog_32_method_31_code
def yX16_sideOf : MethodName := ⟨RX16, "sideOf", "(I)I"⟩
abbrev cX16_draw : ByteArray := prog_32_method_16_code
def yX16_draw : MethodName := ⟨RX16, "draw", "()I"⟩
abbrev cX16_launch : ByteArray := prog_32_method_32_code
def yX16_launch : MethodName := ⟨RX16, "launch", "(III)V"⟩
abbrev cX16_beginLookup : ByteArray := prog_32_method_73_code
def yX16_beginLookup : MethodName := ⟨RX16, "beginLookup", "(I[IIZ)V"⟩
abbrev cX16_addEntry : ByteArray := prog_32_method_72_code
def yX16_addEntry : MethodName := ⟨RX16, "addEntry", "(I[IIII)V"⟩
abbrev cX16_entryWith : ByteArray := prog_32_method_71_code
def yX16_entryWith : MethodName := ⟨RX16, "entryWith", "(I[II)I"⟩
abbrev cX16_nearer : ByteArray := prog_32_method_12_code
def yX16_nearer : MethodName := ⟨RX16, "nearer", "([II[II[II)Z"⟩
abbrev cX16_order : ByteArray := prog_32_method_11_code
def yX16_order : MethodName := ⟨RX16, "order", "(II)I"⟩
abbrev cX16_nodesFor : ByteArray := prog_32_method_48_code
def yX16_nodesFor : MethodName := ⟨RX16, "nodesFor", "(I[II)V"⟩
abbrev cX16_proceed : ByteArray := prog_32_method_76_code
def yX16_proceed : MethodName := ⟨RX16, "proceed", "(I)V"⟩
abbrev cX16_lookOn : ByteArray := prog_32_method_75_code
def yX16_lookOn : MethodName := ⟨RX16, "lookOn", "(I)Z"⟩
abbrev cX16_makeFront : ByteArray := prog_32_method_74_code
def yX16_makeFront : MethodName := ⟨RX16, "makeFront", "(I)V"⟩
abbrev cX16_bodyKey : ByteArray := prog_32_method_52_code
def yX16_bodyKey : MethodName := ⟨RX16, "bodyKey", "([II)V"⟩
abbrev cX16_bodyByte : ByteArray := prog_32_method_51_code
def yX16_bodyByte : MethodName := ⟨RX16, "bodyByte", "(I)V"⟩
abbrev cX16_askFor : ByteArray := prog_32_method_70_code
def yX16_askFor : MethodName := ⟨RX16, "askFor", "(II[III)Z"⟩
abbrev cX16_behindLookup : ByteArray := prog_32_method_77_code
def yX16_behindLookup : MethodName := ⟨RX16, "behindLookup", "(I)V"⟩
abbrev cX16_beginRefresh : ByteArray := prog_32_method_78_code
def yX16_beginRefresh : MethodName := ⟨RX16, "beginRefresh", "(I)V"⟩
abbrev cX16_refreshOn : ByteArray := prog_32_method_79_code
def yX16_refreshOn : MethodName := ⟨RX16, "refreshOn", "(I)V"⟩
abbrev cX16_close : ByteArray := prog_32_method_69_code
def yX16_close : MethodName := ⟨RX16, "close", "(II)V"⟩
abbrev cX16_storeAll : ByteArray := prog_32_method_82_code
def yX16_storeAll : MethodName := ⟨RX16, "storeAll", "(I)V"⟩
abbrev cX16_keep : ByteArray := prog_32_method_58_code
def yX16_keep : MethodName := ⟨RX16, "keep", "(I[II)Z"⟩
abbrev cX16_postingWith : ByteArray := prog_32_method_55_code
def yX16_postingWith : MethodName := ⟨RX16, "postingWith", "(I[IIII)I"⟩
abbrev cX16_stored : ByteArray := prog_32_method_83_code
def yX16_stored : MethodName := ⟨RX16, "stored", "(IZ)V"⟩
abbrev cX16_holder : ByteArray := prog_32_method_85_code
def yX16_holder : MethodName := ⟨RX16, "holder", "(I)V"⟩
abbrev cX16_isOwn : ByteArray := prog_32_method_84_code
def yX16_isOwn : MethodName := ⟨RX16, "isOwn", "(I[II)Z"⟩
abbrev cX16_choose : ByteArray := prog_32_method_57_code
def yX16_choose : MethodName := ⟨RX16, "choose", "(I[II)V"⟩
abbrev cX16_before : ByteArray := prog_32_method_56_code
def yX16_before : MethodName := ⟨RX16, "before", "(II)Z"⟩
abbrev cX16_nextTerm : ByteArray := prog_32_method_81_code
def yX16_nextTerm : MethodName := ⟨RX16, "nextTerm", "(I)V"⟩
abbrev cX16_lower : ByteArray := prog_32_method_30_code
def yX16_lower : MethodName := ⟨RX16, "lower", "(II)Z"⟩
abbrev cX16_hasTerm : ByteArray := prog_32_method_80_code
def yX16_hasTerm : MethodName := ⟨RX16, "hasTerm", "(II)Z"⟩
abbrev cX16_queryOn : ByteArray := prog_32_method_86_code
def yX16_queryOn : MethodName := ⟨RX16, "queryOn", "(I)Z"⟩
abbrev cX16_makeFilter : ByteArray := prog_32_method_62_code
def yX16_makeFilter : MethodName := ⟨RX16, "makeFilter", "()V"⟩
abbrev cX16_hashPosting : ByteArray := prog_32_method_60_code
def yX16_hashPosting : MethodName := ⟨RX16, "hashPosting", "(II)V"⟩
abbrev cX16_bit : ByteArray := prog_32_method_61_code
def yX16_bit : MethodName := ⟨RX16, "bit", "(II)I"⟩
abbrev cX16_tookBits : ByteArray := prog_32_method_87_code
def yX16_tookBits : MethodName := ⟨RX16, "tookBits", "(I)V"⟩
abbrev cX16_findMatches : ByteArray := prog_32_method_65_code
def yX16_findMatches : MethodName := ⟨RX16, "findMatches", "(I[III)V"⟩
abbrev cX16_matches : ByteArray := prog_32_method_63_code
def yX16_matches : MethodName := ⟨RX16, "matches", "(I)Z"⟩
abbrev cX16_tell : ByteArray := prog_32_method_64_code
def yX16_tell : MethodName := ⟨RX16, "tell", "(I)V"⟩
abbrev cX16_tookMatches : ByteArray := prog_32_method_88_code
def yX16_tookMatches : MethodName := ⟨RX16, "tookMatches", "(I)V"⟩
abbrev cX16_ranked : ByteArray := prog_32_method_91_code
def yX16_ranked : MethodName := ⟨RX16, "ranked", "(I)V"⟩
abbrev cX16_better : ByteArray := prog_32_method_90_code
def yX16_better : MethodName := ⟨RX16, "better", "(II)Z"⟩
abbrev cX16_findChecked : ByteArray := prog_32_method_66_code
def yX16_findChecked : MethodName := ⟨RX16, "findChecked", "(I[II)V"⟩
abbrev cX16_tookChecked : ByteArray := prog_32_method_89_code
def yX16_tookChecked : MethodName := ⟨RX16, "tookChecked", "(I)V"⟩
abbrev cX16_crash : ByteArray := prog_32_method_96_code
def yX16_crash : MethodName := ⟨RX16, "crash", "(I)Z"⟩
abbrev cX16_lives : ByteArray := prog_32_method_18_code
def yX16_lives : MethodName := ⟨RX16, "lives", "(I)Z"⟩
abbrev cX16_gone : ByteArray := prog_32_method_93_code
def yX16_gone : MethodName := ⟨RX16, "gone", "(I)V"⟩
abbrev cX16_leave : ByteArray := prog_32_method_98_code
def yX16_leave : MethodName := ⟨RX16, "leave", "(I)Z"⟩
abbrev cX16_rowAt : ByteArray := prog_32_method_97_code
def yX16_rowAt : MethodName := ⟨RX16, "rowAt", "(IZI)I"⟩
abbrev cX16_publish : ByteArray := prog_32_method_100_code
def yX16_publish : MethodName := ⟨RX16, "publish", "(I)I"⟩
abbrev cX16_beginPublish : ByteArray := prog_32_method_99_code
def yX16_beginPublish : MethodName := ⟨RX16, "beginPublish", "(II)V"⟩
abbrev cX16_lookup : ByteArray := prog_32_method_101_code
def yX16_lookup : MethodName := ⟨RX16, "lookup", "(I)I"⟩
abbrev cX16_query : ByteArray := prog_32_method_102_code
def yX16_query : MethodName := ⟨RX16, "query", "(I)I"⟩
abbrev cX16_forge : ByteArray := prog_32_method_103_code
def yX16_forge : MethodName := ⟨RX16, "forge", "(II)Z"⟩
abbrev cX16_run : ByteArray := prog_32_method_126_code
def yX16_run : MethodName := ⟨RX16, "run", "(I)I"⟩
abbrev cX16_tick : ByteArray := prog_32_method_125_code
def yX16_tick : MethodName := ⟨RX16, "tick", "()V"⟩
abbrev cX16_nextDue : ByteArray := prog_32_method_121_code
def yX16_nextDue : MethodName := ⟨RX16, "nextDue", "()I"⟩
abbrev cX16_ahead : ByteArray := prog_32_method_35_code
def yX16_ahead : MethodName := ⟨RX16, "ahead", "(II)Z"⟩
abbrev cX16_takeIn : ByteArray := prog_32_method_122_code
def yX16_takeIn : MethodName := ⟨RX16, "takeIn", "(I)V"⟩
abbrev cX16_land : ByteArray := prog_32_method_34_code
def yX16_land : MethodName := ⟨RX16, "land", "(I)V"⟩
abbrev cX16_deliver : ByteArray := prog_32_method_112_code
def yX16_deliver : MethodName := ⟨RX16, "deliver", "(II)V"⟩
abbrev cX16_wellFormed : ByteArray := prog_32_method_109_code
def yX16_wellFormed : MethodName := ⟨RX16, "wellFormed", "()Z"⟩
abbrev cX16_areNodes : ByteArray := prog_32_method_107_code
def yX16_areNodes : MethodName := ⟨RX16, "areNodes", "(II)Z"⟩
abbrev cX16_areRows : ByteArray := prog_32_method_106_code
def yX16_areRows : MethodName := ⟨RX16, "areRows", "(III)Z"⟩
abbrev cX16_pairAt : ByteArray := prog_32_method_104_code
def yX16_pairAt : MethodName := ⟨RX16, "pairAt", "(I)I"⟩
abbrev cX16_isHashes : ByteArray := prog_32_method_108_code
def yX16_isHashes : MethodName := ⟨RX16, "isHashes", "(I)Z"⟩
abbrev cX16_keyAt : ByteArray := prog_32_method_105_code
def yX16_keyAt : MethodName := ⟨RX16, "keyAt", "([II)V"⟩
abbrev cX16_lose : ByteArray := prog_32_method_47_code
def yX16_lose : MethodName := ⟨RX16, "lose", "(I[III)V"⟩
abbrev cX16_answer : ByteArray := prog_32_method_116_code
def yX16_answer : MethodName := ⟨RX16, "answer", "(II)V"⟩
abbrev cX16_numberIn : ByteArray := prog_32_method_110_code
def yX16_numberIn : MethodName := ⟨RX16, "numberIn", "()I"⟩
abbrev cX16_tellNodes : ByteArray := prog_32_method_113_code
def yX16_tellNodes : MethodName := ⟨RX16, "tellNodes", "(I)V"⟩
abbrev cX16_pairOut : ByteArray := prog_32_method_115_code
def yX16_pairOut : MethodName := ⟨RX16, "pairOut", "(I)V"⟩
abbrev cX16_takeFilter : ByteArray := prog_32_method_117_code
def yX16_takeFilter : MethodName := ⟨RX16, "takeFilter", "(I)V"⟩
abbrev cX16_tellPostings : ByteArray := prog_32_method_114_code
def yX16_tellPostings : MethodName := ⟨RX16, "tellPostings", "()V"⟩
abbrev cX16_awaited : ByteArray := prog_32_method_111_code
def yX16_awaited : MethodName := ⟨RX16, "awaited", "(II)I"⟩
abbrev cX16_answered : ByteArray := prog_32_method_119_code
def yX16_answered : MethodName := ⟨RX16, "answered", "(II)V"⟩
abbrev cX16_takeTold : ByteArray := prog_32_method_118_code
def yX16_takeTold : MethodName := ⟨RX16, "takeTold", "(I)V"⟩
abbrev cX16_runOut : ByteArray := prog_32_method_123_code
def yX16_runOut : MethodName := ⟨RX16, "runOut", "(I)V"⟩
abbrev cX16_failed : ByteArray := prog_32_method_120_code
def yX16_failed : MethodName := ⟨RX16, "failed", "(II)V"⟩
abbrev cX16_expire : ByteArray := prog_32_method_59_code
def yX16_expire : MethodName := ⟨RX16, "expire", "(I)V"⟩
abbrev cX16_background : ByteArray := prog_32_method_124_code
def yX16_background : MethodName := ⟨RX16, "background", "(I)V"⟩
abbrev cX16_rest : ByteArray := prog_32_method_128_code
def yX16_rest : MethodName := ⟨RX16, "rest", "(I)I"⟩
abbrev cX16_going : ByteArray := prog_32_method_127_code
def yX16_going : MethodName := ⟨RX16, "going", "()I"⟩
abbrev cX16_task : ByteArray := prog_32_method_129_code
def yX16_task : MethodName := ⟨RX16, "task", "(II)I"⟩
abbrev cX16_found : ByteArray := prog_32_method_130_code
def yX16_found : MethodName := ⟨RX16, "found", "(III)I"⟩
abbrev cX16_count : ByteArray := prog_32_method_132_code
def yX16_count : MethodName := ⟨RX16, "count", "(II)I"⟩
abbrev cX16_contacts : ByteArray := prog_32_method_131_code
def yX16_contacts : MethodName := ⟨RX16, "contacts", "(IZ)I"⟩
abbrev cX16_waiting : ByteArray := prog_32_method_50_code
def yX16_waiting : MethodName := ⟨RX16, "waiting", "(I)I"⟩
abbrev cX16_contact : ByteArray := prog_32_method_133_code
def yX16_contact : MethodName := ⟨RX16, "contact", "(IZII)I"⟩
abbrev cX16_posting : ByteArray := prog_32_method_135_code
def yX16_posting : MethodName := ⟨RX16, "posting", "(III)I"⟩
abbrev cX16_postBefore : ByteArray := prog_32_method_134_code
def yX16_postBefore : MethodName := ⟨RX16, "postBefore", "(II)Z"⟩
abbrev cX16_below : ByteArray := prog_32_method_14_code
def yX16_below : MethodName := ⟨RX16, "below", "([II[II)Z"⟩
abbrev cX16_flight : ByteArray := prog_32_method_136_code
def yX16_flight : MethodName := ⟨RX16, "flight", "(II)I"⟩
abbrev cX16_look : ByteArray := prog_32_method_137_code
def yX16_look : MethodName := ⟨RX16, "look", "(I)I"⟩
abbrev cX16_stable : ByteArray := prog_32_method_139_code
def yX16_stable : MethodName := ⟨RX16, "stable", "()Z"⟩
abbrev cX16_isTrue : ByteArray := prog_32_method_138_code
def yX16_isTrue : MethodName := ⟨RX16, "isTrue", "(I)Z"⟩
abbrev cX16_nearest : ByteArray := prog_32_method_140_code
def yX16_nearest : MethodName := ⟨RX16, "nearest", "(I)I"⟩
abbrev cX16_truth : ByteArray := prog_32_method_141_code
def yX16_truth : MethodName := ⟨RX16, "truth", "(II)I"⟩
theorem q189 : (Jvm.Cond.initialized "PeerSearchModel") ∈ lw_all := lw_g (lw_at lw_m1 17 rfl) rfl
theorem q2104 : (Jvm.Cond.instantiable "PeerSearchModel" (145 : Nat)) ∈ lw_all := lw_g (lw_at lw_m9 12 rfl) rfl
theorem q2106 : (Jvm.Cond.instanceMethod ({ cls := "PeerSearchModel", name := "<init>", desc := "(II)V" } : Jvm.MethodName)) ∈ lw_all := lw_g (lw_at lw_m9 14 rfl) rfl
theorem q2107 : (Jvm.Cond.code ({ cls := "PeerSearchModel", name := "<init>", desc := "(II)V" } : Jvm.MethodName) prog_32_method_1_code (3 : Nat) (Option.none : Option Jvm.ClassFile.FieldType)) ∈ lw_all := lw_g (lw_at lw_m9 15 rfl) rfl
theorem q2108 : (Jvm.Cond.methodLink "PeerSearchModel" (1 : Nat) ({ cls := "java/lang/Object", name := "<init>", desc := "()V" } : Jvm.MethodName)) ∈ lw_all := lw_g (lw_at lw_m9 16 rfl) rfl
theorem q2109 : (Jvm.Cond.constant "PeerSearchModel" (31 : Nat) (100000 : Int32)) ∈ lw_all := lw_g (lw_at lw_m9 17 rfl) rfl
theorem q2110 : (Jvm.Cond.constant "PeerSearchModel" (32 : Nat) (2147483647 : Int32)) ∈ lw_all := lw_g (lw_at lw_m9 18 rfl) rfl
theorem q2111 : (Jvm.Cond.constant "PeerSearchModel" (75 : Nat) (32768 : Int32)) ∈ lw_all := lw_g (lw_at lw_m9 19 rfl) rfl
theorem q2112 : (Jvm.Cond.constant "PeerSearchModel" (103 : Nat) (184000 : Int32)) ∈ lw_all := lw_g (lw_at lw_m9 20 rfl) rfl
theorem q2113 : (Jvm.Cond.constant "PeerSearchModel" (113 : Nat) (176000 : Int32)) ∈ lw_all := lw_g (lw_at lw_m9 21 rfl) rfl
theorem q2114 : (Jvm.Cond.constant "PeerSearchModel" (117 : Nat) (35200 : Int32)) ∈ lw_all := lw_g (lw_at lw_m9 22 rfl) rfl
theorem q2115 : (Jvm.Cond.constant "PeerSearchModel" (170 : Nat) (448000 : Int32)) ∈ lw_all := lw_g (lw_at lw_m9 23 rfl) rfl
theorem q2116 : (Jvm.Cond.constant "PeerSearchModel" (357 : Nat) (46080 : Int32)) ∈ lw_all := lw_g (lw_at lw_m9 24 rfl) rfl
theorem q2117 : (Jvm.Cond.fieldLink "PeerSearchModel" (376 : Nat) "PeerSearchModel" "k" "I") ∈ lw_all := lw_g (lw_at lw_m9 25 rfl) rfl
theorem q2118 : (Jvm.Cond.fieldLink "PeerSearchModel" (380 : Nat) "PeerSearchModel" "alpha" "I") ∈ lw_all := lw_g (lw_at lw_m9 26 rfl) rfl
theorem q2119 : (Jvm.Cond.fieldLink "PeerSearchModel" (7 : Nat) "PeerSearchModel" "ready" "[I") ∈ lw_all := lw_g (lw_at lw_m9 27 rfl) rfl
theorem q2120 : (Jvm.Cond.fieldLink "PeerSearchModel" (13 : Nat) "PeerSearchModel" "tape" "[I") ∈ lw_all := lw_g (lw_at lw_m9 28 rfl) rfl
theorem q2121 : (Jvm.Cond.fieldLink "PeerSearchModel" (387 : Nat) "PeerSearchModel" "taped" "I") ∈ lw_all := lw_g (lw_at lw_m9 29 rfl) rfl
theorem q2122 : (Jvm.Cond.fieldLink "PeerSearchModel" (16 : Nat) "PeerSearchModel" "msg" "[I") ∈ lw_all := lw_g (lw_at lw_m9 30 rfl) rfl
theorem q2123 : (Jvm.Cond.fieldLink "PeerSearchModel" (19 : Nat) "PeerSearchModel" "schedule" "[I") ∈ lw_all := lw_g (lw_at lw_m9 31 rfl) rfl
theorem q2124 : (Jvm.Cond.fieldLink "PeerSearchModel" (22 : Nat) "PeerSearchModel" "h" "[I") ∈ lw_all := lw_g (lw_at lw_m9 32 rfl) rfl
theorem q2125 : (Jvm.Cond.fieldLink "PeerSearchModel" (25 : Nat) "PeerSearchModel" "setting" "[I") ∈ lw_all := lw_g (lw_at lw_m9 33 rfl) rfl
theorem q2126 : (Jvm.Cond.fieldLink "PeerSearchModel" (28 : Nat) "PeerSearchModel" "least" "[I") ∈ lw_all := lw_g (lw_at lw_m9 34 rfl) rfl
theorem q2127 : (Jvm.Cond.fieldLink "PeerSearchModel" (33 : Nat) "PeerSearchModel" "most" "[I") ∈ lw_all := lw_g (lw_at lw_m9 35 rfl) rfl
theorem q2128 : (Jvm.Cond.fieldLink "PeerSearchModel" (483 : Nat) "PeerSearchModel" "time" "I") ∈ lw_all := lw_g (lw_at lw_m9 36 rfl) rfl
theorem q2129 : (Jvm.Cond.fieldLink "PeerSearchModel" (476 : Nat) "PeerSearchModel" "lostOnes" "I") ∈ lw_all := lw_g (lw_at lw_m9 37 rfl) rfl
theorem q2130 : (Jvm.Cond.fieldLink "PeerSearchModel" (424 : Nat) "PeerSearchModel" "peers" "I") ∈ lw_all := lw_g (lw_at lw_m9 38 rfl) rfl
theorem q2131 : (Jvm.Cond.fieldLink "PeerSearchModel" (36 : Nat) "PeerSearchModel" "keys" "[I") ∈ lw_all := lw_g (lw_at lw_m9 39 rfl) rfl
theorem q2132 : (Jvm.Cond.fieldLink "PeerSearchModel" (39 : Nat) "PeerSearchModel" "sides" "[I") ∈ lw_all := lw_g (lw_at lw_m9 40 rfl) rfl
theorem q2133 : (Jvm.Cond.fieldLink "PeerSearchModel" (42 : Nat) "PeerSearchModel" "state" "[I") ∈ lw_all := lw_g (lw_at lw_m9 41 rfl) rfl
theorem q2134 : (Jvm.Cond.fieldLink "PeerSearchModel" (45 : Nat) "PeerSearchModel" "since" "[I") ∈ lw_all := lw_g (lw_at lw_m9 42 rfl) rfl
theorem q2135 : (Jvm.Cond.fieldLink "PeerSearchModel" (48 : Nat) "PeerSearchModel" "published" "[I") ∈ lw_all := lw_g (lw_at lw_m9 43 rfl) rfl
theorem q2136 : (Jvm.Cond.fieldLink "PeerSearchModel" (51 : Nat) "PeerSearchModel" "refreshed" "[I") ∈ lw_all := lw_g (lw_at lw_m9 44 rfl) rfl
theorem q2137 : (Jvm.Cond.fieldLink "PeerSearchModel" (54 : Nat) "PeerSearchModel" "number" "[I") ∈ lw_all := lw_g (lw_at lw_m9 45 rfl) rfl
theorem q2138 : (Jvm.Cond.fieldLink "PeerSearchModel" (57 : Nat) "PeerSearchModel" "tally" "[I") ∈ lw_all := lw_g (lw_at lw_m9 46 rfl) rfl
theorem q2139 : (Jvm.Cond.fieldLink "PeerSearchModel" (60 : Nat) "PeerSearchModel" "documents" "[I") ∈ lw_all := lw_g (lw_at lw_m9 47 rfl) rfl
theorem q2140 : (Jvm.Cond.fieldLink "PeerSearchModel" (63 : Nat) "PeerSearchModel" "terms" "[I") ∈ lw_all := lw_g (lw_at lw_m9 48 rfl) rfl
theorem q2141 : (Jvm.Cond.fieldLink "PeerSearchModel" (66 : Nat) "PeerSearchModel" "termText" "[I") ∈ lw_all := lw_g (lw_at lw_m9 49 rfl) rfl
theorem q2142 : (Jvm.Cond.fieldLink "PeerSearchModel" (69 : Nat) "PeerSearchModel" "termLength" "[I") ∈ lw_all := lw_g (lw_at lw_m9 50 rfl) rfl
theorem q2143 : (Jvm.Cond.fieldLink "PeerSearchModel" (72 : Nat) "PeerSearchModel" "termKey" "[I") ∈ lw_all := lw_g (lw_at lw_m9 51 rfl) rfl
theorem q2144 : (Jvm.Cond.fieldLink "PeerSearchModel" (76 : Nat) "PeerSearchModel" "weights" "[I") ∈ lw_all := lw_g (lw_at lw_m9 52 rfl) rfl
theorem q2145 : (Jvm.Cond.fieldLink "PeerSearchModel" (442 : Nat) "PeerSearchModel" "found" "I") ∈ lw_all := lw_g (lw_at lw_m9 53 rfl) rfl
theorem q2146 : (Jvm.Cond.fieldLink "PeerSearchModel" (79 : Nat) "PeerSearchModel" "foundText" "[I") ∈ lw_all := lw_g (lw_at lw_m9 54 rfl) rfl
theorem q2147 : (Jvm.Cond.fieldLink "PeerSearchModel" (82 : Nat) "PeerSearchModel" "foundLength" "[I") ∈ lw_all := lw_g (lw_at lw_m9 55 rfl) rfl
theorem q2148 : (Jvm.Cond.fieldLink "PeerSearchModel" (85 : Nat) "PeerSearchModel" "foundTimes" "[I") ∈ lw_all := lw_g (lw_at lw_m9 56 rfl) rfl
theorem q2149 : (Jvm.Cond.fieldLink "PeerSearchModel" (464 : Nat) "PeerSearchModel" "flying" "I") ∈ lw_all := lw_g (lw_at lw_m9 57 rfl) rfl
theorem q2150 : (Jvm.Cond.fieldLink "PeerSearchModel" (467 : Nat) "PeerSearchModel" "launched" "I") ∈ lw_all := lw_g (lw_at lw_m9 58 rfl) rfl
theorem q2151 : (Jvm.Cond.fieldLink "PeerSearchModel" (88 : Nat) "PeerSearchModel" "from" "[I") ∈ lw_all := lw_g (lw_at lw_m9 59 rfl) rfl
theorem q2152 : (Jvm.Cond.fieldLink "PeerSearchModel" (91 : Nat) "PeerSearchModel" "to" "[I") ∈ lw_all := lw_g (lw_at lw_m9 60 rfl) rfl
theorem q2153 : (Jvm.Cond.fieldLink "PeerSearchModel" (94 : Nat) "PeerSearchModel" "due" "[I") ∈ lw_all := lw_g (lw_at lw_m9 61 rfl) rfl
theorem q2154 : (Jvm.Cond.fieldLink "PeerSearchModel" (97 : Nat) "PeerSearchModel" "serial" "[I") ∈ lw_all := lw_g (lw_at lw_m9 62 rfl) rfl
theorem q2155 : (Jvm.Cond.fieldLink "PeerSearchModel" (100 : Nat) "PeerSearchModel" "length" "[I") ∈ lw_all := lw_g (lw_at lw_m9 63 rfl) rfl
theorem q2156 : (Jvm.Cond.fieldLink "PeerSearchModel" (104 : Nat) "PeerSearchModel" "bytes" "[I") ∈ lw_all := lw_g (lw_at lw_m9 64 rfl) rfl
theorem q2157 : (Jvm.Cond.fieldLink "PeerSearchModel" (107 : Nat) "PeerSearchModel" "out" "[I") ∈ lw_all := lw_g (lw_at lw_m9 65 rfl) rfl
theorem q2158 : (Jvm.Cond.fieldLink "PeerSearchModel" (470 : Nat) "PeerSearchModel" "outLength" "I") ∈ lw_all := lw_g (lw_at lw_m9 66 rfl) rfl
theorem q2159 : (Jvm.Cond.fieldLink "PeerSearchModel" (497 : Nat) "PeerSearchModel" "stamps" "I") ∈ lw_all := lw_g (lw_at lw_m9 67 rfl) rfl
theorem q2160 : (Jvm.Cond.fieldLink "PeerSearchModel" (110 : Nat) "PeerSearchModel" "rows" "[I") ∈ lw_all := lw_g (lw_at lw_m9 68 rfl) rfl
theorem q2161 : (Jvm.Cond.fieldLink "PeerSearchModel" (114 : Nat) "PeerSearchModel" "rowKey" "[I") ∈ lw_all := lw_g (lw_at lw_m9 69 rfl) rfl
theorem q2162 : (Jvm.Cond.fieldLink "PeerSearchModel" (118 : Nat) "PeerSearchModel" "rowPeer" "[I") ∈ lw_all := lw_g (lw_at lw_m9 70 rfl) rfl
theorem q2163 : (Jvm.Cond.fieldLink "PeerSearchModel" (121 : Nat) "PeerSearchModel" "rowC" "[I") ∈ lw_all := lw_g (lw_at lw_m9 71 rfl) rfl
theorem q2164 : (Jvm.Cond.fieldLink "PeerSearchModel" (124 : Nat) "PeerSearchModel" "rowReserve" "[Z") ∈ lw_all := lw_g (lw_at lw_m9 72 rfl) rfl
theorem q2165 : (Jvm.Cond.fieldLink "PeerSearchModel" (128 : Nat) "PeerSearchModel" "rowStamp" "[I") ∈ lw_all := lw_g (lw_at lw_m9 73 rfl) rfl
theorem q2166 : (Jvm.Cond.fieldLink "PeerSearchModel" (131 : Nat) "PeerSearchModel" "one" "[I") ∈ lw_all := lw_g (lw_at lw_m9 74 rfl) rfl
theorem q2167 : (Jvm.Cond.fieldLink "PeerSearchModel" (537 : Nat) "PeerSearchModel" "nears" "I") ∈ lw_all := lw_g (lw_at lw_m9 75 rfl) rfl
theorem q2168 : (Jvm.Cond.fieldLink "PeerSearchModel" (134 : Nat) "PeerSearchModel" "near" "[I") ∈ lw_all := lw_g (lw_at lw_m9 76 rfl) rfl
theorem q2169 : (Jvm.Cond.fieldLink "PeerSearchModel" (137 : Nat) "PeerSearchModel" "waits" "[Z") ∈ lw_all := lw_g (lw_at lw_m9 77 rfl) rfl
theorem q2170 : (Jvm.Cond.fieldLink "PeerSearchModel" (140 : Nat) "PeerSearchModel" "asked" "[I") ∈ lw_all := lw_g (lw_at lw_m9 78 rfl) rfl
theorem q2171 : (Jvm.Cond.fieldLink "PeerSearchModel" (143 : Nat) "PeerSearchModel" "askedPeer" "[I") ∈ lw_all := lw_g (lw_at lw_m9 79 rfl) rfl
theorem q2172 : (Jvm.Cond.fieldLink "PeerSearchModel" (146 : Nat) "PeerSearchModel" "askedKey" "[I") ∈ lw_all := lw_g (lw_at lw_m9 80 rfl) rfl
theorem q2173 : (Jvm.Cond.fieldLink "PeerSearchModel" (149 : Nat) "PeerSearchModel" "askedType" "[I") ∈ lw_all := lw_g (lw_at lw_m9 81 rfl) rfl
theorem q2174 : (Jvm.Cond.fieldLink "PeerSearchModel" (152 : Nat) "PeerSearchModel" "deadline" "[I") ∈ lw_all := lw_g (lw_at lw_m9 82 rfl) rfl
theorem q2175 : (Jvm.Cond.fieldLink "PeerSearchModel" (155 : Nat) "PeerSearchModel" "sents" "[I") ∈ lw_all := lw_g (lw_at lw_m9 83 rfl) rfl
theorem q2176 : (Jvm.Cond.fieldLink "PeerSearchModel" (158 : Nat) "PeerSearchModel" "askedTask" "[I") ∈ lw_all := lw_g (lw_at lw_m9 84 rfl) rfl
theorem q2177 : (Jvm.Cond.fieldLink "PeerSearchModel" (161 : Nat) "PeerSearchModel" "askedSerial" "[I") ∈ lw_all := lw_g (lw_at lw_m9 85 rfl) rfl
theorem q2178 : (Jvm.Cond.fieldLink "PeerSearchModel" (164 : Nat) "PeerSearchModel" "probed" "[I") ∈ lw_all := lw_g (lw_at lw_m9 86 rfl) rfl
theorem q2179 : (Jvm.Cond.fieldLink "PeerSearchModel" (167 : Nat) "PeerSearchModel" "askedLength" "[I") ∈ lw_all := lw_g (lw_at lw_m9 87 rfl) rfl
theorem q2180 : (Jvm.Cond.fieldLink "PeerSearchModel" (171 : Nat) "PeerSearchModel" "askedBytes" "[I") ∈ lw_all := lw_g (lw_at lw_m9 88 rfl) rfl
theorem q2181 : (Jvm.Cond.fieldLink "PeerSearchModel" (544 : Nat) "PeerSearchModel" "bodyLength" "I") ∈ lw_all := lw_g (lw_at lw_m9 89 rfl) rfl
theorem q2182 : (Jvm.Cond.fieldLink "PeerSearchModel" (174 : Nat) "PeerSearchModel" "body" "[I") ∈ lw_all := lw_g (lw_at lw_m9 90 rfl) rfl
theorem q2183 : (Jvm.Cond.fieldLink "PeerSearchModel" (177 : Nat) "PeerSearchModel" "kept" "[I") ∈ lw_all := lw_g (lw_at lw_m9 91 rfl) rfl
theorem q2184 : (Jvm.Cond.fieldLink "PeerSearchModel" (180 : Nat) "PeerSearchModel" "postKey" "[I") ∈ lw_all := lw_g (lw_at lw_m9 92 rfl) rfl
theorem q2185 : (Jvm.Cond.fieldLink "PeerSearchModel" (183 : Nat) "PeerSearchModel" "postOwner" "[I") ∈ lw_all := lw_g (lw_at lw_m9 93 rfl) rfl
theorem q2186 : (Jvm.Cond.fieldLink "PeerSearchModel" (186 : Nat) "PeerSearchModel" "postDocument" "[I") ∈ lw_all := lw_g (lw_at lw_m9 94 rfl) rfl
theorem q2187 : (Jvm.Cond.fieldLink "PeerSearchModel" (189 : Nat) "PeerSearchModel" "postWeight" "[I") ∈ lw_all := lw_g (lw_at lw_m9 95 rfl) rfl
theorem q2188 : (Jvm.Cond.fieldLink "PeerSearchModel" (192 : Nat) "PeerSearchModel" "postEnd" "[I") ∈ lw_all := lw_g (lw_at lw_m9 96 rfl) rfl
theorem q2189 : (Jvm.Cond.fieldLink "PeerSearchModel" (559 : Nat) "PeerSearchModel" "chosen" "I") ∈ lw_all := lw_g (lw_at lw_m9 97 rfl) rfl
theorem q2190 : (Jvm.Cond.fieldLink "PeerSearchModel" (195 : Nat) "PeerSearchModel" "choice" "[I") ∈ lw_all := lw_g (lw_at lw_m9 98 rfl) rfl
theorem q2191 : (Jvm.Cond.fieldLink "PeerSearchModel" (565 : Nat) "PeerSearchModel" "storing" "I") ∈ lw_all := lw_g (lw_at lw_m9 99 rfl) rfl
theorem q2192 : (Jvm.Cond.fieldLink "PeerSearchModel" (198 : Nat) "PeerSearchModel" "storeOwner" "[I") ∈ lw_all := lw_g (lw_at lw_m9 100 rfl) rfl
theorem q2193 : (Jvm.Cond.fieldLink "PeerSearchModel" (201 : Nat) "PeerSearchModel" "storeDocument" "[I") ∈ lw_all := lw_g (lw_at lw_m9 101 rfl) rfl
theorem q2194 : (Jvm.Cond.fieldLink "PeerSearchModel" (204 : Nat) "PeerSearchModel" "storeWeight" "[I") ∈ lw_all := lw_g (lw_at lw_m9 102 rfl) rfl
theorem q2195 : (Jvm.Cond.fieldLink "PeerSearchModel" (586 : Nat) "PeerSearchModel" "filterLength" "I") ∈ lw_all := lw_g (lw_at lw_m9 103 rfl) rfl
theorem q2196 : (Jvm.Cond.fieldLink "PeerSearchModel" (583 : Nat) "PeerSearchModel" "filterHashes" "I") ∈ lw_all := lw_g (lw_at lw_m9 104 rfl) rfl
theorem q2197 : (Jvm.Cond.fieldLink "PeerSearchModel" (207 : Nat) "PeerSearchModel" "filter" "[I") ∈ lw_all := lw_g (lw_at lw_m9 105 rfl) rfl
theorem q2198 : (Jvm.Cond.fieldLink "PeerSearchModel" (574 : Nat) "PeerSearchModel" "hashA" "J") ∈ lw_all := lw_g (lw_at lw_m9 106 rfl) rfl
theorem q2199 : (Jvm.Cond.fieldLink "PeerSearchModel" (578 : Nat) "PeerSearchModel" "hashB" "J") ∈ lw_all := lw_g (lw_at lw_m9 107 rfl) rfl
theorem q2200 : (Jvm.Cond.fieldLink "PeerSearchModel" (595 : Nat) "PeerSearchModel" "told" "I") ∈ lw_all := lw_g (lw_at lw_m9 108 rfl) rfl
theorem q2201 : (Jvm.Cond.fieldLink "PeerSearchModel" (602 : Nat) "PeerSearchModel" "tellsMore" "Z") ∈ lw_all := lw_g (lw_at lw_m9 109 rfl) rfl
theorem q2202 : (Jvm.Cond.fieldLink "PeerSearchModel" (210 : Nat) "PeerSearchModel" "toldOwner" "[I") ∈ lw_all := lw_g (lw_at lw_m9 110 rfl) rfl
theorem q2203 : (Jvm.Cond.fieldLink "PeerSearchModel" (213 : Nat) "PeerSearchModel" "toldDocument" "[I") ∈ lw_all := lw_g (lw_at lw_m9 111 rfl) rfl
theorem q2204 : (Jvm.Cond.fieldLink "PeerSearchModel" (216 : Nat) "PeerSearchModel" "toldWeight" "[I") ∈ lw_all := lw_g (lw_at lw_m9 112 rfl) rfl
theorem q2205 : (Jvm.Cond.fieldLink "PeerSearchModel" (612 : Nat) "PeerSearchModel" "checking" "I") ∈ lw_all := lw_g (lw_at lw_m9 113 rfl) rfl
theorem q2206 : (Jvm.Cond.fieldLink "PeerSearchModel" (219 : Nat) "PeerSearchModel" "checkOwner" "[I") ∈ lw_all := lw_g (lw_at lw_m9 114 rfl) rfl
theorem q2207 : (Jvm.Cond.fieldLink "PeerSearchModel" (222 : Nat) "PeerSearchModel" "checkDocument" "[I") ∈ lw_all := lw_g (lw_at lw_m9 115 rfl) rfl
theorem q2208 : (Jvm.Cond.fieldLink "PeerSearchModel" (615 : Nat) "PeerSearchModel" "begun" "I") ∈ lw_all := lw_g (lw_at lw_m9 116 rfl) rfl
theorem q2209 : (Jvm.Cond.fieldLink "PeerSearchModel" (225 : Nat) "PeerSearchModel" "goes" "[Z") ∈ lw_all := lw_g (lw_at lw_m9 117 rfl) rfl
theorem q2210 : (Jvm.Cond.fieldLink "PeerSearchModel" (228 : Nat) "PeerSearchModel" "kindOf" "[I") ∈ lw_all := lw_g (lw_at lw_m9 118 rfl) rfl
theorem q2211 : (Jvm.Cond.fieldLink "PeerSearchModel" (231 : Nat) "PeerSearchModel" "taskPeer" "[I") ∈ lw_all := lw_g (lw_at lw_m9 119 rfl) rfl
theorem q2212 : (Jvm.Cond.fieldLink "PeerSearchModel" (234 : Nat) "PeerSearchModel" "record" "[I") ∈ lw_all := lw_g (lw_at lw_m9 120 rfl) rfl
theorem q2213 : (Jvm.Cond.fieldLink "PeerSearchModel" (237 : Nat) "PeerSearchModel" "stage" "[I") ∈ lw_all := lw_g (lw_at lw_m9 121 rfl) rfl
theorem q2214 : (Jvm.Cond.fieldLink "PeerSearchModel" (240 : Nat) "PeerSearchModel" "turn" "[I") ∈ lw_all := lw_g (lw_at lw_m9 122 rfl) rfl
theorem q2215 : (Jvm.Cond.fieldLink "PeerSearchModel" (243 : Nat) "PeerSearchModel" "target" "[I") ∈ lw_all := lw_g (lw_at lw_m9 123 rfl) rfl
theorem q2216 : (Jvm.Cond.fieldLink "PeerSearchModel" (246 : Nat) "PeerSearchModel" "ofValues" "[Z") ∈ lw_all := lw_g (lw_at lw_m9 124 rfl) rfl
theorem q2217 : (Jvm.Cond.fieldLink "PeerSearchModel" (249 : Nat) "PeerSearchModel" "entries" "[I") ∈ lw_all := lw_g (lw_at lw_m9 125 rfl) rfl
theorem q2218 : (Jvm.Cond.fieldLink "PeerSearchModel" (252 : Nat) "PeerSearchModel" "entryKey" "[I") ∈ lw_all := lw_g (lw_at lw_m9 126 rfl) rfl
theorem q2219 : (Jvm.Cond.fieldLink "PeerSearchModel" (255 : Nat) "PeerSearchModel" "entryPeer" "[I") ∈ lw_all := lw_g (lw_at lw_m9 127 rfl) rfl
theorem q2220 : (Jvm.Cond.fieldLink "PeerSearchModel" (258 : Nat) "PeerSearchModel" "entryState" "[I") ∈ lw_all := lw_g (lw_at lw_m9 128 rfl) rfl
theorem q2221 : (Jvm.Cond.fieldLink "PeerSearchModel" (261 : Nat) "PeerSearchModel" "entryCount" "[I") ∈ lw_all := lw_g (lw_at lw_m9 129 rfl) rfl
theorem q2222 : (Jvm.Cond.fieldLink "PeerSearchModel" (264 : Nat) "PeerSearchModel" "asking" "[I") ∈ lw_all := lw_g (lw_at lw_m9 130 rfl) rfl
theorem q2223 : (Jvm.Cond.fieldLink "PeerSearchModel" (628 : Nat) "PeerSearchModel" "fronts" "I") ∈ lw_all := lw_g (lw_at lw_m9 131 rfl) rfl
theorem q2224 : (Jvm.Cond.fieldLink "PeerSearchModel" (267 : Nat) "PeerSearchModel" "front" "[I") ∈ lw_all := lw_g (lw_at lw_m9 132 rfl) rfl
theorem q2225 : (Jvm.Cond.fieldLink "PeerSearchModel" (270 : Nat) "PeerSearchModel" "lastBit" "[I") ∈ lw_all := lw_g (lw_at lw_m9 133 rfl) rfl
theorem q2226 : (Jvm.Cond.fieldLink "PeerSearchModel" (273 : Nat) "PeerSearchModel" "bitAt" "[I") ∈ lw_all := lw_g (lw_at lw_m9 134 rfl) rfl
theorem q2227 : (Jvm.Cond.fieldLink "PeerSearchModel" (276 : Nat) "PeerSearchModel" "limit" "[I") ∈ lw_all := lw_g (lw_at lw_m9 135 rfl) rfl
theorem q2228 : (Jvm.Cond.fieldLink "PeerSearchModel" (279 : Nat) "PeerSearchModel" "term" "[I") ∈ lw_all := lw_g (lw_at lw_m9 136 rfl) rfl
theorem q2229 : (Jvm.Cond.fieldLink "PeerSearchModel" (282 : Nat) "PeerSearchModel" "pending" "[I") ∈ lw_all := lw_g (lw_at lw_m9 137 rfl) rfl
theorem q2230 : (Jvm.Cond.fieldLink "PeerSearchModel" (285 : Nat) "PeerSearchModel" "anyFailed" "[Z") ∈ lw_all := lw_g (lw_at lw_m9 138 rfl) rfl
theorem q2231 : (Jvm.Cond.fieldLink "PeerSearchModel" (288 : Nat) "PeerSearchModel" "queried" "[I") ∈ lw_all := lw_g (lw_at lw_m9 139 rfl) rfl
theorem q2232 : (Jvm.Cond.fieldLink "PeerSearchModel" (291 : Nat) "PeerSearchModel" "queryAt" "[I") ∈ lw_all := lw_g (lw_at lw_m9 140 rfl) rfl
theorem q2233 : (Jvm.Cond.fieldLink "PeerSearchModel" (294 : Nat) "PeerSearchModel" "queryKey" "[I") ∈ lw_all := lw_g (lw_at lw_m9 141 rfl) rfl
theorem q2234 : (Jvm.Cond.fieldLink "PeerSearchModel" (297 : Nat) "PeerSearchModel" "holderPeer" "[I") ∈ lw_all := lw_g (lw_at lw_m9 142 rfl) rfl
theorem q2235 : (Jvm.Cond.fieldLink "PeerSearchModel" (300 : Nat) "PeerSearchModel" "holderKey" "[I") ∈ lw_all := lw_g (lw_at lw_m9 143 rfl) rfl
theorem q2236 : (Jvm.Cond.fieldLink "PeerSearchModel" (303 : Nat) "PeerSearchModel" "holderCount" "[I") ∈ lw_all := lw_g (lw_at lw_m9 144 rfl) rfl
theorem q2237 : (Jvm.Cond.fieldLink "PeerSearchModel" (306 : Nat) "PeerSearchModel" "ordered" "[I") ∈ lw_all := lw_g (lw_at lw_m9 145 rfl) rfl
theorem q2238 : (Jvm.Cond.fieldLink "PeerSearchModel" (309 : Nat) "PeerSearchModel" "skips" "[I") ∈ lw_all := lw_g (lw_at lw_m9 146 rfl) rfl
theorem q2239 : (Jvm.Cond.fieldLink "PeerSearchModel" (312 : Nat) "PeerSearchModel" "bitsLength" "[I") ∈ lw_all := lw_g (lw_at lw_m9 147 rfl) rfl
theorem q2240 : (Jvm.Cond.fieldLink "PeerSearchModel" (315 : Nat) "PeerSearchModel" "bitsHashes" "[I") ∈ lw_all := lw_g (lw_at lw_m9 148 rfl) rfl
theorem q2241 : (Jvm.Cond.fieldLink "PeerSearchModel" (318 : Nat) "PeerSearchModel" "bits" "[I") ∈ lw_all := lw_g (lw_at lw_m9 149 rfl) rfl
theorem q2242 : (Jvm.Cond.fieldLink "PeerSearchModel" (321 : Nat) "PeerSearchModel" "listed" "[I") ∈ lw_all := lw_g (lw_at lw_m9 150 rfl) rfl
theorem q2243 : (Jvm.Cond.fieldLink "PeerSearchModel" (324 : Nat) "PeerSearchModel" "listOwner" "[I") ∈ lw_all := lw_g (lw_at lw_m9 151 rfl) rfl
theorem q2244 : (Jvm.Cond.fieldLink "PeerSearchModel" (327 : Nat) "PeerSearchModel" "listDocument" "[I") ∈ lw_all := lw_g (lw_at lw_m9 152 rfl) rfl
theorem q2245 : (Jvm.Cond.fieldLink "PeerSearchModel" (330 : Nat) "PeerSearchModel" "listScore" "[I") ∈ lw_all := lw_g (lw_at lw_m9 153 rfl) rfl
theorem q2246 : (Jvm.Cond.fieldLink "PeerSearchModel" (333 : Nat) "PeerSearchModel" "listStays" "[Z") ∈ lw_all := lw_g (lw_at lw_m9 154 rfl) rfl
theorem q2247 : (Jvm.Cond.fieldLink "PeerSearchModel" (336 : Nat) "PeerSearchModel" "checkWith" "[I") ∈ lw_all := lw_g (lw_at lw_m9 155 rfl) rfl
theorem q2248 : (Jvm.Cond.fieldLink "PeerSearchModel" (339 : Nat) "PeerSearchModel" "checkFrom" "[I") ∈ lw_all := lw_g (lw_at lw_m9 156 rfl) rfl
theorem q2249 : (Jvm.Cond.fieldLink "PeerSearchModel" (342 : Nat) "PeerSearchModel" "recordKind" "[I") ∈ lw_all := lw_g (lw_at lw_m9 157 rfl) rfl
theorem q2250 : (Jvm.Cond.fieldLink "PeerSearchModel" (345 : Nat) "PeerSearchModel" "recordPeer" "[I") ∈ lw_all := lw_g (lw_at lw_m9 158 rfl) rfl
theorem q2251 : (Jvm.Cond.fieldLink "PeerSearchModel" (348 : Nat) "PeerSearchModel" "recordState" "[I") ∈ lw_all := lw_g (lw_at lw_m9 159 rfl) rfl
theorem q2252 : (Jvm.Cond.fieldLink "PeerSearchModel" (351 : Nat) "PeerSearchModel" "recordAsks" "[I") ∈ lw_all := lw_g (lw_at lw_m9 160 rfl) rfl
theorem q2253 : (Jvm.Cond.fieldLink "PeerSearchModel" (354 : Nat) "PeerSearchModel" "recordFound" "[I") ∈ lw_all := lw_g (lw_at lw_m9 161 rfl) rfl
theorem q2254 : (Jvm.Cond.fieldLink "PeerSearchModel" (358 : Nat) "PeerSearchModel" "recordWords" "[I") ∈ lw_all := lw_g (lw_at lw_m9 162 rfl) rfl
theorem q2255 : (Jvm.Cond.fieldLink "PeerSearchModel" (742 : Nat) "PeerSearchModel" "came" "I") ∈ lw_all := lw_g (lw_at lw_m9 163 rfl) rfl
theorem q2256 : (Jvm.Cond.fieldLink "PeerSearchModel" (361 : Nat) "PeerSearchModel" "in" "[I") ∈ lw_all := lw_g (lw_at lw_m9 164 rfl) rfl
theorem q2257 : (Jvm.Cond.fieldLink "PeerSearchModel" (364 : Nat) "PeerSearchModel" "two" "[I") ∈ lw_all := lw_g (lw_at lw_m9 165 rfl) rfl
theorem q2258 : (Jvm.Cond.fieldLink "PeerSearchModel" (367 : Nat) "PeerSearchModel" "three" "[I") ∈ lw_all := lw_g (lw_at lw_m9 166 rfl) rfl
theorem q2259 : (Jvm.Cond.fieldLink "PeerSearchModel" (810 : Nat) "PeerSearchModel" "deliveries" "I") ∈ lw_all := lw_g (lw_at lw_m9 167 rfl) rfl
theorem q2260 : (Jvm.Cond.fieldLink "PeerSearchModel" (370 : Nat) "PeerSearchModel" "out2" "[I") ∈ lw_all := lw_g (lw_at lw_m9 168 rfl) rfl
theorem q2261 : (Jvm.Cond.fieldLink "PeerSearchModel" (373 : Nat) "PeerSearchModel" "score" "[I") ∈ lw_all := lw_g (lw_at lw_m9 169 rfl) rfl
theorem q2262 : (Jvm.Cond.laysFinal "PeerSearchModel" "PeerSearchModel" "k" "I") ∈ lw_all := lw_g (lw_at lw_m9 170 rfl) rfl
theorem q2263 : (Jvm.Cond.soleField "PeerSearchModel" "k") ∈ lw_all := lw_g (lw_at lw_m9 171 rfl) rfl
theorem q2264 : (Jvm.Cond.laysFinal "PeerSearchModel" "PeerSearchModel" "alpha" "I") ∈ lw_all := lw_g (lw_at lw_m9 172 rfl) rfl
theorem q2265 : (Jvm.Cond.soleField "PeerSearchModel" "alpha") ∈ lw_all := lw_g (lw_at lw_m9 173 rfl) rfl
theorem q2266 : (Jvm.Cond.laysFinal "PeerSearchModel" "PeerSearchModel" "ready" "[I") ∈ lw_all := lw_g (lw_at lw_m9 174 rfl) rfl
theorem q2267 : (Jvm.Cond.soleField "PeerSearchModel" "ready") ∈ lw_all := lw_g (lw_at lw_m9 175 rfl) rfl
theorem q2268 : (Jvm.Cond.laysFinal "PeerSearchModel" "PeerSearchModel" "tape" "[I") ∈ lw_all := lw_g (lw_at lw_m9 176 rfl) rfl
theorem q2269 : (Jvm.Cond.soleField "PeerSearchModel" "tape") ∈ lw_all := lw_g (lw_at lw_m9 177 rfl) rfl
theorem q2270 : (Jvm.Cond.lays "PeerSearchModel" "PeerSearchModel" "taped" "I") ∈ lw_all := lw_g (lw_at lw_m9 178 rfl) rfl
theorem q2271 : (Jvm.Cond.soleField "PeerSearchModel" "taped") ∈ lw_all := lw_g (lw_at lw_m9 179 rfl) rfl
theorem q2272 : (Jvm.Cond.laysFinal "PeerSearchModel" "PeerSearchModel" "msg" "[I") ∈ lw_all := lw_g (lw_at lw_m9 180 rfl) rfl
theorem q2273 : (Jvm.Cond.soleField "PeerSearchModel" "msg") ∈ lw_all := lw_g (lw_at lw_m9 181 rfl) rfl
theorem q2274 : (Jvm.Cond.laysFinal "PeerSearchModel" "PeerSearchModel" "schedule" "[I") ∈ lw_all := lw_g (lw_at lw_m9 182 rfl) rfl
theorem q2275 : (Jvm.Cond.soleField "PeerSearchModel" "schedule") ∈ lw_all := lw_g (lw_at lw_m9 183 rfl) rfl
theorem q2276 : (Jvm.Cond.laysFinal "PeerSearchModel" "PeerSearchModel" "h" "[I") ∈ lw_all := lw_g (lw_at lw_m9 184 rfl) rfl
theorem q2277 : (Jvm.Cond.soleField "PeerSearchModel" "h") ∈ lw_all := lw_g (lw_at lw_m9 185 rfl) rfl
theorem q2278 : (Jvm.Cond.laysFinal "PeerSearchModel" "PeerSearchModel" "setting" "[I") ∈ lw_all := lw_g (lw_at lw_m9 186 rfl) rfl
theorem q2279 : (Jvm.Cond.soleField "PeerSearchModel" "setting") ∈ lw_all := lw_g (lw_at lw_m9 187 rfl) rfl
theorem q2280 : (Jvm.Cond.laysFinal "PeerSearchModel" "PeerSearchModel" "least" "[I") ∈ lw_all := lw_g (lw_at lw_m9 188 rfl) rfl
theorem q2281 : (Jvm.Cond.soleField "PeerSearchModel" "least") ∈ lw_all := lw_g (lw_at lw_m9 189 rfl) rfl
theorem q2282 : (Jvm.Cond.laysFinal "PeerSearchModel" "PeerSearchModel" "most" "[I") ∈ lw_all := lw_g (lw_at lw_m9 190 rfl) rfl
theorem q2283 : (Jvm.Cond.soleField "PeerSearchModel" "most") ∈ lw_all := lw_g (lw_at lw_m9 191 rfl) rfl
theorem q2284 : (Jvm.Cond.lays "PeerSearchModel" "PeerSearchModel" "time" "I") ∈ lw_all := lw_g (lw_at lw_m9 192 rfl) rfl
theorem q2285 : (Jvm.Cond.soleField "PeerSearchModel" "time") ∈ lw_all := lw_g (lw_at lw_m9 193 rfl) rfl
theorem q2286 : (Jvm.Cond.lays "PeerSearchModel" "PeerSearchModel" "lostOnes" "I") ∈ lw_all := lw_g (lw_at lw_m9 194 rfl) rfl
theorem q2287 : (Jvm.Cond.soleField "PeerSearchModel" "lostOnes") ∈ lw_all := lw_g (lw_at lw_m9 195 rfl) rfl
theorem q2288 : (Jvm.Cond.lays "PeerSearchModel" "PeerSearchModel" "peers" "I") ∈ lw_all := lw_g (lw_at lw_m9 196 rfl) rfl
theorem q2289 : (Jvm.Cond.soleField "PeerSearchModel" "peers") ∈ lw_all := lw_g (lw_at lw_m9 197 rfl) rfl
theorem q2290 : (Jvm.Cond.laysFinal "PeerSearchModel" "PeerSearchModel" "keys" "[I") ∈ lw_all := lw_g (lw_at lw_m9 198 rfl) rfl
theorem q2291 : (Jvm.Cond.soleField "PeerSearchModel" "keys") ∈ lw_all := lw_g (lw_at lw_m9 199 rfl) rfl
theorem q2292 : (Jvm.Cond.laysFinal "PeerSearchModel" "PeerSearchModel" "sides" "[I") ∈ lw_all := lw_g (lw_at lw_m9 200 rfl) rfl
theorem q2293 : (Jvm.Cond.soleField "PeerSearchModel" "sides") ∈ lw_all := lw_g (lw_at lw_m9 201 rfl) rfl
theorem q2294 : (Jvm.Cond.laysFinal "PeerSearchModel" "PeerSearchModel" "state" "[I") ∈ lw_all := lw_g (lw_at lw_m9 202 rfl) rfl
theorem q2295 : (Jvm.Cond.soleField "PeerSearchModel" "state") ∈ lw_all := lw_g (lw_at lw_m9 203 rfl) rfl
theorem q2296 : (Jvm.Cond.laysFinal "PeerSearchModel" "PeerSearchModel" "since" "[I") ∈ lw_all := lw_g (lw_at lw_m9 204 rfl) rfl
theorem q2297 : (Jvm.Cond.soleField "PeerSearchModel" "since") ∈ lw_all := lw_g (lw_at lw_m9 205 rfl) rfl
theorem q2298 : (Jvm.Cond.laysFinal "PeerSearchModel" "PeerSearchModel" "published" "[I") ∈ lw_all := lw_g (lw_at lw_m9 206 rfl) rfl
theorem q2299 : (Jvm.Cond.soleField "PeerSearchModel" "published") ∈ lw_all := lw_g (lw_at lw_m9 207 rfl) rfl
theorem q2300 : (Jvm.Cond.laysFinal "PeerSearchModel" "PeerSearchModel" "refreshed" "[I") ∈ lw_all := lw_g (lw_at lw_m9 208 rfl) rfl
theorem q2301 : (Jvm.Cond.soleField "PeerSearchModel" "refreshed") ∈ lw_all := lw_g (lw_at lw_m9 209 rfl) rfl
theorem q2302 : (Jvm.Cond.laysFinal "PeerSearchModel" "PeerSearchModel" "number" "[I") ∈ lw_all := lw_g (lw_at lw_m9 210 rfl) rfl
theorem q2303 : (Jvm.Cond.soleField "PeerSearchModel" "number") ∈ lw_all := lw_g (lw_at lw_m9 211 rfl) rfl
theorem q2304 : (Jvm.Cond.laysFinal "PeerSearchModel" "PeerSearchModel" "tally" "[I") ∈ lw_all := lw_g (lw_at lw_m9 212 rfl) rfl
theorem q2305 : (Jvm.Cond.soleField "PeerSearchModel" "tally") ∈ lw_all := lw_g (lw_at lw_m9 213 rfl) rfl
theorem q2306 : (Jvm.Cond.laysFinal "PeerSearchModel" "PeerSearchModel" "documents" "[I") ∈ lw_all := lw_g (lw_at lw_m9 214 rfl) rfl
theorem q2307 : (Jvm.Cond.soleField "PeerSearchModel" "documents") ∈ lw_all := lw_g (lw_at lw_m9 215 rfl) rfl
theorem q2308 : (Jvm.Cond.laysFinal "PeerSearchModel" "PeerSearchModel" "terms" "[I") ∈ lw_all := lw_g (lw_at lw_m9 216 rfl) rfl
theorem q2309 : (Jvm.Cond.soleField "PeerSearchModel" "terms") ∈ lw_all := lw_g (lw_at lw_m9 217 rfl) rfl
theorem q2310 : (Jvm.Cond.laysFinal "PeerSearchModel" "PeerSearchModel" "termText" "[I") ∈ lw_all := lw_g (lw_at lw_m9 218 rfl) rfl
theorem q2311 : (Jvm.Cond.soleField "PeerSearchModel" "termText") ∈ lw_all := lw_g (lw_at lw_m9 219 rfl) rfl
theorem q2312 : (Jvm.Cond.laysFinal "PeerSearchModel" "PeerSearchModel" "termLength" "[I") ∈ lw_all := lw_g (lw_at lw_m9 220 rfl) rfl
theorem q2313 : (Jvm.Cond.soleField "PeerSearchModel" "termLength") ∈ lw_all := lw_g (lw_at lw_m9 221 rfl) rfl
theorem q2314 : (Jvm.Cond.laysFinal "PeerSearchModel" "PeerSearchModel" "termKey" "[I") ∈ lw_all := lw_g (lw_at lw_m9 222 rfl) rfl
theorem q2315 : (Jvm.Cond.soleField "PeerSearchModel" "termKey") ∈ lw_all := lw_g (lw_at lw_m9 223 rfl) rfl
theorem q2316 : (Jvm.Cond.laysFinal "PeerSearchModel" "PeerSearchModel" "weights" "[I") ∈ lw_all := lw_g (lw_at lw_m9 224 rfl) rfl
theorem q2317 : (Jvm.Cond.soleField "PeerSearchModel" "weights") ∈ lw_all := lw_g (lw_at lw_m9 225 rfl) rfl
theorem q2318 : (Jvm.Cond.lays "PeerSearchModel" "PeerSearchModel" "found" "I") ∈ lw_all := lw_g (lw_at lw_m9 226 rfl) rfl
theorem q2319 : (Jvm.Cond.soleField "PeerSearchModel" "found") ∈ lw_all := lw_g (lw_at lw_m9 227 rfl) rfl
theorem q2320 : (Jvm.Cond.laysFinal "PeerSearchModel" "PeerSearchModel" "foundText" "[I") ∈ lw_all := lw_g (lw_at lw_m9 228 rfl) rfl
theorem q2321 : (Jvm.Cond.soleField "PeerSearchModel" "foundText") ∈ lw_all := lw_g (lw_at lw_m9 229 rfl) rfl
theorem q2322 : (Jvm.Cond.laysFinal "PeerSearchModel" "PeerSearchModel" "foundLength" "[I") ∈ lw_all := lw_g (lw_at lw_m9 230 rfl) rfl
theorem q2323 : (Jvm.Cond.soleField "PeerSearchModel" "foundLength") ∈ lw_all := lw_g (lw_at lw_m9 231 rfl) rfl
theorem q2324 : (Jvm.Cond.laysFinal "PeerSearchModel" "PeerSearchModel" "foundTimes" "[I") ∈ lw_all := lw_g (lw_at lw_m9 232 rfl) rfl
theorem q2325 : (Jvm.Cond.soleField "PeerSearchModel" "foundTimes") ∈ lw_all := lw_g (lw_at lw_m9 233 rfl) rfl
theorem q2326 : (Jvm.Cond.lays "PeerSearchModel" "PeerSearchModel" "flying" "I") ∈ lw_all := lw_g (lw_at lw_m9 234 rfl) rfl
theorem q2327 : (Jvm.Cond.soleField "PeerSearchModel" "flying") ∈ lw_all := lw_g (lw_at lw_m9 235 rfl) rfl
theorem q2328 : (Jvm.Cond.lays "PeerSearchModel" "PeerSearchModel" "launched" "I") ∈ lw_all := lw_g (lw_at lw_m9 236 rfl) rfl
theorem q2329 : (Jvm.Cond.soleField "PeerSearchModel" "launched") ∈ lw_all := lw_g (lw_at lw_m9 237 rfl) rfl
theorem q2330 : (Jvm.Cond.laysFinal "PeerSearchModel" "PeerSearchModel" "from" "[I") ∈ lw_all := lw_g (lw_at lw_m9 238 rfl) rfl
theorem q2331 : (Jvm.Cond.soleField "PeerSearchModel" "from") ∈ lw_all := lw_g (lw_at lw_m9 239 rfl) rfl
theorem q2332 : (Jvm.Cond.laysFinal "PeerSearchModel" "PeerSearchModel" "to" "[I") ∈ lw_all := lw_g (lw_at lw_m10 0 rfl) rfl
theorem q2333 : (Jvm.Cond.soleField "PeerSearchModel" "to") ∈ lw_all := lw_g (lw_at lw_m10 1 rfl) rfl
theorem q2334 : (Jvm.Cond.laysFinal "PeerSearchModel" "PeerSearchModel" "due" "[I") ∈ lw_all := lw_g (lw_at lw_m10 2 rfl) rfl
theorem q2335 : (Jvm.Cond.soleField "PeerSearchModel" "due") ∈ lw_all := lw_g (lw_at lw_m10 3 rfl) rfl
theorem q2336 : (Jvm.Cond.laysFinal "PeerSearchModel" "PeerSearchModel" "serial" "[I") ∈ lw_all := lw_g (lw_at lw_m10 4 rfl) rfl
theorem q2337 : (Jvm.Cond.soleField "PeerSearchModel" "serial") ∈ lw_all := lw_g (lw_at lw_m10 5 rfl) rfl
theorem q2338 : (Jvm.Cond.laysFinal "PeerSearchModel" "PeerSearchModel" "length" "[I") ∈ lw_all := lw_g (lw_at lw_m10 6 rfl) rfl
theorem q2339 : (Jvm.Cond.soleField "PeerSearchModel" "length") ∈ lw_all := lw_g (lw_at lw_m10 7 rfl) rfl
theorem q2340 : (Jvm.Cond.laysFinal "PeerSearchModel" "PeerSearchModel" "bytes" "[I") ∈ lw_all := lw_g (lw_at lw_m10 8 rfl) rfl
theorem q2341 : (Jvm.Cond.soleField "PeerSearchModel" "bytes") ∈ lw_all := lw_g (lw_at lw_m10 9 rfl) rfl
theorem q2342 : (Jvm.Cond.laysFinal "PeerSearchModel" "PeerSearchModel" "out" "[I") ∈ lw_all := lw_g (lw_at lw_m10 10 rfl) rfl
theorem q2343 : (Jvm.Cond.soleField "PeerSearchModel" "out") ∈ lw_all := lw_g (lw_at lw_m10 11 rfl) rfl
theorem q2344 : (Jvm.Cond.lays "PeerSearchModel" "PeerSearchModel" "outLength" "I") ∈ lw_all := lw_g (lw_at lw_m10 12 rfl) rfl
theorem q2345 : (Jvm.Cond.soleField "PeerSearchModel" "outLength") ∈ lw_all := lw_g (lw_at lw_m10 13 rfl) rfl
theorem q2346 : (Jvm.Cond.lays "PeerSearchModel" "PeerSearchModel" "stamps" "I") ∈ lw_all := lw_g (lw_at lw_m10 14 rfl) rfl
theorem q2347 : (Jvm.Cond.soleField "PeerSearchModel" "stamps") ∈ lw_all := lw_g (lw_at lw_m10 15 rfl) rfl
theorem q2348 : (Jvm.Cond.laysFinal "PeerSearchModel" "PeerSearchModel" "rows" "[I") ∈ lw_all := lw_g (lw_at lw_m10 16 rfl) rfl
theorem q2349 : (Jvm.Cond.soleField "PeerSearchModel" "rows") ∈ lw_all := lw_g (lw_at lw_m10 17 rfl) rfl
theorem q2350 : (Jvm.Cond.laysFinal "PeerSearchModel" "PeerSearchModel" "rowKey" "[I") ∈ lw_all := lw_g (lw_at lw_m10 18 rfl) rfl
theorem q2351 : (Jvm.Cond.soleField "PeerSearchModel" "rowKey") ∈ lw_all := lw_g (lw_at lw_m10 19 rfl) rfl
theorem q2352 : (Jvm.Cond.laysFinal "PeerSearchModel" "PeerSearchModel" "rowPeer" "[I") ∈ lw_all := lw_g (lw_at lw_m10 20 rfl) rfl
theorem q2353 : (Jvm.Cond.soleField "PeerSearchModel" "rowPeer") ∈ lw_all := lw_g (lw_at lw_m10 21 rfl) rfl
theorem q2354 : (Jvm.Cond.laysFinal "PeerSearchModel" "PeerSearchModel" "rowC" "[I") ∈ lw_all := lw_g (lw_at lw_m10 22 rfl) rfl
theorem q2355 : (Jvm.Cond.soleField "PeerSearchModel" "rowC") ∈ lw_all := lw_g (lw_at lw_m10 23 rfl) rfl
theorem q2356 : (Jvm.Cond.laysFinal "PeerSearchModel" "PeerSearchModel" "rowReserve" "[Z") ∈ lw_all := lw_g (lw_at lw_m10 24 rfl) rfl
theorem q2357 : (Jvm.Cond.soleField "PeerSearchModel" "rowReserve") ∈ lw_all := lw_g (lw_at lw_m10 25 rfl) rfl
theorem q2358 : (Jvm.Cond.laysFinal "PeerSearchModel" "PeerSearchModel" "rowStamp" "[I") ∈ lw_all := lw_g (lw_at lw_m10 26 rfl) rfl
theorem q2359 : (Jvm.Cond.soleField "PeerSearchModel" "rowStamp") ∈ lw_all := lw_g (lw_at lw_m10 27 rfl) rfl
theorem q2360 : (Jvm.Cond.laysFinal "PeerSearchModel" "PeerSearchModel" "one" "[I") ∈ lw_all := lw_g (lw_at lw_m10 28 rfl) rfl
theorem q2361 : (Jvm.Cond.soleField "PeerSearchModel" "one") ∈ lw_all := lw_g (lw_at lw_m10 29 rfl) rfl
theorem q2362 : (Jvm.Cond.lays "PeerSearchModel" "PeerSearchModel" "nears" "I") ∈ lw_all := lw_g (lw_at lw_m10 30 rfl) rfl
theorem q2363 : (Jvm.Cond.soleField "PeerSearchModel" "nears") ∈ lw_all := lw_g (lw_at lw_m10 31 rfl) rfl
theorem q2364 : (Jvm.Cond.laysFinal "PeerSearchModel" "PeerSearchModel" "near" "[I") ∈ lw_all := lw_g (lw_at lw_m10 32 rfl) rfl
theorem q2365 : (Jvm.Cond.soleField "PeerSearchModel" "near") ∈ lw_all := lw_g (lw_at lw_m10 33 rfl) rfl
theorem q2366 : (Jvm.Cond.laysFinal "PeerSearchModel" "PeerSearchModel" "waits" "[Z") ∈ lw_all := lw_g (lw_at lw_m10 34 rfl) rfl
theorem q2367 : (Jvm.Cond.soleField "PeerSearchModel" "waits") ∈ lw_all := lw_g (lw_at lw_m10 35 rfl) rfl
theorem q2368 : (Jvm.Cond.laysFinal "PeerSearchModel" "PeerSearchModel" "asked" "[I") ∈ lw_all := lw_g (lw_at lw_m10 36 rfl) rfl
theorem q2369 : (Jvm.Cond.soleField "PeerSearchModel" "asked") ∈ lw_all := lw_g (lw_at lw_m10 37 rfl) rfl
theorem q2370 : (Jvm.Cond.laysFinal "PeerSearchModel" "PeerSearchModel" "askedPeer" "[I") ∈ lw_all := lw_g (lw_at lw_m10 38 rfl) rfl
theorem q2371 : (Jvm.Cond.soleField "PeerSearchModel" "askedPeer") ∈ lw_all := lw_g (lw_at lw_m10 39 rfl) rfl
theorem q2372 : (Jvm.Cond.laysFinal "PeerSearchModel" "PeerSearchModel" "askedKey" "[I") ∈ lw_all := lw_g (lw_at lw_m10 40 rfl) rfl
theorem q2373 : (Jvm.Cond.soleField "PeerSearchModel" "askedKey") ∈ lw_all := lw_g (lw_at lw_m10 41 rfl) rfl
theorem q2374 : (Jvm.Cond.laysFinal "PeerSearchModel" "PeerSearchModel" "askedType" "[I") ∈ lw_all := lw_g (lw_at lw_m10 42 rfl) rfl
theorem q2375 : (Jvm.Cond.soleField "PeerSearchModel" "askedType") ∈ lw_all := lw_g (lw_at lw_m10 43 rfl) rfl
theorem q2376 : (Jvm.Cond.laysFinal "PeerSearchModel" "PeerSearchModel" "deadline" "[I") ∈ lw_all := lw_g (lw_at lw_m10 44 rfl) rfl
theorem q2377 : (Jvm.Cond.soleField "PeerSearchModel" "deadline") ∈ lw_all := lw_g (lw_at lw_m10 45 rfl) rfl
theorem q2378 : (Jvm.Cond.laysFinal "PeerSearchModel" "PeerSearchModel" "sents" "[I") ∈ lw_all := lw_g (lw_at lw_m10 46 rfl) rfl
theorem q2379 : (Jvm.Cond.soleField "PeerSearchModel" "sents") ∈ lw_all := lw_g (lw_at lw_m10 47 rfl) rfl
theorem q2380 : (Jvm.Cond.laysFinal "PeerSearchModel" "PeerSearchModel" "askedTask" "[I") ∈ lw_all := lw_g (lw_at lw_m10 48 rfl) rfl
theorem q2381 : (Jvm.Cond.soleField "PeerSearchModel" "askedTask") ∈ lw_all := lw_g (lw_at lw_m10 49 rfl) rfl
theorem q2382 : (Jvm.Cond.laysFinal "PeerSearchModel" "PeerSearchModel" "askedSerial" "[I") ∈ lw_all := lw_g (lw_at lw_m10 50 rfl) rfl
theorem q2383 : (Jvm.Cond.soleField "PeerSearchModel" "askedSerial") ∈ lw_all := lw_g (lw_at lw_m10 51 rfl) rfl
theorem q2384 : (Jvm.Cond.laysFinal "PeerSearchModel" "PeerSearchModel" "probed" "[I") ∈ lw_all := lw_g (lw_at lw_m10 52 rfl) rfl
theorem q2385 : (Jvm.Cond.soleField "PeerSearchModel" "probed") ∈ lw_all := lw_g (lw_at lw_m10 53 rfl) rfl
theorem q2386 : (Jvm.Cond.laysFinal "PeerSearchModel" "PeerSearchModel" "askedLength" "[I") ∈ lw_all := lw_g (lw_at lw_m10 54 rfl) rfl
theorem q2387 : (Jvm.Cond.soleField "PeerSearchModel" "askedLength") ∈ lw_all := lw_g (lw_at lw_m10 55 rfl) rfl
theorem q2388 : (Jvm.Cond.laysFinal "PeerSearchModel" "PeerSearchModel" "askedBytes" "[I") ∈ lw_all := lw_g (lw_at lw_m10 56 rfl) rfl
theorem q2389 : (Jvm.Cond.soleField "PeerSearchModel" "askedBytes") ∈ lw_all := lw_g (lw_at lw_m10 57 rfl) rfl
theorem q2390 : (Jvm.Cond.lays "PeerSearchModel" "PeerSearchModel" "bodyLength" "I") ∈ lw_all := lw_g (lw_at lw_m10 58 rfl) rfl
theorem q2391 : (Jvm.Cond.soleField "PeerSearchModel" "bodyLength") ∈ lw_all := lw_g (lw_at lw_m10 59 rfl) rfl
theorem q2392 : (Jvm.Cond.laysFinal "PeerSearchModel" "PeerSearchModel" "body" "[I") ∈ lw_all := lw_g (lw_at lw_m10 60 rfl) rfl
theorem q2393 : (Jvm.Cond.soleField "PeerSearchModel" "body") ∈ lw_all := lw_g (lw_at lw_m10 61 rfl) rfl
theorem q2394 : (Jvm.Cond.laysFinal "PeerSearchModel" "PeerSearchModel" "kept" "[I") ∈ lw_all := lw_g (lw_at lw_m10 62 rfl) rfl
theorem q2395 : (Jvm.Cond.soleField "PeerSearchModel" "kept") ∈ lw_all := lw_g (lw_at lw_m10 63 rfl) rfl
theorem q2396 : (Jvm.Cond.laysFinal "PeerSearchModel" "PeerSearchModel" "postKey" "[I") ∈ lw_all := lw_g (lw_at lw_m10 64 rfl) rfl
theorem q2397 : (Jvm.Cond.soleField "PeerSearchModel" "postKey") ∈ lw_all := lw_g (lw_at lw_m10 65 rfl) rfl
theorem q2398 : (Jvm.Cond.laysFinal "PeerSearchModel" "PeerSearchModel" "postOwner" "[I") ∈ lw_all := lw_g (lw_at lw_m10 66 rfl) rfl
theorem q2399 : (Jvm.Cond.soleField "PeerSearchModel" "postOwner") ∈ lw_all := lw_g (lw_at lw_m10 67 rfl) rfl
theorem q2400 : (Jvm.Cond.laysFinal "PeerSearchModel" "PeerSearchModel" "postDocument" "[I") ∈ lw_all := lw_g (lw_at lw_m10 68 rfl) rfl
theorem q2401 : (Jvm.Cond.soleField "PeerSearchModel" "postDocument") ∈ lw_all := lw_g (lw_at lw_m10 69 rfl) rfl
theorem q2402 : (Jvm.Cond.laysFinal "PeerSearchModel" "PeerSearchModel" "postWeight" "[I") ∈ lw_all := lw_g (lw_at lw_m10 70 rfl) rfl
theorem q2403 : (Jvm.Cond.soleField "PeerSearchModel" "postWeight") ∈ lw_all := lw_g (lw_at lw_m10 71 rfl) rfl
theorem q2404 : (Jvm.Cond.laysFinal "PeerSearchModel" "PeerSearchModel" "postEnd" "[I") ∈ lw_all := lw_g (lw_at lw_m10 72 rfl) rfl
theorem q2405 : (Jvm.Cond.soleField "PeerSearchModel" "postEnd") ∈ lw_all := lw_g (lw_at lw_m10 73 rfl) rfl
theorem q2406 : (Jvm.Cond.lays "PeerSearchModel" "PeerSearchModel" "chosen" "I") ∈ lw_all := lw_g (lw_at lw_m10 74 rfl) rfl
theorem q2407 : (Jvm.Cond.soleField "PeerSearchModel" "chosen") ∈ lw_all := lw_g (lw_at lw_m10 75 rfl) rfl
theorem q2408 : (Jvm.Cond.laysFinal "PeerSearchModel" "PeerSearchModel" "choice" "[I") ∈ lw_all := lw_g (lw_at lw_m10 76 rfl) rfl
theorem q2409 : (Jvm.Cond.soleField "PeerSearchModel" "choice") ∈ lw_all := lw_g (lw_at lw_m10 77 rfl) rfl
theorem q2410 : (Jvm.Cond.lays "PeerSearchModel" "PeerSearchModel" "storing" "I") ∈ lw_all := lw_g (lw_at lw_m10 78 rfl) rfl
theorem q2411 : (Jvm.Cond.soleField "PeerSearchModel" "storing") ∈ lw_all := lw_g (lw_at lw_m10 79 rfl) rfl
theorem q2412 : (Jvm.Cond.laysFinal "PeerSearchModel" "PeerSearchModel" "storeOwner" "[I") ∈ lw_all := lw_g (lw_at lw_m10 80 rfl) rfl
theorem q2413 : (Jvm.Cond.soleField "PeerSearchModel" "storeOwner") ∈ lw_all := lw_g (lw_at lw_m10 81 rfl) rfl
theorem q2414 : (Jvm.Cond.laysFinal "PeerSearchModel" "PeerSearchModel" "storeDocument" "[I") ∈ lw_all := lw_g (lw_at lw_m10 82 rfl) rfl
theorem q2415 : (Jvm.Cond.soleField "PeerSearchModel" "storeDocument") ∈ lw_all := lw_g (lw_at lw_m10 83 rfl) rfl
theorem q2416 : (Jvm.Cond.laysFinal "PeerSearchModel" "PeerSearchModel" "storeWeight" "[I") ∈ lw_all := lw_g (lw_at lw_m10 84 rfl) rfl
theorem q2417 : (Jvm.Cond.soleField "PeerSearchModel" "storeWeight") ∈ lw_all := lw_g (lw_at lw_m10 85 rfl) rfl
theorem q2418 : (Jvm.Cond.lays "PeerSearchModel" "PeerSearchModel" "filterLength" "I") ∈ lw_all := lw_g (lw_at lw_m10 86 rfl) rfl
theorem q2419 : (Jvm.Cond.soleField "PeerSearchModel" "filterLength") ∈ lw_all := lw_g (lw_at lw_m10 87 rfl) rfl
theorem q2420 : (Jvm.Cond.lays "PeerSearchModel" "PeerSearchModel" "filterHashes" "I") ∈ lw_all := lw_g (lw_at lw_m10 88 rfl) rfl
theorem q2421 : (Jvm.Cond.soleField "PeerSearchModel" "filterHashes") ∈ lw_all := lw_g (lw_at lw_m10 89 rfl) rfl
theorem q2422 : (Jvm.Cond.laysFinal "PeerSearchModel" "PeerSearchModel" "filter" "[I") ∈ lw_all := lw_g (lw_at lw_m10 90 rfl) rfl
theorem q2423 : (Jvm.Cond.soleField "PeerSearchModel" "filter") ∈ lw_all := lw_g (lw_at lw_m10 91 rfl) rfl
theorem q2424 : (Jvm.Cond.lays "PeerSearchModel" "PeerSearchModel" "hashA" "J") ∈ lw_all := lw_g (lw_at lw_m10 92 rfl) rfl
theorem q2425 : (Jvm.Cond.soleField "PeerSearchModel" "hashA") ∈ lw_all := lw_g (lw_at lw_m10 93 rfl) rfl
theorem q2426 : (Jvm.Cond.lays "PeerSearchModel" "PeerSearchModel" "hashB" "J") ∈ lw_all := lw_g (lw_at lw_m10 94 rfl) rfl
theorem q2427 : (Jvm.Cond.soleField "PeerSearchModel" "hashB") ∈ lw_all := lw_g (lw_at lw_m10 95 rfl) rfl
theorem q2428 : (Jvm.Cond.lays "PeerSearchModel" "PeerSearchModel" "told" "I") ∈ lw_all := lw_g (lw_at lw_m10 96 rfl) rfl
theorem q2429 : (Jvm.Cond.soleField "PeerSearchModel" "told") ∈ lw_all := lw_g (lw_at lw_m10 97 rfl) rfl
theorem q2430 : (Jvm.Cond.lays "PeerSearchModel" "PeerSearchModel" "tellsMore" "Z") ∈ lw_all := lw_g (lw_at lw_m10 98 rfl) rfl
theorem q2431 : (Jvm.Cond.soleField "PeerSearchModel" "tellsMore") ∈ lw_all := lw_g (lw_at lw_m10 99 rfl) rfl
theorem q2432 : (Jvm.Cond.laysFinal "PeerSearchModel" "PeerSearchModel" "toldOwner" "[I") ∈ lw_all := lw_g (lw_at lw_m10 100 rfl) rfl
theorem q2433 : (Jvm.Cond.soleField "PeerSearchModel" "toldOwner") ∈ lw_all := lw_g (lw_at lw_m10 101 rfl) rfl
theorem q2434 : (Jvm.Cond.laysFinal "PeerSearchModel" "PeerSearchModel" "toldDocument" "[I") ∈ lw_all := lw_g (lw_at lw_m10 102 rfl) rfl
theorem q2435 : (Jvm.Cond.soleField "PeerSearchModel" "toldDocument") ∈ lw_all := lw_g (lw_at lw_m10 103 rfl) rfl
theorem q2436 : (Jvm.Cond.laysFinal "PeerSearchModel" "PeerSearchModel" "toldWeight" "[I") ∈ lw_all := lw_g (lw_at lw_m10 104 rfl) rfl
theorem q2437 : (Jvm.Cond.soleField "PeerSearchModel" "toldWeight") ∈ lw_all := lw_g (lw_at lw_m10 105 rfl) rfl
theorem q2438 : (Jvm.Cond.lays "PeerSearchModel" "PeerSearchModel" "checking" "I") ∈ lw_all := lw_g (lw_at lw_m10 106 rfl) rfl
theorem q2439 : (Jvm.Cond.soleField "PeerSearchModel" "checking") ∈ lw_all := lw_g (lw_at lw_m10 107 rfl) rfl
theorem q2440 : (Jvm.Cond.laysFinal "PeerSearchModel" "PeerSearchModel" "checkOwner" "[I") ∈ lw_all := lw_g (lw_at lw_m10 108 rfl) rfl
theorem q2441 : (Jvm.Cond.soleField "PeerSearchModel" "checkOwner") ∈ lw_all := lw_g (lw_at lw_m10 109 rfl) rfl
theorem q2442 : (Jvm.Cond.laysFinal "PeerSearchModel" "PeerSearchModel" "checkDocument" "[I") ∈ lw_all := lw_g (lw_at lw_m10 110 rfl) rfl
theorem q2443 : (Jvm.Cond.soleField "PeerSearchModel" "checkDocument") ∈ lw_all := lw_g (lw_at lw_m10 111 rfl) rfl
theorem q2444 : (Jvm.Cond.lays "PeerSearchModel" "PeerSearchModel" "begun" "I") ∈ lw_all := lw_g (lw_at lw_m10 112 rfl) rfl
theorem q2445 : (Jvm.Cond.soleField "PeerSearchModel" "begun") ∈ lw_all := lw_g (lw_at lw_m10 113 rfl) rfl
theorem q2446 : (Jvm.Cond.laysFinal "PeerSearchModel" "PeerSearchModel" "goes" "[Z") ∈ lw_all := lw_g (lw_at lw_m10 114 rfl) rfl
theorem q2447 : (Jvm.Cond.soleField "PeerSearchModel" "goes") ∈ lw_all := lw_g (lw_at lw_m10 115 rfl) rfl
theorem q2448 : (Jvm.Cond.laysFinal "PeerSearchModel" "PeerSearchModel" "kindOf" "[I") ∈ lw_all := lw_g (lw_at lw_m10 116 rfl) rfl
theorem q2449 : (Jvm.Cond.soleField "PeerSearchModel" "kindOf") ∈ lw_all := lw_g (lw_at lw_m10 117 rfl) rfl
theorem q2450 : (Jvm.Cond.laysFinal "PeerSearchModel" "PeerSearchModel" "taskPeer" "[I") ∈ lw_all := lw_g (lw_at lw_m10 118 rfl) rfl
theorem q2451 : (Jvm.Cond.soleField "PeerSearchModel" "taskPeer") ∈ lw_all := lw_g (lw_at lw_m10 119 rfl) rfl
theorem q2452 : (Jvm.Cond.laysFinal "PeerSearchModel" "PeerSearchModel" "record" "[I") ∈ lw_all := lw_g (lw_at lw_m10 120 rfl) rfl
theorem q2453 : (Jvm.Cond.soleField "PeerSearchModel" "record") ∈ lw_all := lw_g (lw_at lw_m10 121 rfl) rfl
theorem q2454 : (Jvm.Cond.laysFinal "PeerSearchModel" "PeerSearchModel" "stage" "[I") ∈ lw_all := lw_g (lw_at lw_m10 122 rfl) rfl
theorem q2455 : (Jvm.Cond.soleField "PeerSearchModel" "stage") ∈ lw_all := lw_g (lw_at lw_m10 123 rfl) rfl
theorem q2456 : (Jvm.Cond.laysFinal "PeerSearchModel" "PeerSearchModel" "turn" "[I") ∈ lw_all := lw_g (lw_at lw_m10 124 rfl) rfl
theorem q2457 : (Jvm.Cond.soleField "PeerSearchModel" "turn") ∈ lw_all := lw_g (lw_at lw_m10 125 rfl) rfl
theorem q2458 : (Jvm.Cond.laysFinal "PeerSearchModel" "PeerSearchModel" "target" "[I") ∈ lw_all := lw_g (lw_at lw_m10 126 rfl) rfl
theorem q2459 : (Jvm.Cond.soleField "PeerSearchModel" "target") ∈ lw_all := lw_g (lw_at lw_m10 127 rfl) rfl
theorem q2460 : (Jvm.Cond.laysFinal "PeerSearchModel" "PeerSearchModel" "ofValues" "[Z") ∈ lw_all := lw_g (lw_at lw_m10 128 rfl) rfl
theorem q2461 : (Jvm.Cond.soleField "PeerSearchModel" "ofValues") ∈ lw_all := lw_g (lw_at lw_m10 129 rfl) rfl
theorem q2462 : (Jvm.Cond.laysFinal "PeerSearchModel" "PeerSearchModel" "entries" "[I") ∈ lw_all := lw_g (lw_at lw_m10 130 rfl) rfl
theorem q2463 : (Jvm.Cond.soleField "PeerSearchModel" "entries") ∈ lw_all := lw_g (lw_at lw_m10 131 rfl) rfl
theorem q2464 : (Jvm.Cond.laysFinal "PeerSearchModel" "PeerSearchModel" "entryKey" "[I") ∈ lw_all := lw_g (lw_at lw_m10 132 rfl) rfl
theorem q2465 : (Jvm.Cond.soleField "PeerSearchModel" "entryKey") ∈ lw_all := lw_g (lw_at lw_m10 133 rfl) rfl
theorem q2466 : (Jvm.Cond.laysFinal "PeerSearchModel" "PeerSearchModel" "entryPeer" "[I") ∈ lw_all := lw_g (lw_at lw_m10 134 rfl) rfl
theorem q2467 : (Jvm.Cond.soleField "PeerSearchModel" "entryPeer") ∈ lw_all := lw_g (lw_at lw_m10 135 rfl) rfl
theorem q2468 : (Jvm.Cond.laysFinal "PeerSearchModel" "PeerSearchModel" "entryState" "[I") ∈ lw_all := lw_g (lw_at lw_m10 136 rfl) rfl
theorem q2469 : (Jvm.Cond.soleField "PeerSearchModel" "entryState") ∈ lw_all := lw_g (lw_at lw_m10 137 rfl) rfl
theorem q2470 : (Jvm.Cond.laysFinal "PeerSearchModel" "PeerSearchModel" "entryCount" "[I") ∈ lw_all := lw_g (lw_at lw_m10 138 rfl) rfl
theorem q2471 : (Jvm.Cond.soleField "PeerSearchModel" "entryCount") ∈ lw_all := lw_g (lw_at lw_m10 139 rfl) rfl
theorem q2472 : (Jvm.Cond.laysFinal "PeerSearchModel" "PeerSearchModel" "asking" "[I") ∈ lw_all := lw_g (lw_at lw_m10 140 rfl) rfl
theorem q2473 : (Jvm.Cond.soleField "PeerSearchModel" "asking") ∈ lw_all := lw_g (lw_at lw_m10 141 rfl) rfl
theorem q2474 : (Jvm.Cond.lays "PeerSearchModel" "PeerSearchModel" "fronts" "I") ∈ lw_all := lw_g (lw_at lw_m10 142 rfl) rfl
theorem q2475 : (Jvm.Cond.soleField "PeerSearchModel" "fronts") ∈ lw_all := lw_g (lw_at lw_m10 143 rfl) rfl
theorem q2476 : (Jvm.Cond.laysFinal "PeerSearchModel" "PeerSearchModel" "front" "[I") ∈ lw_all := lw_g (lw_at lw_m10 144 rfl) rfl
theorem q2477 : (Jvm.Cond.soleField "PeerSearchModel" "front") ∈ lw_all := lw_g (lw_at lw_m10 145 rfl) rfl
theorem q2478 : (Jvm.Cond.laysFinal "PeerSearchModel" "PeerSearchModel" "lastBit" "[I") ∈ lw_all := lw_g (lw_at lw_m10 146 rfl) rfl
theorem q2479 : (Jvm.Cond.soleField "PeerSearchModel" "lastBit") ∈ lw_all := lw_g (lw_at lw_m10 147 rfl) rfl
theorem q2480 : (Jvm.Cond.laysFinal "PeerSearchModel" "PeerSearchModel" "bitAt" "[I") ∈ lw_all := lw_g (lw_at lw_m10 148 rfl) rfl
theorem q2481 : (Jvm.Cond.soleField "PeerSearchModel" "bitAt") ∈ lw_all := lw_g (lw_at lw_m10 149 rfl) rfl
theorem q2482 : (Jvm.Cond.laysFinal "PeerSearchModel" "PeerSearchModel" "limit" "[I") ∈ lw_all := lw_g (lw_at lw_m10 150 rfl) rfl
theorem q2483 : (Jvm.Cond.soleField "PeerSearchModel" "limit") ∈ lw_all := lw_g (lw_at lw_m10 151 rfl) rfl
theorem q2484 : (Jvm.Cond.laysFinal "PeerSearchModel" "PeerSearchModel" "term" "[I") ∈ lw_all := lw_g (lw_at lw_m10 152 rfl) rfl
theorem q2485 : (Jvm.Cond.soleField "PeerSearchModel" "term") ∈ lw_all := lw_g (lw_at lw_m10 153 rfl) rfl
theorem q2486 : (Jvm.Cond.laysFinal "PeerSearchModel" "PeerSearchModel" "pending" "[I") ∈ lw_all := lw_g (lw_at lw_m10 154 rfl) rfl
theorem q2487 : (Jvm.Cond.soleField "PeerSearchModel" "pending") ∈ lw_all := lw_g (lw_at lw_m10 155 rfl) rfl
theorem q2488 : (Jvm.Cond.laysFinal "PeerSearchModel" "PeerSearchModel" "anyFailed" "[Z") ∈ lw_all := lw_g (lw_at lw_m10 156 rfl) rfl
theorem q2489 : (Jvm.Cond.soleField "PeerSearchModel" "anyFailed") ∈ lw_all := lw_g (lw_at lw_m10 157 rfl) rfl
theorem q2490 : (Jvm.Cond.laysFinal "PeerSearchModel" "PeerSearchModel" "queried" "[I") ∈ lw_all := lw_g (lw_at lw_m10 158 rfl) rfl
theorem q2491 : (Jvm.Cond.soleField "PeerSearchModel" "queried") ∈ lw_all := lw_g (lw_at lw_m10 159 rfl) rfl
theorem q2492 : (Jvm.Cond.laysFinal "PeerSearchModel" "PeerSearchModel" "queryAt" "[I") ∈ lw_all := lw_g (lw_at lw_m10 160 rfl) rfl
theorem q2493 : (Jvm.Cond.soleField "PeerSearchModel" "queryAt") ∈ lw_all := lw_g (lw_at lw_m10 161 rfl) rfl
theorem q2494 : (Jvm.Cond.laysFinal "PeerSearchModel" "PeerSearchModel" "queryKey" "[I") ∈ lw_all := lw_g (lw_at lw_m10 162 rfl) rfl
theorem q2495 : (Jvm.Cond.soleField "PeerSearchModel" "queryKey") ∈ lw_all := lw_g (lw_at lw_m10 163 rfl) rfl
theorem q2496 : (Jvm.Cond.laysFinal "PeerSearchModel" "PeerSearchModel" "holderPeer" "[I") ∈ lw_all := lw_g (lw_at lw_m10 164 rfl) rfl
theorem q2497 : (Jvm.Cond.soleField "PeerSearchModel" "holderPeer") ∈ lw_all := lw_g (lw_at lw_m10 165 rfl) rfl
theorem q2498 : (Jvm.Cond.laysFinal "PeerSearchModel" "PeerSearchModel" "holderKey" "[I") ∈ lw_all := lw_g (lw_at lw_m10 166 rfl) rfl
theorem q2499 : (Jvm.Cond.soleField "PeerSearchModel" "holderKey") ∈ lw_all := lw_g (lw_at lw_m10 167 rfl) rfl
theorem q2500 : (Jvm.Cond.laysFinal "PeerSearchModel" "PeerSearchModel" "holderCount" "[I") ∈ lw_all := lw_g (lw_at lw_m10 168 rfl) rfl
theorem q2501 : (Jvm.Cond.soleField "PeerSearchModel" "holderCount") ∈ lw_all := lw_g (lw_at lw_m10 169 rfl) rfl
theorem q2502 : (Jvm.Cond.laysFinal "PeerSearchModel" "PeerSearchModel" "ordered" "[I") ∈ lw_all := lw_g (lw_at lw_m10 170 rfl) rfl
theorem q2503 : (Jvm.Cond.soleField "PeerSearchModel" "ordered") ∈ lw_all := lw_g (lw_at lw_m10 171 rfl) rfl
theorem q2504 : (Jvm.Cond.laysFinal "PeerSearchModel" "PeerSearchModel" "skips" "[I") ∈ lw_all := lw_g (lw_at lw_m10 172 rfl) rfl
theorem q2505 : (Jvm.Cond.soleField "PeerSearchModel" "skips") ∈ lw_all := lw_g (lw_at lw_m10 173 rfl) rfl
theorem q2506 : (Jvm.Cond.laysFinal "PeerSearchModel" "PeerSearchModel" "bitsLength" "[I") ∈ lw_all := lw_g (lw_at lw_m10 174 rfl) rfl
theorem q2507 : (Jvm.Cond.soleField "PeerSearchModel" "bitsLength") ∈ lw_all := lw_g (lw_at lw_m10 175 rfl) rfl
theorem q2508 : (Jvm.Cond.laysFinal "PeerSearchModel" "PeerSearchModel" "bitsHashes" "[I") ∈ lw_all := lw_g (lw_at lw_m10 176 rfl) rfl
theorem q2509 : (Jvm.Cond.soleField "PeerSearchModel" "bitsHashes") ∈ lw_all := lw_g (lw_at lw_m10 177 rfl) rfl
theorem q2510 : (Jvm.Cond.laysFinal "PeerSearchModel" "PeerSearchModel" "bits" "[I") ∈ lw_all := lw_g (lw_at lw_m10 178 rfl) rfl
theorem q2511 : (Jvm.Cond.soleField "PeerSearchModel" "bits") ∈ lw_all := lw_g (lw_at lw_m10 179 rfl) rfl
theorem q2512 : (Jvm.Cond.laysFinal "PeerSearchModel" "PeerSearchModel" "listed" "[I") ∈ lw_all := lw_g (lw_at lw_m10 180 rfl) rfl
theorem q2513 : (Jvm.Cond.soleField "PeerSearchModel" "listed") ∈ lw_all := lw_g (lw_at lw_m10 181 rfl) rfl
theorem q2514 : (Jvm.Cond.laysFinal "PeerSearchModel" "PeerSearchModel" "listOwner" "[I") ∈ lw_all := lw_g (lw_at lw_m10 182 rfl) rfl
theorem q2515 : (Jvm.Cond.soleField "PeerSearchModel" "listOwner") ∈ lw_all := lw_g (lw_at lw_m10 183 rfl) rfl
theorem q2516 : (Jvm.Cond.laysFinal "PeerSearchModel" "PeerSearchModel" "listDocument" "[I") ∈ lw_all := lw_g (lw_at lw_m10 184 rfl) rfl
theorem q2517 : (Jvm.Cond.soleField "PeerSearchModel" "listDocument") ∈ lw_all := lw_g (lw_at lw_m10 185 rfl) rfl
theorem q2518 : (Jvm.Cond.laysFinal "PeerSearchModel" "PeerSearchModel" "listScore" "[I") ∈ lw_all := lw_g (lw_at lw_m10 186 rfl) rfl
theorem q2519 : (Jvm.Cond.soleField "PeerSearchModel" "listScore") ∈ lw_all := lw_g (lw_at lw_m10 187 rfl) rfl
theorem q2520 : (Jvm.Cond.laysFinal "PeerSearchModel" "PeerSearchModel" "listStays" "[Z") ∈ lw_all := lw_g (lw_at lw_m10 188 rfl) rfl
theorem q2521 : (Jvm.Cond.soleField "PeerSearchModel" "listStays") ∈ lw_all := lw_g (lw_at lw_m10 189 rfl) rfl
theorem q2522 : (Jvm.Cond.laysFinal "PeerSearchModel" "PeerSearchModel" "checkWith" "[I") ∈ lw_all := lw_g (lw_at lw_m10 190 rfl) rfl
theorem q2523 : (Jvm.Cond.soleField "PeerSearchModel" "checkWith") ∈ lw_all := lw_g (lw_at lw_m10 191 rfl) rfl
theorem q2524 : (Jvm.Cond.laysFinal "PeerSearchModel" "PeerSearchModel" "checkFrom" "[I") ∈ lw_all := lw_g (lw_at lw_m10 192 rfl) rfl
theorem q2525 : (Jvm.Cond.soleField "PeerSearchModel" "checkFrom") ∈ lw_all := lw_g (lw_at lw_m10 193 rfl) rfl
theorem q2526 : (Jvm.Cond.laysFinal "PeerSearchModel" "PeerSearchModel" "recordKind" "[I") ∈ lw_all := lw_g (lw_at lw_m10 194 rfl) rfl
theorem q2527 : (Jvm.Cond.soleField "PeerSearchModel" "recordKind") ∈ lw_all := lw_g (lw_at lw_m10 195 rfl) rfl
theorem q2528 : (Jvm.Cond.laysFinal "PeerSearchModel" "PeerSearchModel" "recordPeer" "[I") ∈ lw_all := lw_g (lw_at lw_m10 196 rfl) rfl
theorem q2529 : (Jvm.Cond.soleField "PeerSearchModel" "recordPeer") ∈ lw_all := lw_g (lw_at lw_m10 197 rfl) rfl
theorem q2530 : (Jvm.Cond.laysFinal "PeerSearchModel" "PeerSearchModel" "recordState" "[I") ∈ lw_all := lw_g (lw_at lw_m10 198 rfl) rfl
theorem q2531 : (Jvm.Cond.soleField "PeerSearchModel" "recordState") ∈ lw_all := lw_g (lw_at lw_m10 199 rfl) rfl
theorem q2532 : (Jvm.Cond.laysFinal "PeerSearchModel" "PeerSearchModel" "recordAsks" "[I") ∈ lw_all := lw_g (lw_at lw_m10 200 rfl) rfl
theorem q2533 : (Jvm.Cond.soleField "PeerSearchModel" "recordAsks") ∈ lw_all := lw_g (lw_at lw_m10 201 rfl) rfl
theorem q2534 : (Jvm.Cond.laysFinal "PeerSearchModel" "PeerSearchModel" "recordFound" "[I") ∈ lw_all := lw_g (lw_at lw_m10 202 rfl) rfl
theorem q2535 : (Jvm.Cond.soleField "PeerSearchModel" "recordFound") ∈ lw_all := lw_g (lw_at lw_m10 203 rfl) rfl
theorem q2536 : (Jvm.Cond.laysFinal "PeerSearchModel" "PeerSearchModel" "recordWords" "[I") ∈ lw_all := lw_g (lw_at lw_m10 204 rfl) rfl
theorem q2537 : (Jvm.Cond.soleField "PeerSearchModel" "recordWords") ∈ lw_all := lw_g (lw_at lw_m10 205 rfl) rfl
theorem q2538 : (Jvm.Cond.lays "PeerSearchModel" "PeerSearchModel" "came" "I") ∈ lw_all := lw_g (lw_at lw_m10 206 rfl) rfl
theorem q2539 : (Jvm.Cond.soleField "PeerSearchModel" "came") ∈ lw_all := lw_g (lw_at lw_m10 207 rfl) rfl
theorem q2540 : (Jvm.Cond.laysFinal "PeerSearchModel" "PeerSearchModel" "in" "[I") ∈ lw_all := lw_g (lw_at lw_m10 208 rfl) rfl
theorem q2541 : (Jvm.Cond.soleField "PeerSearchModel" "in") ∈ lw_all := lw_g (lw_at lw_m10 209 rfl) rfl
theorem q2542 : (Jvm.Cond.laysFinal "PeerSearchModel" "PeerSearchModel" "two" "[I") ∈ lw_all := lw_g (lw_at lw_m10 210 rfl) rfl
theorem q2543 : (Jvm.Cond.soleField "PeerSearchModel" "two") ∈ lw_all := lw_g (lw_at lw_m10 211 rfl) rfl
theorem q2544 : (Jvm.Cond.laysFinal "PeerSearchModel" "PeerSearchModel" "three" "[I") ∈ lw_all := lw_g (lw_at lw_m10 212 rfl) rfl
theorem q2545 : (Jvm.Cond.soleField "PeerSearchModel" "three") ∈ lw_all := lw_g (lw_at lw_m10 213 rfl) rfl
theorem q2546 : (Jvm.Cond.lays "PeerSearchModel" "PeerSearchModel" "deliveries" "I") ∈ lw_all := lw_g (lw_at lw_m10 214 rfl) rfl
theorem q2547 : (Jvm.Cond.soleField "PeerSearchModel" "deliveries") ∈ lw_all := lw_g (lw_at lw_m10 215 rfl) rfl
theorem q2548 : (Jvm.Cond.laysFinal "PeerSearchModel" "PeerSearchModel" "out2" "[I") ∈ lw_all := lw_g (lw_at lw_m10 216 rfl) rfl
theorem q2549 : (Jvm.Cond.soleField "PeerSearchModel" "out2") ∈ lw_all := lw_g (lw_at lw_m10 217 rfl) rfl
theorem q2550 : (Jvm.Cond.laysFinal "PeerSearchModel" "PeerSearchModel" "score" "[I") ∈ lw_all := lw_g (lw_at lw_m10 218 rfl) rfl
theorem q2551 : (Jvm.Cond.soleField "PeerSearchModel" "score") ∈ lw_all := lw_g (lw_at lw_m10 219 rfl) rfl
theorem q2552 : (Jvm.Cond.superclass "PeerSearchModel" "java/lang/Object") ∈ lw_all := lw_g (lw_at lw_m10 220 rfl) rfl
theorem q2554 : (Jvm.Cond.instanceMethod ({ cls := "PeerSearchModel", name := "feed", desc := "(IIIII)V" } : Jvm.MethodName)) ∈ lw_all := lw_g (lw_at lw_m10 222 rfl) rfl
theorem q2555 : (Jvm.Cond.selects "PeerSearchModel" ({ cls := "PeerSearchModel", name := "feed", desc := "(IIIII)V" } : Jvm.MethodName) ({ cls := "PeerSearchModel", name := "feed", desc := "(IIIII)V" } : Jvm.MethodName)) ∈ lw_all := lw_g (lw_at lw_m10 223 rfl) rfl
theorem q2556 : (Jvm.Cond.code ({ cls := "PeerSearchModel", name := "feed", desc := "(IIIII)V" } : Jvm.MethodName) prog_32_method_3_code (6 : Nat) (Option.none : Option Jvm.ClassFile.FieldType)) ∈ lw_all := lw_g (lw_at lw_m10 224 rfl) rfl
theorem q2557 : (Jvm.Cond.methodLink "PeerSearchModel" (383 : Nat) ({ cls := "PeerSearchModel", name := "word", desc := "(II)V" } : Jvm.MethodName)) ∈ lw_all := lw_g (lw_at lw_m10 225 rfl) rfl
theorem q2558 : (Jvm.Cond.privateMethod ({ cls := "PeerSearchModel", name := "word", desc := "(II)V" } : Jvm.MethodName)) ∈ lw_tbl := lw_at lw_m10 226 rfl
theorem q2559 : (Jvm.Cond.instanceMethod ({ cls := "PeerSearchModel", name := "word", desc := "(II)V" } : Jvm.MethodName)) ∈ lw_all := lw_g (lw_at lw_m10 227 rfl) rfl
theorem q2560 : (Jvm.Cond.code ({ cls := "PeerSearchModel", name := "word", desc := "(II)V" } : Jvm.MethodName) prog_32_method_2_code (4 : Nat) (Option.none : Option Jvm.ClassFile.FieldType)) ∈ lw_all := lw_g (lw_at lw_m10 228 rfl) rfl
theorem q2562 : (Jvm.Cond.instanceMethod ({ cls := "PeerSearchModel", name := "end", desc := "(I)I" } : Jvm.MethodName)) ∈ lw_all := lw_g (lw_at lw_m10 230 rfl) rfl
theorem q2563 : (Jvm.Cond.selects "PeerSearchModel" ({ cls := "PeerSearchModel", name := "end", desc := "(I)I" } : Jvm.MethodName) ({ cls := "PeerSearchModel", name := "end", desc := "(I)I" } : Jvm.MethodName)) ∈ lw_all := lw_g (lw_at lw_m10 231 rfl) rfl
theorem q2564 : (Jvm.Cond.code ({ cls := "PeerSearchModel", name := "end", desc := "(I)I" } : Jvm.MethodName) prog_32_method_4_code (3 : Nat) (Option.some Jvm.ClassFile.FieldType.int)) ∈ lw_all := lw_g (lw_at lw_m10 232 rfl) rfl
theorem q2566 : (Jvm.Cond.instanceMethod ({ cls := "PeerSearchModel", name := "set", desc := "(II)Z" } : Jvm.MethodName)) ∈ lw_all := lw_g (lw_at lw_m10 234 rfl) rfl
theorem q2567 : (Jvm.Cond.selects "PeerSearchModel" ({ cls := "PeerSearchModel", name := "set", desc := "(II)Z" } : Jvm.MethodName) ({ cls := "PeerSearchModel", name := "set", desc := "(II)Z" } : Jvm.MethodName)) ∈ lw_all := lw_g (lw_at lw_m10 235 rfl) rfl
theorem q2568 : (Jvm.Cond.code ({ cls := "PeerSearchModel", name := "set", desc := "(II)Z" } : Jvm.MethodName) prog_32_method_15_code (3 : Nat) (Option.some Jvm.ClassFile.FieldType.boolean)) ∈ lw_all := lw_g (lw_at lw_m10 236 rfl) rfl
theorem q2570 : (Jvm.Cond.instanceMethod ({ cls := "PeerSearchModel", name := "peer", desc := "()I" } : Jvm.MethodName)) ∈ lw_all := lw_g (lw_at lw_m10 238 rfl) rfl
theorem q2571 : (Jvm.Cond.selects "PeerSearchModel" ({ cls := "PeerSearchModel", name := "peer", desc := "()I" } : Jvm.MethodName) ({ cls := "PeerSearchModel", name := "peer", desc := "()I" } : Jvm.MethodName)) ∈ lw_all := lw_g (lw_at lw_m10 239 rfl) rfl
theorem q2572 : (Jvm.Cond.code ({ cls := "PeerSearchModel", name := "peer", desc := "()I" } : Jvm.MethodName) prog_32_method_19_code (4 : Nat) (Option.some Jvm.ClassFile.FieldType.int)) ∈ lw_all := lw_g (lw_at lw_m11 0 rfl) rfl
theorem q2573 : (Jvm.Cond.methodLink "PeerSearchModel" (431 : Nat) ({ cls := "PeerSearchModel", name := "hashTape", desc := "()V" } : Jvm.MethodName)) ∈ lw_all := lw_g (lw_at lw_m11 1 rfl) rfl
theorem q2574 : (Jvm.Cond.privateMethod ({ cls := "PeerSearchModel", name := "hashTape", desc := "()V" } : Jvm.MethodName)) ∈ lw_tbl := lw_at lw_m11 2 rfl
theorem q2575 : (Jvm.Cond.instanceMethod ({ cls := "PeerSearchModel", name := "hashTape", desc := "()V" } : Jvm.MethodName)) ∈ lw_all := lw_g (lw_at lw_m11 3 rfl) rfl
theorem q2576 : (Jvm.Cond.code ({ cls := "PeerSearchModel", name := "hashTape", desc := "()V" } : Jvm.MethodName) prog_32_method_8_code (2 : Nat) (Option.none : Option Jvm.ClassFile.FieldType)) ∈ lw_all := lw_g (lw_at lw_m11 4 rfl) rfl
theorem q2577 : (Jvm.Cond.methodLink "PeerSearchModel" (407 : Nat) ({ cls := "PeerSearchModel", name := "sha", desc := "(I)V" } : Jvm.MethodName)) ∈ lw_all := lw_g (lw_at lw_m11 5 rfl) rfl
theorem q2578 : (Jvm.Cond.privateMethod ({ cls := "PeerSearchModel", name := "sha", desc := "(I)V" } : Jvm.MethodName)) ∈ lw_tbl := lw_at lw_m11 6 rfl
theorem q2579 : (Jvm.Cond.instanceMethod ({ cls := "PeerSearchModel", name := "sha", desc := "(I)V" } : Jvm.MethodName)) ∈ lw_all := lw_g (lw_at lw_m11 7 rfl) rfl
theorem q2580 : (Jvm.Cond.code ({ cls := "PeerSearchModel", name := "sha", desc := "(I)V" } : Jvm.MethodName) prog_32_method_6_code (5 : Nat) (Option.none : Option Jvm.ClassFile.FieldType)) ∈ lw_all := lw_g (lw_at lw_m11 8 rfl) rfl
theorem q2581 : (Jvm.Cond.constant "PeerSearchModel" (390 : Nat) (1732584193 : Int32)) ∈ lw_all := lw_g (lw_at lw_m11 9 rfl) rfl
theorem q2582 : (Jvm.Cond.constant "PeerSearchModel" (391 : Nat) (-271733879 : Int32)) ∈ lw_all := lw_g (lw_at lw_m11 10 rfl) rfl
theorem q2583 : (Jvm.Cond.constant "PeerSearchModel" (392 : Nat) (-1732584194 : Int32)) ∈ lw_all := lw_g (lw_at lw_m11 11 rfl) rfl
theorem q2584 : (Jvm.Cond.constant "PeerSearchModel" (393 : Nat) (271733878 : Int32)) ∈ lw_all := lw_g (lw_at lw_m11 12 rfl) rfl
theorem q2585 : (Jvm.Cond.constant "PeerSearchModel" (394 : Nat) (-1009589776 : Int32)) ∈ lw_all := lw_g (lw_at lw_m11 13 rfl) rfl
theorem q2586 : (Jvm.Cond.methodLink "PeerSearchModel" (395 : Nat) ({ cls := "PeerSearchModel", name := "block", desc := "(I)V" } : Jvm.MethodName)) ∈ lw_all := lw_g (lw_at lw_m11 14 rfl) rfl
theorem q2587 : (Jvm.Cond.privateMethod ({ cls := "PeerSearchModel", name := "block", desc := "(I)V" } : Jvm.MethodName)) ∈ lw_tbl := lw_at lw_m11 15 rfl
theorem q2588 : (Jvm.Cond.instanceMethod ({ cls := "PeerSearchModel", name := "block", desc := "(I)V" } : Jvm.MethodName)) ∈ lw_all := lw_g (lw_at lw_m11 16 rfl) rfl
theorem q2589 : (Jvm.Cond.code ({ cls := "PeerSearchModel", name := "block", desc := "(I)V" } : Jvm.MethodName) prog_32_method_7_code (11 : Nat) (Option.none : Option Jvm.ClassFile.FieldType)) ∈ lw_all := lw_g (lw_at lw_m11 17 rfl) rfl
theorem q2590 : (Jvm.Cond.methodLink "PeerSearchModel" (399 : Nat) ({ cls := "PeerSearchModel", name := "turned", desc := "(II)I" } : Jvm.MethodName)) ∈ lw_all := lw_g (lw_at lw_m11 18 rfl) rfl
theorem q2591 : (Jvm.Cond.static ({ cls := "PeerSearchModel", name := "turned", desc := "(II)I" } : Jvm.MethodName)) ∈ lw_all := lw_g (lw_at lw_m11 19 rfl) rfl
theorem q2592 : (Jvm.Cond.code ({ cls := "PeerSearchModel", name := "turned", desc := "(II)I" } : Jvm.MethodName) prog_32_method_5_code (2 : Nat) (Option.some Jvm.ClassFile.FieldType.int)) ∈ lw_all := lw_g (lw_at lw_m11 20 rfl) rfl
theorem q2593 : (Jvm.Cond.constant "PeerSearchModel" (403 : Nat) (1518500249 : Int32)) ∈ lw_all := lw_g (lw_at lw_m11 21 rfl) rfl
theorem q2594 : (Jvm.Cond.constant "PeerSearchModel" (404 : Nat) (1859775393 : Int32)) ∈ lw_all := lw_g (lw_at lw_m11 22 rfl) rfl
theorem q2595 : (Jvm.Cond.constant "PeerSearchModel" (405 : Nat) (-1894007588 : Int32)) ∈ lw_all := lw_g (lw_at lw_m11 23 rfl) rfl
theorem q2596 : (Jvm.Cond.constant "PeerSearchModel" (406 : Nat) (-899497514 : Int32)) ∈ lw_all := lw_g (lw_at lw_m11 24 rfl) rfl
theorem q2597 : (Jvm.Cond.methodLink "PeerSearchModel" (434 : Nat) ({ cls := "PeerSearchModel", name := "same", desc := "([II[II)Z" } : Jvm.MethodName)) ∈ lw_all := lw_g (lw_at lw_m11 25 rfl) rfl
theorem q2598 : (Jvm.Cond.static ({ cls := "PeerSearchModel", name := "same", desc := "([II[II)Z" } : Jvm.MethodName)) ∈ lw_all := lw_g (lw_at lw_m11 26 rfl) rfl
theorem q2599 : (Jvm.Cond.code ({ cls := "PeerSearchModel", name := "same", desc := "([II[II)Z" } : Jvm.MethodName) prog_32_method_9_code (6 : Nat) (Option.some Jvm.ClassFile.FieldType.boolean)) ∈ lw_all := lw_g (lw_at lw_m11 27 rfl) rfl
theorem q2600 : (Jvm.Cond.methodLink "PeerSearchModel" (438 : Nat) ({ cls := "PeerSearchModel", name := "put", desc := "([II[II)V" } : Jvm.MethodName)) ∈ lw_all := lw_g (lw_at lw_m11 28 rfl) rfl
theorem q2601 : (Jvm.Cond.static ({ cls := "PeerSearchModel", name := "put", desc := "([II[II)V" } : Jvm.MethodName)) ∈ lw_all := lw_g (lw_at lw_m11 29 rfl) rfl
theorem q2602 : (Jvm.Cond.code ({ cls := "PeerSearchModel", name := "put", desc := "([II[II)V" } : Jvm.MethodName) prog_32_method_10_code (5 : Nat) (Option.none : Option Jvm.ClassFile.FieldType)) ∈ lw_all := lw_g (lw_at lw_m11 30 rfl) rfl
theorem q2604 : (Jvm.Cond.instanceMethod ({ cls := "PeerSearchModel", name := "key", desc := "(II)I" } : Jvm.MethodName)) ∈ lw_all := lw_g (lw_at lw_m11 32 rfl) rfl
theorem q2605 : (Jvm.Cond.selects "PeerSearchModel" ({ cls := "PeerSearchModel", name := "key", desc := "(II)I" } : Jvm.MethodName) ({ cls := "PeerSearchModel", name := "key", desc := "(II)I" } : Jvm.MethodName)) ∈ lw_all := lw_g (lw_at lw_m11 33 rfl) rfl
theorem q2606 : (Jvm.Cond.code ({ cls := "PeerSearchModel", name := "key", desc := "(II)I" } : Jvm.MethodName) prog_32_method_20_code (3 : Nat) (Option.some Jvm.ClassFile.FieldType.int)) ∈ lw_all := lw_g (lw_at lw_m11 34 rfl) rfl
theorem q2607 : (Jvm.Cond.methodLink "PeerSearchModel" (427 : Nat) ({ cls := "PeerSearchModel", name := "isPeer", desc := "(I)Z" } : Jvm.MethodName)) ∈ lw_all := lw_g (lw_at lw_m11 35 rfl) rfl
theorem q2608 : (Jvm.Cond.privateMethod ({ cls := "PeerSearchModel", name := "isPeer", desc := "(I)Z" } : Jvm.MethodName)) ∈ lw_tbl := lw_at lw_m11 36 rfl
theorem q2609 : (Jvm.Cond.instanceMethod ({ cls := "PeerSearchModel", name := "isPeer", desc := "(I)Z" } : Jvm.MethodName)) ∈ lw_all := lw_g (lw_at lw_m11 37 rfl) rfl
theorem q2610 : (Jvm.Cond.code ({ cls := "PeerSearchModel", name := "isPeer", desc := "(I)Z" } : Jvm.MethodName) prog_32_method_17_code (2 : Nat) (Option.some Jvm.ClassFile.FieldType.boolean)) ∈ lw_all := lw_g (lw_at lw_m11 38 rfl) rfl
theorem q2612 : (Jvm.Cond.instanceMethod ({ cls := "PeerSearchModel", name := "hash", desc := "(I)I" } : Jvm.MethodName)) ∈ lw_all := lw_g (lw_at lw_m11 40 rfl) rfl
theorem q2613 : (Jvm.Cond.selects "PeerSearchModel" ({ cls := "PeerSearchModel", name := "hash", desc := "(I)I" } : Jvm.MethodName) ({ cls := "PeerSearchModel", name := "hash", desc := "(I)I" } : Jvm.MethodName)) ∈ lw_all := lw_g (lw_at lw_m11 41 rfl) rfl
theorem q2614 : (Jvm.Cond.code ({ cls := "PeerSearchModel", name := "hash", desc := "(I)I" } : Jvm.MethodName) prog_32_method_21_code (2 : Nat) (Option.some Jvm.ClassFile.FieldType.int)) ∈ lw_all := lw_g (lw_at lw_m11 42 rfl) rfl
theorem q2616 : (Jvm.Cond.instanceMethod ({ cls := "PeerSearchModel", name := "side", desc := "(II)Z" } : Jvm.MethodName)) ∈ lw_all := lw_g (lw_at lw_m11 44 rfl) rfl
theorem q2617 : (Jvm.Cond.selects "PeerSearchModel" ({ cls := "PeerSearchModel", name := "side", desc := "(II)Z" } : Jvm.MethodName) ({ cls := "PeerSearchModel", name := "side", desc := "(II)Z" } : Jvm.MethodName)) ∈ lw_all := lw_g (lw_at lw_m11 45 rfl) rfl
theorem q2618 : (Jvm.Cond.code ({ cls := "PeerSearchModel", name := "side", desc := "(II)Z" } : Jvm.MethodName) prog_32_method_22_code (3 : Nat) (Option.some Jvm.ClassFile.FieldType.boolean)) ∈ lw_all := lw_g (lw_at lw_m11 46 rfl) rfl
theorem q2620 : (Jvm.Cond.instanceMethod ({ cls := "PeerSearchModel", name := "document", desc := "(I)I" } : Jvm.MethodName)) ∈ lw_all := lw_g (lw_at lw_m11 48 rfl) rfl
theorem q2621 : (Jvm.Cond.selects "PeerSearchModel" ({ cls := "PeerSearchModel", name := "document", desc := "(I)I" } : Jvm.MethodName) ({ cls := "PeerSearchModel", name := "document", desc := "(I)I" } : Jvm.MethodName)) ∈ lw_all := lw_g (lw_at lw_m11 49 rfl) rfl
theorem q2622 : (Jvm.Cond.code ({ cls := "PeerSearchModel", name := "document", desc := "(I)I" } : Jvm.MethodName) prog_32_method_29_code (8 : Nat) (Option.some Jvm.ClassFile.FieldType.int)) ∈ lw_all := lw_g (lw_at lw_m11 50 rfl) rfl
theorem q2623 : (Jvm.Cond.methodLink "PeerSearchModel" (455 : Nat) ({ cls := "PeerSearchModel", name := "terms", desc := "()V" } : Jvm.MethodName)) ∈ lw_all := lw_g (lw_at lw_m11 51 rfl) rfl
theorem q2624 : (Jvm.Cond.privateMethod ({ cls := "PeerSearchModel", name := "terms", desc := "()V" } : Jvm.MethodName)) ∈ lw_tbl := lw_at lw_m11 52 rfl
theorem q2625 : (Jvm.Cond.instanceMethod ({ cls := "PeerSearchModel", name := "terms", desc := "()V" } : Jvm.MethodName)) ∈ lw_all := lw_g (lw_at lw_m11 53 rfl) rfl
theorem q2626 : (Jvm.Cond.code ({ cls := "PeerSearchModel", name := "terms", desc := "()V" } : Jvm.MethodName) prog_32_method_26_code (4 : Nat) (Option.none : Option Jvm.ClassFile.FieldType)) ∈ lw_all := lw_g (lw_at lw_m11 54 rfl) rfl
theorem q2627 : (Jvm.Cond.methodLink "PeerSearchModel" (445 : Nat) ({ cls := "PeerSearchModel", name := "isWord", desc := "(I)Z" } : Jvm.MethodName)) ∈ lw_all := lw_g (lw_at lw_m11 55 rfl) rfl
theorem q2628 : (Jvm.Cond.static ({ cls := "PeerSearchModel", name := "isWord", desc := "(I)Z" } : Jvm.MethodName)) ∈ lw_all := lw_g (lw_at lw_m11 56 rfl) rfl
theorem q2629 : (Jvm.Cond.code ({ cls := "PeerSearchModel", name := "isWord", desc := "(I)Z" } : Jvm.MethodName) prog_32_method_24_code (1 : Nat) (Option.some Jvm.ClassFile.FieldType.boolean)) ∈ lw_all := lw_g (lw_at lw_m11 57 rfl) rfl
theorem q2630 : (Jvm.Cond.methodLink "PeerSearchModel" (448 : Nat) ({ cls := "PeerSearchModel", name := "small", desc := "(I)I" } : Jvm.MethodName)) ∈ lw_all := lw_g (lw_at lw_m11 58 rfl) rfl
theorem q2631 : (Jvm.Cond.static ({ cls := "PeerSearchModel", name := "small", desc := "(I)I" } : Jvm.MethodName)) ∈ lw_all := lw_g (lw_at lw_m11 59 rfl) rfl
theorem q2632 : (Jvm.Cond.code ({ cls := "PeerSearchModel", name := "small", desc := "(I)I" } : Jvm.MethodName) prog_32_method_23_code (1 : Nat) (Option.some Jvm.ClassFile.FieldType.int)) ∈ lw_all := lw_g (lw_at lw_m11 60 rfl) rfl
theorem q2633 : (Jvm.Cond.methodLink "PeerSearchModel" (451 : Nat) ({ cls := "PeerSearchModel", name := "alike", desc := "([III[III)Z" } : Jvm.MethodName)) ∈ lw_all := lw_g (lw_at lw_m11 61 rfl) rfl
theorem q2634 : (Jvm.Cond.static ({ cls := "PeerSearchModel", name := "alike", desc := "([III[III)Z" } : Jvm.MethodName)) ∈ lw_all := lw_g (lw_at lw_m11 62 rfl) rfl
theorem q2635 : (Jvm.Cond.code ({ cls := "PeerSearchModel", name := "alike", desc := "([III[III)Z" } : Jvm.MethodName) prog_32_method_25_code (8 : Nat) (Option.some Jvm.ClassFile.FieldType.boolean)) ∈ lw_all := lw_g (lw_at lw_m11 63 rfl) rfl
theorem q2636 : (Jvm.Cond.methodLink "PeerSearchModel" (457 : Nat) ({ cls := "PeerSearchModel", name := "termOf", desc := "(I[III)I" } : Jvm.MethodName)) ∈ lw_all := lw_g (lw_at lw_m11 64 rfl) rfl
theorem q2637 : (Jvm.Cond.privateMethod ({ cls := "PeerSearchModel", name := "termOf", desc := "(I[III)I" } : Jvm.MethodName)) ∈ lw_tbl := lw_at lw_m11 65 rfl
theorem q2638 : (Jvm.Cond.instanceMethod ({ cls := "PeerSearchModel", name := "termOf", desc := "(I[III)I" } : Jvm.MethodName)) ∈ lw_all := lw_g (lw_at lw_m11 66 rfl) rfl
theorem q2639 : (Jvm.Cond.code ({ cls := "PeerSearchModel", name := "termOf", desc := "(I[III)I" } : Jvm.MethodName) prog_32_method_27_code (7 : Nat) (Option.some Jvm.ClassFile.FieldType.int)) ∈ lw_all := lw_g (lw_at lw_m11 67 rfl) rfl
theorem q2640 : (Jvm.Cond.methodLink "PeerSearchModel" (461 : Nat) ({ cls := "PeerSearchModel", name := "hashFound", desc := "(I)V" } : Jvm.MethodName)) ∈ lw_all := lw_g (lw_at lw_m11 68 rfl) rfl
theorem q2641 : (Jvm.Cond.privateMethod ({ cls := "PeerSearchModel", name := "hashFound", desc := "(I)V" } : Jvm.MethodName)) ∈ lw_tbl := lw_at lw_m11 69 rfl
theorem q2642 : (Jvm.Cond.instanceMethod ({ cls := "PeerSearchModel", name := "hashFound", desc := "(I)V" } : Jvm.MethodName)) ∈ lw_all := lw_g (lw_at lw_m11 70 rfl) rfl
theorem q2643 : (Jvm.Cond.code ({ cls := "PeerSearchModel", name := "hashFound", desc := "(I)V" } : Jvm.MethodName) prog_32_method_28_code (3 : Nat) (Option.none : Option Jvm.ClassFile.FieldType)) ∈ lw_all := lw_g (lw_at lw_m11 71 rfl) rfl
theorem q2645 : (Jvm.Cond.instanceMethod ({ cls := "PeerSearchModel", name := "start", desc := "(I)Z" } : Jvm.MethodName)) ∈ lw_all := lw_g (lw_at lw_m11 73 rfl) rfl
theorem q2646 : (Jvm.Cond.selects "PeerSearchModel" ({ cls := "PeerSearchModel", name := "start", desc := "(I)Z" } : Jvm.MethodName) ({ cls := "PeerSearchModel", name := "start", desc := "(I)Z" } : Jvm.MethodName)) ∈ lw_all := lw_g (lw_at lw_m11 74 rfl) rfl
theorem q2647 : (Jvm.Cond.code ({ cls := "PeerSearchModel", name := "start", desc := "(I)Z" } : Jvm.MethodName) prog_32_method_94_code (2 : Nat) (Option.some Jvm.ClassFile.FieldType.boolean)) ∈ lw_all := lw_g (lw_at lw_m11 75 rfl) rfl
theorem q2648 : (Jvm.Cond.methodLink "PeerSearchModel" (714 : Nat) ({ cls := "PeerSearchModel", name := "alive", desc := "(I)V" } : Jvm.MethodName)) ∈ lw_all := lw_g (lw_at lw_m11 76 rfl) rfl
theorem q2649 : (Jvm.Cond.privateMethod ({ cls := "PeerSearchModel", name := "alive", desc := "(I)V" } : Jvm.MethodName)) ∈ lw_tbl := lw_at lw_m11 77 rfl
theorem q2650 : (Jvm.Cond.instanceMethod ({ cls := "PeerSearchModel", name := "alive", desc := "(I)V" } : Jvm.MethodName)) ∈ lw_all := lw_g (lw_at lw_m11 78 rfl) rfl
theorem q2651 : (Jvm.Cond.code ({ cls := "PeerSearchModel", name := "alive", desc := "(I)V" } : Jvm.MethodName) prog_32_method_92_code (2 : Nat) (Option.none : Option Jvm.ClassFile.FieldType)) ∈ lw_all := lw_g (lw_at lw_m11 79 rfl) rfl
theorem q2653 : (Jvm.Cond.instanceMethod ({ cls := "PeerSearchModel", name := "join", desc := "(II)I" } : Jvm.MethodName)) ∈ lw_all := lw_g (lw_at lw_m11 81 rfl) rfl
theorem q2654 : (Jvm.Cond.selects "PeerSearchModel" ({ cls := "PeerSearchModel", name := "join", desc := "(II)I" } : Jvm.MethodName) ({ cls := "PeerSearchModel", name := "join", desc := "(II)I" } : Jvm.MethodName)) ∈ lw_all := lw_g (lw_at lw_m11 82 rfl) rfl
theorem q2655 : (Jvm.Cond.code ({ cls := "PeerSearchModel", name := "join", desc := "(II)I" } : Jvm.MethodName) prog_32_method_95_code (4 : Nat) (Option.some Jvm.ClassFile.FieldType.int)) ∈ lw_all := lw_g (lw_at lw_m11 83 rfl) rfl
theorem q2656 : (Jvm.Cond.methodLink "PeerSearchModel" (717 : Nat) ({ cls := "PeerSearchModel", name := "freePlace", desc := "()I" } : Jvm.MethodName)) ∈ lw_all := lw_g (lw_at lw_m11 84 rfl) rfl
theorem q2657 : (Jvm.Cond.privateMethod ({ cls := "PeerSearchModel", name := "freePlace", desc := "()I" } : Jvm.MethodName)) ∈ lw_tbl := lw_at lw_m11 85 rfl
theorem q2658 : (Jvm.Cond.instanceMethod ({ cls := "PeerSearchModel", name := "freePlace", desc := "()I" } : Jvm.MethodName)) ∈ lw_all := lw_g (lw_at lw_m11 86 rfl) rfl
theorem q2659 : (Jvm.Cond.code ({ cls := "PeerSearchModel", name := "freePlace", desc := "()I" } : Jvm.MethodName) prog_32_method_67_code (2 : Nat) (Option.some Jvm.ClassFile.FieldType.int)) ∈ lw_all := lw_g (lw_at lw_m11 87 rfl) rfl
theorem q2660 : (Jvm.Cond.methodLink "PeerSearchModel" (720 : Nat) ({ cls := "PeerSearchModel", name := "open", desc := "(III)V" } : Jvm.MethodName)) ∈ lw_all := lw_g (lw_at lw_m11 88 rfl) rfl
theorem q2661 : (Jvm.Cond.privateMethod ({ cls := "PeerSearchModel", name := "open", desc := "(III)V" } : Jvm.MethodName)) ∈ lw_tbl := lw_at lw_m11 89 rfl
theorem q2662 : (Jvm.Cond.instanceMethod ({ cls := "PeerSearchModel", name := "open", desc := "(III)V" } : Jvm.MethodName)) ∈ lw_all := lw_g (lw_at lw_m11 90 rfl) rfl
theorem q2663 : (Jvm.Cond.code ({ cls := "PeerSearchModel", name := "open", desc := "(III)V" } : Jvm.MethodName) prog_32_method_68_code (4 : Nat) (Option.none : Option Jvm.ClassFile.FieldType)) ∈ lw_all := lw_g (lw_at lw_m11 91 rfl) rfl
theorem q2664 : (Jvm.Cond.methodLink "PeerSearchModel" (723 : Nat) ({ cls := "PeerSearchModel", name := "see", desc := "(I[III)V" } : Jvm.MethodName)) ∈ lw_all := lw_g (lw_at lw_m11 92 rfl) rfl
theorem q2665 : (Jvm.Cond.privateMethod ({ cls := "PeerSearchModel", name := "see", desc := "(I[III)V" } : Jvm.MethodName)) ∈ lw_tbl := lw_at lw_m11 93 rfl
theorem q2666 : (Jvm.Cond.instanceMethod ({ cls := "PeerSearchModel", name := "see", desc := "(I[III)V" } : Jvm.MethodName)) ∈ lw_all := lw_g (lw_at lw_m11 94 rfl) rfl
theorem q2667 : (Jvm.Cond.code ({ cls := "PeerSearchModel", name := "see", desc := "(I[III)V" } : Jvm.MethodName) prog_32_method_46_code (8 : Nat) (Option.none : Option Jvm.ClassFile.FieldType)) ∈ lw_all := lw_g (lw_at lw_m11 95 rfl) rfl
theorem q2668 : (Jvm.Cond.methodLink "PeerSearchModel" (530 : Nat) ({ cls := "PeerSearchModel", name := "seen", desc := "(I[III)I" } : Jvm.MethodName)) ∈ lw_all := lw_g (lw_at lw_m11 96 rfl) rfl
theorem q2669 : (Jvm.Cond.privateMethod ({ cls := "PeerSearchModel", name := "seen", desc := "(I[III)I" } : Jvm.MethodName)) ∈ lw_tbl := lw_at lw_m11 97 rfl
theorem q2670 : (Jvm.Cond.instanceMethod ({ cls := "PeerSearchModel", name := "seen", desc := "(I[III)I" } : Jvm.MethodName)) ∈ lw_all := lw_g (lw_at lw_m11 98 rfl) rfl
theorem q2671 : (Jvm.Cond.code ({ cls := "PeerSearchModel", name := "seen", desc := "(I[III)I" } : Jvm.MethodName) prog_32_method_45_code (8 : Nat) (Option.some Jvm.ClassFile.FieldType.int)) ∈ lw_all := lw_g (lw_at lw_m11 99 rfl) rfl
theorem q2672 : (Jvm.Cond.methodLink "PeerSearchModel" (503 : Nat) ({ cls := "PeerSearchModel", name := "common", desc := "([II[II)I" } : Jvm.MethodName)) ∈ lw_all := lw_g (lw_at lw_m11 100 rfl) rfl
theorem q2673 : (Jvm.Cond.static ({ cls := "PeerSearchModel", name := "common", desc := "([II[II)I" } : Jvm.MethodName)) ∈ lw_all := lw_g (lw_at lw_m11 101 rfl) rfl
theorem q2674 : (Jvm.Cond.code ({ cls := "PeerSearchModel", name := "common", desc := "([II[II)I" } : Jvm.MethodName) prog_32_method_13_code (7 : Nat) (Option.some Jvm.ClassFile.FieldType.int)) ∈ lw_all := lw_g (lw_at lw_m11 102 rfl) rfl
theorem q2675 : (Jvm.Cond.methodLink "PeerSearchModel" (419 : Nat) ({ cls := "java/lang/Integer", name := "numberOfLeadingZeros", desc := "(I)I" } : Jvm.MethodName)) ∈ lw_all := lw_g (lw_at lw_m11 103 rfl) rfl
theorem q2676 : (Jvm.Cond.methodLink "PeerSearchModel" (507 : Nat) ({ cls := "PeerSearchModel", name := "rowWith", desc := "(I[II)I" } : Jvm.MethodName)) ∈ lw_all := lw_g (lw_at lw_m11 104 rfl) rfl
theorem q2677 : (Jvm.Cond.privateMethod ({ cls := "PeerSearchModel", name := "rowWith", desc := "(I[II)I" } : Jvm.MethodName)) ∈ lw_tbl := lw_at lw_m11 105 rfl
theorem q2678 : (Jvm.Cond.instanceMethod ({ cls := "PeerSearchModel", name := "rowWith", desc := "(I[II)I" } : Jvm.MethodName)) ∈ lw_all := lw_g (lw_at lw_m11 106 rfl) rfl
theorem q2679 : (Jvm.Cond.code ({ cls := "PeerSearchModel", name := "rowWith", desc := "(I[II)I" } : Jvm.MethodName) prog_32_method_39_code (5 : Nat) (Option.some Jvm.ClassFile.FieldType.int)) ∈ lw_all := lw_g (lw_at lw_m11 107 rfl) rfl
theorem q2680 : (Jvm.Cond.methodLink "PeerSearchModel" (500 : Nat) ({ cls := "PeerSearchModel", name := "touch", desc := "(I)V" } : Jvm.MethodName)) ∈ lw_all := lw_g (lw_at lw_m11 108 rfl) rfl
theorem q2681 : (Jvm.Cond.privateMethod ({ cls := "PeerSearchModel", name := "touch", desc := "(I)V" } : Jvm.MethodName)) ∈ lw_tbl := lw_at lw_m11 109 rfl
theorem q2682 : (Jvm.Cond.instanceMethod ({ cls := "PeerSearchModel", name := "touch", desc := "(I)V" } : Jvm.MethodName)) ∈ lw_all := lw_g (lw_at lw_m11 110 rfl) rfl
theorem q2683 : (Jvm.Cond.code ({ cls := "PeerSearchModel", name := "touch", desc := "(I)V" } : Jvm.MethodName) prog_32_method_42_code (2 : Nat) (Option.none : Option Jvm.ClassFile.FieldType)) ∈ lw_all := lw_g (lw_at lw_m11 111 rfl) rfl
theorem q2684 : (Jvm.Cond.methodLink "PeerSearchModel" (511 : Nat) ({ cls := "PeerSearchModel", name := "inBucket", desc := "(IIZ)I" } : Jvm.MethodName)) ∈ lw_all := lw_g (lw_at lw_m11 112 rfl) rfl
theorem q2685 : (Jvm.Cond.privateMethod ({ cls := "PeerSearchModel", name := "inBucket", desc := "(IIZ)I" } : Jvm.MethodName)) ∈ lw_tbl := lw_at lw_m11 113 rfl
theorem q2686 : (Jvm.Cond.instanceMethod ({ cls := "PeerSearchModel", name := "inBucket", desc := "(IIZ)I" } : Jvm.MethodName)) ∈ lw_all := lw_g (lw_at lw_m11 114 rfl) rfl
theorem q2687 : (Jvm.Cond.code ({ cls := "PeerSearchModel", name := "inBucket", desc := "(IIZ)I" } : Jvm.MethodName) prog_32_method_40_code (6 : Nat) (Option.some Jvm.ClassFile.FieldType.int)) ∈ lw_all := lw_g (lw_at lw_m11 115 rfl) rfl
theorem q2688 : (Jvm.Cond.methodLink "PeerSearchModel" (515 : Nat) ({ cls := "PeerSearchModel", name := "removeRow", desc := "(II)V" } : Jvm.MethodName)) ∈ lw_all := lw_g (lw_at lw_m11 116 rfl) rfl
theorem q2689 : (Jvm.Cond.privateMethod ({ cls := "PeerSearchModel", name := "removeRow", desc := "(II)V" } : Jvm.MethodName)) ∈ lw_tbl := lw_at lw_m11 117 rfl
theorem q2690 : (Jvm.Cond.instanceMethod ({ cls := "PeerSearchModel", name := "removeRow", desc := "(II)V" } : Jvm.MethodName)) ∈ lw_all := lw_g (lw_at lw_m11 118 rfl) rfl
theorem q2691 : (Jvm.Cond.code ({ cls := "PeerSearchModel", name := "removeRow", desc := "(II)V" } : Jvm.MethodName) prog_32_method_43_code (4 : Nat) (Option.none : Option Jvm.ClassFile.FieldType)) ∈ lw_all := lw_g (lw_at lw_m11 119 rfl) rfl
theorem q2692 : (Jvm.Cond.methodLink "PeerSearchModel" (518 : Nat) ({ cls := "PeerSearchModel", name := "addRow", desc := "(I[IIIIZ)I" } : Jvm.MethodName)) ∈ lw_all := lw_g (lw_at lw_m11 120 rfl) rfl
theorem q2693 : (Jvm.Cond.privateMethod ({ cls := "PeerSearchModel", name := "addRow", desc := "(I[IIIIZ)I" } : Jvm.MethodName)) ∈ lw_tbl := lw_at lw_m11 121 rfl
theorem q2694 : (Jvm.Cond.instanceMethod ({ cls := "PeerSearchModel", name := "addRow", desc := "(I[IIIIZ)I" } : Jvm.MethodName)) ∈ lw_all := lw_g (lw_at lw_m11 122 rfl) rfl
theorem q2695 : (Jvm.Cond.code ({ cls := "PeerSearchModel", name := "addRow", desc := "(I[IIIIZ)I" } : Jvm.MethodName) prog_32_method_44_code (8 : Nat) (Option.some Jvm.ClassFile.FieldType.int)) ∈ lw_all := lw_g (lw_at lw_m11 123 rfl) rfl
theorem q2696 : (Jvm.Cond.methodLink "PeerSearchModel" (522 : Nat) ({ cls := "PeerSearchModel", name := "edge", desc := "(IIZZ)I" } : Jvm.MethodName)) ∈ lw_all := lw_g (lw_at lw_m11 124 rfl) rfl
theorem q2697 : (Jvm.Cond.privateMethod ({ cls := "PeerSearchModel", name := "edge", desc := "(IIZZ)I" } : Jvm.MethodName)) ∈ lw_tbl := lw_at lw_m11 125 rfl
theorem q2698 : (Jvm.Cond.instanceMethod ({ cls := "PeerSearchModel", name := "edge", desc := "(IIZZ)I" } : Jvm.MethodName)) ∈ lw_all := lw_g (lw_at lw_m11 126 rfl) rfl
theorem q2699 : (Jvm.Cond.code ({ cls := "PeerSearchModel", name := "edge", desc := "(IIZZ)I" } : Jvm.MethodName) prog_32_method_41_code (7 : Nat) (Option.some Jvm.ClassFile.FieldType.int)) ∈ lw_all := lw_g (lw_at lw_m11 127 rfl) rfl
theorem q2700 : (Jvm.Cond.methodLink "PeerSearchModel" (526 : Nat) ({ cls := "PeerSearchModel", name := "probes", desc := "(II)Z" } : Jvm.MethodName)) ∈ lw_all := lw_g (lw_at lw_m11 128 rfl) rfl
theorem q2701 : (Jvm.Cond.privateMethod ({ cls := "PeerSearchModel", name := "probes", desc := "(II)Z" } : Jvm.MethodName)) ∈ lw_tbl := lw_at lw_m11 129 rfl
theorem q2702 : (Jvm.Cond.instanceMethod ({ cls := "PeerSearchModel", name := "probes", desc := "(II)Z" } : Jvm.MethodName)) ∈ lw_all := lw_g (lw_at lw_m11 130 rfl) rfl
theorem q2703 : (Jvm.Cond.code ({ cls := "PeerSearchModel", name := "probes", desc := "(II)Z" } : Jvm.MethodName) prog_32_method_49_code (5 : Nat) (Option.some Jvm.ClassFile.FieldType.boolean)) ∈ lw_all := lw_g (lw_at lw_m11 131 rfl) rfl
theorem q2704 : (Jvm.Cond.methodLink "PeerSearchModel" (533 : Nat) ({ cls := "PeerSearchModel", name := "ask", desc := "(II[IIIII)Z" } : Jvm.MethodName)) ∈ lw_all := lw_g (lw_at lw_m11 132 rfl) rfl
theorem q2705 : (Jvm.Cond.privateMethod ({ cls := "PeerSearchModel", name := "ask", desc := "(II[IIIII)Z" } : Jvm.MethodName)) ∈ lw_tbl := lw_at lw_m11 133 rfl
theorem q2706 : (Jvm.Cond.instanceMethod ({ cls := "PeerSearchModel", name := "ask", desc := "(II[IIIII)Z" } : Jvm.MethodName)) ∈ lw_all := lw_g (lw_at lw_m11 134 rfl) rfl
theorem q2707 : (Jvm.Cond.code ({ cls := "PeerSearchModel", name := "ask", desc := "(II[IIIII)Z" } : Jvm.MethodName) prog_32_method_53_code (10 : Nat) (Option.some Jvm.ClassFile.FieldType.boolean)) ∈ lw_all := lw_g (lw_at lw_m11 135 rfl) rfl
theorem q2708 : (Jvm.Cond.methodLink "PeerSearchModel" (550 : Nat) ({ cls := "PeerSearchModel", name := "head", desc := "(III)V" } : Jvm.MethodName)) ∈ lw_all := lw_g (lw_at lw_m11 136 rfl) rfl
theorem q2709 : (Jvm.Cond.privateMethod ({ cls := "PeerSearchModel", name := "head", desc := "(III)V" } : Jvm.MethodName)) ∈ lw_tbl := lw_at lw_m11 137 rfl
theorem q2710 : (Jvm.Cond.instanceMethod ({ cls := "PeerSearchModel", name := "head", desc := "(III)V" } : Jvm.MethodName)) ∈ lw_all := lw_g (lw_at lw_m11 138 rfl) rfl
theorem q2711 : (Jvm.Cond.code ({ cls := "PeerSearchModel", name := "head", desc := "(III)V" } : Jvm.MethodName) prog_32_method_38_code (5 : Nat) (Option.none : Option Jvm.ClassFile.FieldType)) ∈ lw_all := lw_g (lw_at lw_m11 139 rfl) rfl
theorem q2712 : (Jvm.Cond.methodLink "PeerSearchModel" (490 : Nat) ({ cls := "PeerSearchModel", name := "byteOut", desc := "(I)V" } : Jvm.MethodName)) ∈ lw_all := lw_g (lw_at lw_m11 140 rfl) rfl
theorem q2713 : (Jvm.Cond.privateMethod ({ cls := "PeerSearchModel", name := "byteOut", desc := "(I)V" } : Jvm.MethodName)) ∈ lw_tbl := lw_at lw_m11 141 rfl
theorem q2714 : (Jvm.Cond.instanceMethod ({ cls := "PeerSearchModel", name := "byteOut", desc := "(I)V" } : Jvm.MethodName)) ∈ lw_all := lw_g (lw_at lw_m11 142 rfl) rfl
theorem q2715 : (Jvm.Cond.code ({ cls := "PeerSearchModel", name := "byteOut", desc := "(I)V" } : Jvm.MethodName) prog_32_method_36_code (2 : Nat) (Option.none : Option Jvm.ClassFile.FieldType)) ∈ lw_all := lw_g (lw_at lw_m11 143 rfl) rfl
theorem q2716 : (Jvm.Cond.methodLink "PeerSearchModel" (493 : Nat) ({ cls := "PeerSearchModel", name := "keyOut", desc := "([II)V" } : Jvm.MethodName)) ∈ lw_all := lw_g (lw_at lw_m11 144 rfl) rfl
theorem q2717 : (Jvm.Cond.privateMethod ({ cls := "PeerSearchModel", name := "keyOut", desc := "([II)V" } : Jvm.MethodName)) ∈ lw_tbl := lw_at lw_m11 145 rfl
theorem q2718 : (Jvm.Cond.instanceMethod ({ cls := "PeerSearchModel", name := "keyOut", desc := "([II)V" } : Jvm.MethodName)) ∈ lw_all := lw_g (lw_at lw_m11 146 rfl) rfl
theorem q2719 : (Jvm.Cond.code ({ cls := "PeerSearchModel", name := "keyOut", desc := "([II)V" } : Jvm.MethodName) prog_32_method_37_code (4 : Nat) (Option.none : Option Jvm.ClassFile.FieldType)) ∈ lw_all := lw_g (lw_at lw_m11 147 rfl) rfl
theorem q2720 : (Jvm.Cond.methodLink "PeerSearchModel" (553 : Nat) ({ cls := "PeerSearchModel", name := "go", desc := "(II)V" } : Jvm.MethodName)) ∈ lw_all := lw_g (lw_at lw_m11 148 rfl) rfl
theorem q2721 : (Jvm.Cond.privateMethod ({ cls := "PeerSearchModel", name := "go", desc := "(II)V" } : Jvm.MethodName)) ∈ lw_tbl := lw_at lw_m11 149 rfl
theorem q2722 : (Jvm.Cond.instanceMethod ({ cls := "PeerSearchModel", name := "go", desc := "(II)V" } : Jvm.MethodName)) ∈ lw_all := lw_g (lw_at lw_m11 150 rfl) rfl
theorem q2723 : (Jvm.Cond.code ({ cls := "PeerSearchModel", name := "go", desc := "(II)V" } : Jvm.MethodName) prog_32_method_54_code (4 : Nat) (Option.none : Option Jvm.ClassFile.FieldType)) ∈ lw_all := lw_g (lw_at lw_m11 151 rfl) rfl
theorem q2724 : (Jvm.Cond.methodLink "PeerSearchModel" (556 : Nat) ({ cls := "PeerSearchModel", name := "send", desc := "(II)V" } : Jvm.MethodName)) ∈ lw_all := lw_g (lw_at lw_m11 152 rfl) rfl
theorem q2725 : (Jvm.Cond.privateMethod ({ cls := "PeerSearchModel", name := "send", desc := "(II)V" } : Jvm.MethodName)) ∈ lw_tbl := lw_at lw_m11 153 rfl
theorem q2726 : (Jvm.Cond.instanceMethod ({ cls := "PeerSearchModel", name := "send", desc := "(II)V" } : Jvm.MethodName)) ∈ lw_all := lw_g (lw_at lw_m11 154 rfl) rfl
theorem q2727 : (Jvm.Cond.code ({ cls := "PeerSearchModel", name := "send", desc := "(II)V" } : Jvm.MethodName) prog_32_method_33_code (3 : Nat) (Option.none : Option Jvm.ClassFile.FieldType)) ∈ lw_all := lw_g (lw_at lw_m11 155 rfl) rfl
theorem q2728 : (Jvm.Cond.methodLink "PeerSearchModel" (473 : Nat) ({ cls := "PeerSearchModel", name := "sideOf", desc := "(I)I" } : Jvm.MethodName)) ∈ lw_all := lw_g (lw_at lw_m11 156 rfl) rfl
theorem q2729 : (Jvm.Cond.privateMethod ({ cls := "PeerSearchModel", name := "sideOf", desc := "(I)I" } : Jvm.MethodName)) ∈ lw_tbl := lw_at lw_m11 157 rfl
theorem q2730 : (Jvm.Cond.instanceMethod ({ cls := "PeerSearchModel", name := "sideOf", desc := "(I)I" } : Jvm.MethodName)) ∈ lw_all := lw_g (lw_at lw_m11 158 rfl) rfl
theorem q2731 : (Jvm.Cond.code ({ cls := "PeerSearchModel", name := "sideOf", desc := "(I)I" } : Jvm.MethodName) prog_32_method_31_code (2 : Nat) (Option.some Jvm.ClassFile.FieldType.int)) ∈ lw_all := lw_g (lw_at lw_m11 159 rfl) rfl
theorem q2732 : (Jvm.Cond.methodLink "PeerSearchModel" (479 : Nat) ({ cls := "PeerSearchModel", name := "draw", desc := "()I" } : Jvm.MethodName)) ∈ lw_all := lw_g (lw_at lw_m11 160 rfl) rfl
theorem q2733 : (Jvm.Cond.privateMethod ({ cls := "PeerSearchModel", name := "draw", desc := "()I" } : Jvm.MethodName)) ∈ lw_tbl := lw_at lw_m11 161 rfl
theorem q2734 : (Jvm.Cond.instanceMethod ({ cls := "PeerSearchModel", name := "draw", desc := "()I" } : Jvm.MethodName)) ∈ lw_all := lw_g (lw_at lw_m11 162 rfl) rfl
theorem q2735 : (Jvm.Cond.code ({ cls := "PeerSearchModel", name := "draw", desc := "()I" } : Jvm.MethodName) prog_32_method_16_code (1 : Nat) (Option.some Jvm.ClassFile.FieldType.int)) ∈ lw_all := lw_g (lw_at lw_m11 163 rfl) rfl
theorem q2736 : (Jvm.Cond.constant "PeerSearchModel" (423 : Nat) (1103515245 : Int32)) ∈ lw_all := lw_g (lw_at lw_m11 164 rfl) rfl
theorem q2737 : (Jvm.Cond.methodLink "PeerSearchModel" (486 : Nat) ({ cls := "PeerSearchModel", name := "launch", desc := "(III)V" } : Jvm.MethodName)) ∈ lw_all := lw_g (lw_at lw_m11 165 rfl) rfl
theorem q2738 : (Jvm.Cond.privateMethod ({ cls := "PeerSearchModel", name := "launch", desc := "(III)V" } : Jvm.MethodName)) ∈ lw_tbl := lw_at lw_m11 166 rfl
theorem q2739 : (Jvm.Cond.instanceMethod ({ cls := "PeerSearchModel", name := "launch", desc := "(III)V" } : Jvm.MethodName)) ∈ lw_all := lw_g (lw_at lw_m11 167 rfl) rfl
theorem q2740 : (Jvm.Cond.code ({ cls := "PeerSearchModel", name := "launch", desc := "(III)V" } : Jvm.MethodName) prog_32_method_32_code (6 : Nat) (Option.none : Option Jvm.ClassFile.FieldType)) ∈ lw_all := lw_g (lw_at lw_m11 168 rfl) rfl
theorem q2741 : (Jvm.Cond.methodLink "PeerSearchModel" (668 : Nat) ({ cls := "PeerSearchModel", name := "beginLookup", desc := "(I[IIZ)V" } : Jvm.MethodName)) ∈ lw_all := lw_g (lw_at lw_m11 169 rfl) rfl
theorem q2742 : (Jvm.Cond.privateMethod ({ cls := "PeerSearchModel", name := "beginLookup", desc := "(I[IIZ)V" } : Jvm.MethodName)) ∈ lw_tbl := lw_at lw_m11 170 rfl
theorem q2743 : (Jvm.Cond.instanceMethod ({ cls := "PeerSearchModel", name := "beginLookup", desc := "(I[IIZ)V" } : Jvm.MethodName)) ∈ lw_all := lw_g (lw_at lw_m11 171 rfl) rfl
theorem q2744 : (Jvm.Cond.code ({ cls := "PeerSearchModel", name := "beginLookup", desc := "(I[IIZ)V" } : Jvm.MethodName) prog_32_method_73_code (7 : Nat) (Option.none : Option Jvm.ClassFile.FieldType)) ∈ lw_all := lw_g (lw_at lw_m11 172 rfl) rfl
theorem q2745 : (Jvm.Cond.methodLink "PeerSearchModel" (621 : Nat) ({ cls := "PeerSearchModel", name := "addEntry", desc := "(I[IIII)V" } : Jvm.MethodName)) ∈ lw_all := lw_g (lw_at lw_m11 173 rfl) rfl
theorem q2746 : (Jvm.Cond.privateMethod ({ cls := "PeerSearchModel", name := "addEntry", desc := "(I[IIII)V" } : Jvm.MethodName)) ∈ lw_tbl := lw_at lw_m11 174 rfl
theorem q2747 : (Jvm.Cond.instanceMethod ({ cls := "PeerSearchModel", name := "addEntry", desc := "(I[IIII)V" } : Jvm.MethodName)) ∈ lw_all := lw_g (lw_at lw_m11 175 rfl) rfl
theorem q2748 : (Jvm.Cond.code ({ cls := "PeerSearchModel", name := "addEntry", desc := "(I[IIII)V" } : Jvm.MethodName) prog_32_method_72_code (9 : Nat) (Option.none : Option Jvm.ClassFile.FieldType)) ∈ lw_all := lw_g (lw_at lw_m11 176 rfl) rfl
theorem q2749 : (Jvm.Cond.methodLink "PeerSearchModel" (618 : Nat) ({ cls := "PeerSearchModel", name := "entryWith", desc := "(I[II)I" } : Jvm.MethodName)) ∈ lw_all := lw_g (lw_at lw_m11 177 rfl) rfl
theorem q2750 : (Jvm.Cond.privateMethod ({ cls := "PeerSearchModel", name := "entryWith", desc := "(I[II)I" } : Jvm.MethodName)) ∈ lw_tbl := lw_at lw_m11 178 rfl
theorem q2751 : (Jvm.Cond.instanceMethod ({ cls := "PeerSearchModel", name := "entryWith", desc := "(I[II)I" } : Jvm.MethodName)) ∈ lw_all := lw_g (lw_at lw_m11 179 rfl) rfl
theorem q2752 : (Jvm.Cond.code ({ cls := "PeerSearchModel", name := "entryWith", desc := "(I[II)I" } : Jvm.MethodName) prog_32_method_71_code (5 : Nat) (Option.some Jvm.ClassFile.FieldType.int)) ∈ lw_all := lw_g (lw_at lw_m11 180 rfl) rfl
theorem q2753 : (Jvm.Cond.methodLink "PeerSearchModel" (540 : Nat) ({ cls := "PeerSearchModel", name := "nearer", desc := "([II[II[II)Z" } : Jvm.MethodName)) ∈ lw_all := lw_g (lw_at lw_m11 181 rfl) rfl
theorem q2754 : (Jvm.Cond.static ({ cls := "PeerSearchModel", name := "nearer", desc := "([II[II[II)Z" } : Jvm.MethodName)) ∈ lw_all := lw_g (lw_at lw_m11 182 rfl) rfl
theorem q2755 : (Jvm.Cond.code ({ cls := "PeerSearchModel", name := "nearer", desc := "([II[II[II)Z" } : Jvm.MethodName) prog_32_method_12_code (8 : Nat) (Option.some Jvm.ClassFile.FieldType.boolean)) ∈ lw_all := lw_g (lw_at lw_m11 183 rfl) rfl
theorem q2756 : (Jvm.Cond.methodLink "PeerSearchModel" (416 : Nat) ({ cls := "PeerSearchModel", name := "order", desc := "(II)I" } : Jvm.MethodName)) ∈ lw_all := lw_g (lw_at lw_m11 184 rfl) rfl
theorem q2757 : (Jvm.Cond.static ({ cls := "PeerSearchModel", name := "order", desc := "(II)I" } : Jvm.MethodName)) ∈ lw_all := lw_g (lw_at lw_m11 185 rfl) rfl
theorem q2758 : (Jvm.Cond.code ({ cls := "PeerSearchModel", name := "order", desc := "(II)I" } : Jvm.MethodName) prog_32_method_11_code (2 : Nat) (Option.some Jvm.ClassFile.FieldType.int)) ∈ lw_all := lw_g (lw_at lw_m11 186 rfl) rfl
theorem q2759 : (Jvm.Cond.constant "PeerSearchModel" (412 : Nat) (-2147483648 : Int32)) ∈ lw_all := lw_g (lw_at lw_m11 187 rfl) rfl
theorem q2760 : (Jvm.Cond.methodLink "PeerSearchModel" (413 : Nat) ({ cls := "java/lang/Integer", name := "compare", desc := "(II)I" } : Jvm.MethodName)) ∈ lw_all := lw_g (lw_at lw_m11 188 rfl) rfl
theorem q2761 : (Jvm.Cond.methodLink "PeerSearchModel" (625 : Nat) ({ cls := "PeerSearchModel", name := "nodesFor", desc := "(I[II)V" } : Jvm.MethodName)) ∈ lw_all := lw_g (lw_at lw_m11 189 rfl) rfl
theorem q2762 : (Jvm.Cond.privateMethod ({ cls := "PeerSearchModel", name := "nodesFor", desc := "(I[II)V" } : Jvm.MethodName)) ∈ lw_tbl := lw_at lw_m11 190 rfl
theorem q2763 : (Jvm.Cond.instanceMethod ({ cls := "PeerSearchModel", name := "nodesFor", desc := "(I[II)V" } : Jvm.MethodName)) ∈ lw_all := lw_g (lw_at lw_m11 191 rfl) rfl
theorem q2764 : (Jvm.Cond.code ({ cls := "PeerSearchModel", name := "nodesFor", desc := "(I[II)V" } : Jvm.MethodName) prog_32_method_48_code (6 : Nat) (Option.none : Option Jvm.ClassFile.FieldType)) ∈ lw_all := lw_g (lw_at lw_m11 192 rfl) rfl
theorem q2765 : (Jvm.Cond.methodLink "PeerSearchModel" (726 : Nat) ({ cls := "PeerSearchModel", name := "proceed", desc := "(I)V" } : Jvm.MethodName)) ∈ lw_all := lw_g (lw_at lw_m11 193 rfl) rfl
theorem q2766 : (Jvm.Cond.privateMethod ({ cls := "PeerSearchModel", name := "proceed", desc := "(I)V" } : Jvm.MethodName)) ∈ lw_tbl := lw_at lw_m11 194 rfl
theorem q2767 : (Jvm.Cond.instanceMethod ({ cls := "PeerSearchModel", name := "proceed", desc := "(I)V" } : Jvm.MethodName)) ∈ lw_all := lw_g (lw_at lw_m11 195 rfl) rfl
theorem q2768 : (Jvm.Cond.code ({ cls := "PeerSearchModel", name := "proceed", desc := "(I)V" } : Jvm.MethodName) prog_32_method_76_code (3 : Nat) (Option.none : Option Jvm.ClassFile.FieldType)) ∈ lw_all := lw_g (lw_at lw_m11 196 rfl) rfl
theorem q2769 : (Jvm.Cond.methodLink "PeerSearchModel" (641 : Nat) ({ cls := "PeerSearchModel", name := "lookOn", desc := "(I)Z" } : Jvm.MethodName)) ∈ lw_all := lw_g (lw_at lw_m11 197 rfl) rfl
theorem q2770 : (Jvm.Cond.privateMethod ({ cls := "PeerSearchModel", name := "lookOn", desc := "(I)Z" } : Jvm.MethodName)) ∈ lw_tbl := lw_at lw_m11 198 rfl
theorem q2771 : (Jvm.Cond.instanceMethod ({ cls := "PeerSearchModel", name := "lookOn", desc := "(I)Z" } : Jvm.MethodName)) ∈ lw_all := lw_g (lw_at lw_m11 199 rfl) rfl
theorem q2772 : (Jvm.Cond.code ({ cls := "PeerSearchModel", name := "lookOn", desc := "(I)Z" } : Jvm.MethodName) prog_32_method_75_code (5 : Nat) (Option.some Jvm.ClassFile.FieldType.boolean)) ∈ lw_all := lw_g (lw_at lw_m11 200 rfl) rfl
theorem q2773 : (Jvm.Cond.methodLink "PeerSearchModel" (631 : Nat) ({ cls := "PeerSearchModel", name := "makeFront", desc := "(I)V" } : Jvm.MethodName)) ∈ lw_all := lw_g (lw_at lw_m11 201 rfl) rfl
theorem q2774 : (Jvm.Cond.privateMethod ({ cls := "PeerSearchModel", name := "makeFront", desc := "(I)V" } : Jvm.MethodName)) ∈ lw_tbl := lw_at lw_m11 202 rfl
theorem q2775 : (Jvm.Cond.instanceMethod ({ cls := "PeerSearchModel", name := "makeFront", desc := "(I)V" } : Jvm.MethodName)) ∈ lw_all := lw_g (lw_at lw_m11 203 rfl) rfl
theorem q2776 : (Jvm.Cond.code ({ cls := "PeerSearchModel", name := "makeFront", desc := "(I)V" } : Jvm.MethodName) prog_32_method_74_code (4 : Nat) (Option.none : Option Jvm.ClassFile.FieldType)) ∈ lw_all := lw_g (lw_at lw_m11 204 rfl) rfl
theorem q2777 : (Jvm.Cond.methodLink "PeerSearchModel" (634 : Nat) ({ cls := "PeerSearchModel", name := "bodyKey", desc := "([II)V" } : Jvm.MethodName)) ∈ lw_all := lw_g (lw_at lw_m11 205 rfl) rfl
theorem q2778 : (Jvm.Cond.privateMethod ({ cls := "PeerSearchModel", name := "bodyKey", desc := "([II)V" } : Jvm.MethodName)) ∈ lw_tbl := lw_at lw_m11 206 rfl
theorem q2779 : (Jvm.Cond.instanceMethod ({ cls := "PeerSearchModel", name := "bodyKey", desc := "([II)V" } : Jvm.MethodName)) ∈ lw_all := lw_g (lw_at lw_m11 207 rfl) rfl
theorem q2780 : (Jvm.Cond.code ({ cls := "PeerSearchModel", name := "bodyKey", desc := "([II)V" } : Jvm.MethodName) prog_32_method_52_code (4 : Nat) (Option.none : Option Jvm.ClassFile.FieldType)) ∈ lw_all := lw_g (lw_at lw_m11 208 rfl) rfl
theorem q2781 : (Jvm.Cond.methodLink "PeerSearchModel" (547 : Nat) ({ cls := "PeerSearchModel", name := "bodyByte", desc := "(I)V" } : Jvm.MethodName)) ∈ lw_all := lw_g (lw_at lw_m11 209 rfl) rfl
theorem q2782 : (Jvm.Cond.privateMethod ({ cls := "PeerSearchModel", name := "bodyByte", desc := "(I)V" } : Jvm.MethodName)) ∈ lw_tbl := lw_at lw_m11 210 rfl
theorem q2783 : (Jvm.Cond.instanceMethod ({ cls := "PeerSearchModel", name := "bodyByte", desc := "(I)V" } : Jvm.MethodName)) ∈ lw_all := lw_g (lw_at lw_m11 211 rfl) rfl
theorem q2784 : (Jvm.Cond.code ({ cls := "PeerSearchModel", name := "bodyByte", desc := "(I)V" } : Jvm.MethodName) prog_32_method_51_code (2 : Nat) (Option.none : Option Jvm.ClassFile.FieldType)) ∈ lw_all := lw_g (lw_at lw_m11 212 rfl) rfl
theorem q2785 : (Jvm.Cond.methodLink "PeerSearchModel" (637 : Nat) ({ cls := "PeerSearchModel", name := "askFor", desc := "(II[III)Z" } : Jvm.MethodName)) ∈ lw_all := lw_g (lw_at lw_m11 213 rfl) rfl
theorem q2786 : (Jvm.Cond.privateMethod ({ cls := "PeerSearchModel", name := "askFor", desc := "(II[III)Z" } : Jvm.MethodName)) ∈ lw_tbl := lw_at lw_m11 214 rfl
theorem q2787 : (Jvm.Cond.instanceMethod ({ cls := "PeerSearchModel", name := "askFor", desc := "(II[III)Z" } : Jvm.MethodName)) ∈ lw_all := lw_g (lw_at lw_m11 215 rfl) rfl
theorem q2788 : (Jvm.Cond.code ({ cls := "PeerSearchModel", name := "askFor", desc := "(II[III)Z" } : Jvm.MethodName) prog_32_method_70_code (6 : Nat) (Option.some Jvm.ClassFile.FieldType.boolean)) ∈ lw_all := lw_g (lw_at lw_m11 216 rfl) rfl
theorem q2789 : (Jvm.Cond.methodLink "PeerSearchModel" (644 : Nat) ({ cls := "PeerSearchModel", name := "behindLookup", desc := "(I)V" } : Jvm.MethodName)) ∈ lw_all := lw_g (lw_at lw_m11 217 rfl) rfl
theorem q2790 : (Jvm.Cond.privateMethod ({ cls := "PeerSearchModel", name := "behindLookup", desc := "(I)V" } : Jvm.MethodName)) ∈ lw_tbl := lw_at lw_m11 218 rfl
theorem q2791 : (Jvm.Cond.instanceMethod ({ cls := "PeerSearchModel", name := "behindLookup", desc := "(I)V" } : Jvm.MethodName)) ∈ lw_all := lw_g (lw_at lw_m11 219 rfl) rfl
theorem q2792 : (Jvm.Cond.code ({ cls := "PeerSearchModel", name := "behindLookup", desc := "(I)V" } : Jvm.MethodName) prog_32_method_77_code (5 : Nat) (Option.none : Option Jvm.ClassFile.FieldType)) ∈ lw_all := lw_g (lw_at lw_m11 220 rfl) rfl
theorem q2793 : (Jvm.Cond.methodLink "PeerSearchModel" (653 : Nat) ({ cls := "PeerSearchModel", name := "beginRefresh", desc := "(I)V" } : Jvm.MethodName)) ∈ lw_all := lw_g (lw_at lw_m11 221 rfl) rfl
theorem q2794 : (Jvm.Cond.privateMethod ({ cls := "PeerSearchModel", name := "beginRefresh", desc := "(I)V" } : Jvm.MethodName)) ∈ lw_tbl := lw_at lw_m11 222 rfl
theorem q2795 : (Jvm.Cond.instanceMethod ({ cls := "PeerSearchModel", name := "beginRefresh", desc := "(I)V" } : Jvm.MethodName)) ∈ lw_all := lw_g (lw_at lw_m11 223 rfl) rfl
theorem q2796 : (Jvm.Cond.code ({ cls := "PeerSearchModel", name := "beginRefresh", desc := "(I)V" } : Jvm.MethodName) prog_32_method_78_code (5 : Nat) (Option.none : Option Jvm.ClassFile.FieldType)) ∈ lw_all := lw_g (lw_at lw_m11 224 rfl) rfl
theorem q2797 : (Jvm.Cond.methodLink "PeerSearchModel" (656 : Nat) ({ cls := "PeerSearchModel", name := "refreshOn", desc := "(I)V" } : Jvm.MethodName)) ∈ lw_all := lw_g (lw_at lw_m11 225 rfl) rfl
theorem q2798 : (Jvm.Cond.privateMethod ({ cls := "PeerSearchModel", name := "refreshOn", desc := "(I)V" } : Jvm.MethodName)) ∈ lw_tbl := lw_at lw_m11 226 rfl
theorem q2799 : (Jvm.Cond.instanceMethod ({ cls := "PeerSearchModel", name := "refreshOn", desc := "(I)V" } : Jvm.MethodName)) ∈ lw_all := lw_g (lw_at lw_m11 227 rfl) rfl
theorem q2800 : (Jvm.Cond.code ({ cls := "PeerSearchModel", name := "refreshOn", desc := "(I)V" } : Jvm.MethodName) prog_32_method_79_code (3 : Nat) (Option.none : Option Jvm.ClassFile.FieldType)) ∈ lw_all := lw_g (lw_at lw_m11 228 rfl) rfl
theorem q2801 : (Jvm.Cond.methodLink "PeerSearchModel" (659 : Nat) ({ cls := "PeerSearchModel", name := "close", desc := "(II)V" } : Jvm.MethodName)) ∈ lw_all := lw_g (lw_at lw_m11 229 rfl) rfl
theorem q2802 : (Jvm.Cond.privateMethod ({ cls := "PeerSearchModel", name := "close", desc := "(II)V" } : Jvm.MethodName)) ∈ lw_tbl := lw_at lw_m11 230 rfl
theorem q2803 : (Jvm.Cond.instanceMethod ({ cls := "PeerSearchModel", name := "close", desc := "(II)V" } : Jvm.MethodName)) ∈ lw_all := lw_g (lw_at lw_m11 231 rfl) rfl
theorem q2804 : (Jvm.Cond.code ({ cls := "PeerSearchModel", name := "close", desc := "(II)V" } : Jvm.MethodName) prog_32_method_69_code (3 : Nat) (Option.none : Option Jvm.ClassFile.FieldType)) ∈ lw_all := lw_g (lw_at lw_m11 232 rfl) rfl
theorem q2805 : (Jvm.Cond.methodLink "PeerSearchModel" (662 : Nat) ({ cls := "PeerSearchModel", name := "storeAll", desc := "(I)V" } : Jvm.MethodName)) ∈ lw_all := lw_g (lw_at lw_m11 233 rfl) rfl
theorem q2806 : (Jvm.Cond.privateMethod ({ cls := "PeerSearchModel", name := "storeAll", desc := "(I)V" } : Jvm.MethodName)) ∈ lw_tbl := lw_at lw_m11 234 rfl
theorem q2807 : (Jvm.Cond.instanceMethod ({ cls := "PeerSearchModel", name := "storeAll", desc := "(I)V" } : Jvm.MethodName)) ∈ lw_all := lw_g (lw_at lw_m11 235 rfl) rfl
theorem q2808 : (Jvm.Cond.code ({ cls := "PeerSearchModel", name := "storeAll", desc := "(I)V" } : Jvm.MethodName) prog_32_method_82_code (8 : Nat) (Option.none : Option Jvm.ClassFile.FieldType)) ∈ lw_all := lw_g (lw_at lw_m11 236 rfl) rfl
theorem q2809 : (Jvm.Cond.methodLink "PeerSearchModel" (678 : Nat) ({ cls := "PeerSearchModel", name := "keep", desc := "(I[II)Z" } : Jvm.MethodName)) ∈ lw_all := lw_g (lw_at lw_m11 237 rfl) rfl
theorem q2810 : (Jvm.Cond.privateMethod ({ cls := "PeerSearchModel", name := "keep", desc := "(I[II)Z" } : Jvm.MethodName)) ∈ lw_tbl := lw_at lw_m11 238 rfl
theorem q2811 : (Jvm.Cond.instanceMethod ({ cls := "PeerSearchModel", name := "keep", desc := "(I[II)Z" } : Jvm.MethodName)) ∈ lw_all := lw_g (lw_at lw_m11 239 rfl) rfl
theorem q2812 : (Jvm.Cond.code ({ cls := "PeerSearchModel", name := "keep", desc := "(I[II)Z" } : Jvm.MethodName) prog_32_method_58_code (8 : Nat) (Option.some Jvm.ClassFile.FieldType.boolean)) ∈ lw_all := lw_g (lw_at lw_m12 0 rfl) rfl
theorem q2813 : (Jvm.Cond.methodLink "PeerSearchModel" (568 : Nat) ({ cls := "PeerSearchModel", name := "postingWith", desc := "(I[IIII)I" } : Jvm.MethodName)) ∈ lw_all := lw_g (lw_at lw_m12 1 rfl) rfl
theorem q2814 : (Jvm.Cond.privateMethod ({ cls := "PeerSearchModel", name := "postingWith", desc := "(I[IIII)I" } : Jvm.MethodName)) ∈ lw_tbl := lw_at lw_m12 2 rfl
theorem q2815 : (Jvm.Cond.instanceMethod ({ cls := "PeerSearchModel", name := "postingWith", desc := "(I[IIII)I" } : Jvm.MethodName)) ∈ lw_all := lw_g (lw_at lw_m12 3 rfl) rfl
theorem q2816 : (Jvm.Cond.code ({ cls := "PeerSearchModel", name := "postingWith", desc := "(I[IIII)I" } : Jvm.MethodName) prog_32_method_55_code (7 : Nat) (Option.some Jvm.ClassFile.FieldType.int)) ∈ lw_all := lw_g (lw_at lw_m12 4 rfl) rfl
theorem q2817 : (Jvm.Cond.methodLink "PeerSearchModel" (682 : Nat) ({ cls := "PeerSearchModel", name := "stored", desc := "(IZ)V" } : Jvm.MethodName)) ∈ lw_all := lw_g (lw_at lw_m12 5 rfl) rfl
theorem q2818 : (Jvm.Cond.privateMethod ({ cls := "PeerSearchModel", name := "stored", desc := "(IZ)V" } : Jvm.MethodName)) ∈ lw_tbl := lw_at lw_m12 6 rfl
theorem q2819 : (Jvm.Cond.instanceMethod ({ cls := "PeerSearchModel", name := "stored", desc := "(IZ)V" } : Jvm.MethodName)) ∈ lw_all := lw_g (lw_at lw_m12 7 rfl) rfl
theorem q2820 : (Jvm.Cond.code ({ cls := "PeerSearchModel", name := "stored", desc := "(IZ)V" } : Jvm.MethodName) prog_32_method_83_code (3 : Nat) (Option.none : Option Jvm.ClassFile.FieldType)) ∈ lw_all := lw_g (lw_at lw_m12 8 rfl) rfl
theorem q2821 : (Jvm.Cond.methodLink "PeerSearchModel" (665 : Nat) ({ cls := "PeerSearchModel", name := "holder", desc := "(I)V" } : Jvm.MethodName)) ∈ lw_all := lw_g (lw_at lw_m12 9 rfl) rfl
theorem q2822 : (Jvm.Cond.privateMethod ({ cls := "PeerSearchModel", name := "holder", desc := "(I)V" } : Jvm.MethodName)) ∈ lw_tbl := lw_at lw_m12 10 rfl
theorem q2823 : (Jvm.Cond.instanceMethod ({ cls := "PeerSearchModel", name := "holder", desc := "(I)V" } : Jvm.MethodName)) ∈ lw_all := lw_g (lw_at lw_m12 11 rfl) rfl
theorem q2824 : (Jvm.Cond.code ({ cls := "PeerSearchModel", name := "holder", desc := "(I)V" } : Jvm.MethodName) prog_32_method_85_code (8 : Nat) (Option.none : Option Jvm.ClassFile.FieldType)) ∈ lw_all := lw_g (lw_at lw_m12 12 rfl) rfl
theorem q2825 : (Jvm.Cond.methodLink "PeerSearchModel" (686 : Nat) ({ cls := "PeerSearchModel", name := "isOwn", desc := "(I[II)Z" } : Jvm.MethodName)) ∈ lw_all := lw_g (lw_at lw_m12 13 rfl) rfl
theorem q2826 : (Jvm.Cond.privateMethod ({ cls := "PeerSearchModel", name := "isOwn", desc := "(I[II)Z" } : Jvm.MethodName)) ∈ lw_tbl := lw_at lw_m12 14 rfl
theorem q2827 : (Jvm.Cond.instanceMethod ({ cls := "PeerSearchModel", name := "isOwn", desc := "(I[II)Z" } : Jvm.MethodName)) ∈ lw_all := lw_g (lw_at lw_m12 15 rfl) rfl
theorem q2828 : (Jvm.Cond.code ({ cls := "PeerSearchModel", name := "isOwn", desc := "(I[II)Z" } : Jvm.MethodName) prog_32_method_84_code (4 : Nat) (Option.some Jvm.ClassFile.FieldType.boolean)) ∈ lw_all := lw_g (lw_at lw_m12 16 rfl) rfl
theorem q2829 : (Jvm.Cond.methodLink "PeerSearchModel" (598 : Nat) ({ cls := "PeerSearchModel", name := "choose", desc := "(I[II)V" } : Jvm.MethodName)) ∈ lw_all := lw_g (lw_at lw_m12 17 rfl) rfl
theorem q2830 : (Jvm.Cond.privateMethod ({ cls := "PeerSearchModel", name := "choose", desc := "(I[II)V" } : Jvm.MethodName)) ∈ lw_tbl := lw_at lw_m12 18 rfl
theorem q2831 : (Jvm.Cond.instanceMethod ({ cls := "PeerSearchModel", name := "choose", desc := "(I[II)V" } : Jvm.MethodName)) ∈ lw_all := lw_g (lw_at lw_m12 19 rfl) rfl
theorem q2832 : (Jvm.Cond.code ({ cls := "PeerSearchModel", name := "choose", desc := "(I[II)V" } : Jvm.MethodName) prog_32_method_57_code (6 : Nat) (Option.none : Option Jvm.ClassFile.FieldType)) ∈ lw_all := lw_g (lw_at lw_m12 20 rfl) rfl
theorem q2833 : (Jvm.Cond.methodLink "PeerSearchModel" (562 : Nat) ({ cls := "PeerSearchModel", name := "before", desc := "(II)Z" } : Jvm.MethodName)) ∈ lw_all := lw_g (lw_at lw_m12 21 rfl) rfl
theorem q2834 : (Jvm.Cond.privateMethod ({ cls := "PeerSearchModel", name := "before", desc := "(II)Z" } : Jvm.MethodName)) ∈ lw_tbl := lw_at lw_m12 22 rfl
theorem q2835 : (Jvm.Cond.instanceMethod ({ cls := "PeerSearchModel", name := "before", desc := "(II)Z" } : Jvm.MethodName)) ∈ lw_all := lw_g (lw_at lw_m12 23 rfl) rfl
theorem q2836 : (Jvm.Cond.code ({ cls := "PeerSearchModel", name := "before", desc := "(II)Z" } : Jvm.MethodName) prog_32_method_56_code (3 : Nat) (Option.some Jvm.ClassFile.FieldType.boolean)) ∈ lw_all := lw_g (lw_at lw_m12 24 rfl) rfl
theorem q2837 : (Jvm.Cond.methodLink "PeerSearchModel" (647 : Nat) ({ cls := "PeerSearchModel", name := "nextTerm", desc := "(I)V" } : Jvm.MethodName)) ∈ lw_all := lw_g (lw_at lw_m12 25 rfl) rfl
theorem q2838 : (Jvm.Cond.privateMethod ({ cls := "PeerSearchModel", name := "nextTerm", desc := "(I)V" } : Jvm.MethodName)) ∈ lw_tbl := lw_at lw_m12 26 rfl
theorem q2839 : (Jvm.Cond.instanceMethod ({ cls := "PeerSearchModel", name := "nextTerm", desc := "(I)V" } : Jvm.MethodName)) ∈ lw_all := lw_g (lw_at lw_m12 27 rfl) rfl
theorem q2840 : (Jvm.Cond.code ({ cls := "PeerSearchModel", name := "nextTerm", desc := "(I)V" } : Jvm.MethodName) prog_32_method_81_code (6 : Nat) (Option.none : Option Jvm.ClassFile.FieldType)) ∈ lw_all := lw_g (lw_at lw_m12 28 rfl) rfl
theorem q2841 : (Jvm.Cond.methodLink "PeerSearchModel" (672 : Nat) ({ cls := "PeerSearchModel", name := "lower", desc := "(II)Z" } : Jvm.MethodName)) ∈ lw_all := lw_g (lw_at lw_m12 29 rfl) rfl
theorem q2842 : (Jvm.Cond.privateMethod ({ cls := "PeerSearchModel", name := "lower", desc := "(II)Z" } : Jvm.MethodName)) ∈ lw_tbl := lw_at lw_m12 30 rfl
theorem q2843 : (Jvm.Cond.instanceMethod ({ cls := "PeerSearchModel", name := "lower", desc := "(II)Z" } : Jvm.MethodName)) ∈ lw_all := lw_g (lw_at lw_m12 31 rfl) rfl
theorem q2844 : (Jvm.Cond.code ({ cls := "PeerSearchModel", name := "lower", desc := "(II)Z" } : Jvm.MethodName) prog_32_method_30_code (6 : Nat) (Option.some Jvm.ClassFile.FieldType.boolean)) ∈ lw_all := lw_g (lw_at lw_m12 32 rfl) rfl
theorem q2845 : (Jvm.Cond.methodLink "PeerSearchModel" (675 : Nat) ({ cls := "PeerSearchModel", name := "hasTerm", desc := "(II)Z" } : Jvm.MethodName)) ∈ lw_all := lw_g (lw_at lw_m12 33 rfl) rfl
theorem q2846 : (Jvm.Cond.privateMethod ({ cls := "PeerSearchModel", name := "hasTerm", desc := "(II)Z" } : Jvm.MethodName)) ∈ lw_tbl := lw_at lw_m12 34 rfl
theorem q2847 : (Jvm.Cond.instanceMethod ({ cls := "PeerSearchModel", name := "hasTerm", desc := "(II)Z" } : Jvm.MethodName)) ∈ lw_all := lw_g (lw_at lw_m12 35 rfl) rfl
theorem q2848 : (Jvm.Cond.code ({ cls := "PeerSearchModel", name := "hasTerm", desc := "(II)Z" } : Jvm.MethodName) prog_32_method_80_code (5 : Nat) (Option.some Jvm.ClassFile.FieldType.boolean)) ∈ lw_all := lw_g (lw_at lw_m12 36 rfl) rfl
theorem q2849 : (Jvm.Cond.methodLink "PeerSearchModel" (650 : Nat) ({ cls := "PeerSearchModel", name := "queryOn", desc := "(I)Z" } : Jvm.MethodName)) ∈ lw_all := lw_g (lw_at lw_m12 37 rfl) rfl
theorem q2850 : (Jvm.Cond.privateMethod ({ cls := "PeerSearchModel", name := "queryOn", desc := "(I)Z" } : Jvm.MethodName)) ∈ lw_tbl := lw_at lw_m12 38 rfl
theorem q2851 : (Jvm.Cond.instanceMethod ({ cls := "PeerSearchModel", name := "queryOn", desc := "(I)Z" } : Jvm.MethodName)) ∈ lw_all := lw_g (lw_at lw_m12 39 rfl) rfl
theorem q2852 : (Jvm.Cond.code ({ cls := "PeerSearchModel", name := "queryOn", desc := "(I)Z" } : Jvm.MethodName) prog_32_method_86_code (8 : Nat) (Option.some Jvm.ClassFile.FieldType.boolean)) ∈ lw_all := lw_g (lw_at lw_m12 40 rfl) rfl
theorem q2853 : (Jvm.Cond.methodLink "PeerSearchModel" (689 : Nat) ({ cls := "PeerSearchModel", name := "makeFilter", desc := "()V" } : Jvm.MethodName)) ∈ lw_all := lw_g (lw_at lw_m12 41 rfl) rfl
theorem q2854 : (Jvm.Cond.privateMethod ({ cls := "PeerSearchModel", name := "makeFilter", desc := "()V" } : Jvm.MethodName)) ∈ lw_tbl := lw_at lw_m12 42 rfl
theorem q2855 : (Jvm.Cond.instanceMethod ({ cls := "PeerSearchModel", name := "makeFilter", desc := "()V" } : Jvm.MethodName)) ∈ lw_all := lw_g (lw_at lw_m12 43 rfl) rfl
theorem q2856 : (Jvm.Cond.code ({ cls := "PeerSearchModel", name := "makeFilter", desc := "()V" } : Jvm.MethodName) prog_32_method_62_code (4 : Nat) (Option.none : Option Jvm.ClassFile.FieldType)) ∈ lw_all := lw_g (lw_at lw_m12 44 rfl) rfl
theorem q2857 : (Jvm.Cond.methodLink "PeerSearchModel" (589 : Nat) ({ cls := "PeerSearchModel", name := "hashPosting", desc := "(II)V" } : Jvm.MethodName)) ∈ lw_all := lw_g (lw_at lw_m12 45 rfl) rfl
theorem q2858 : (Jvm.Cond.privateMethod ({ cls := "PeerSearchModel", name := "hashPosting", desc := "(II)V" } : Jvm.MethodName)) ∈ lw_tbl := lw_at lw_m12 46 rfl
theorem q2859 : (Jvm.Cond.instanceMethod ({ cls := "PeerSearchModel", name := "hashPosting", desc := "(II)V" } : Jvm.MethodName)) ∈ lw_all := lw_g (lw_at lw_m12 47 rfl) rfl
theorem q2860 : (Jvm.Cond.code ({ cls := "PeerSearchModel", name := "hashPosting", desc := "(II)V" } : Jvm.MethodName) prog_32_method_60_code (3 : Nat) (Option.none : Option Jvm.ClassFile.FieldType)) ∈ lw_all := lw_g (lw_at lw_m12 48 rfl) rfl
theorem q2861 : (Jvm.Cond.constantLong "PeerSearchModel" (572 : Nat) (4294967295 : Int64)) ∈ lw_all := lw_g (lw_at lw_m12 49 rfl) rfl
theorem q2862 : (Jvm.Cond.methodLink "PeerSearchModel" (592 : Nat) ({ cls := "PeerSearchModel", name := "bit", desc := "(II)I" } : Jvm.MethodName)) ∈ lw_all := lw_g (lw_at lw_m12 50 rfl) rfl
theorem q2863 : (Jvm.Cond.privateMethod ({ cls := "PeerSearchModel", name := "bit", desc := "(II)I" } : Jvm.MethodName)) ∈ lw_tbl := lw_at lw_m12 51 rfl
theorem q2864 : (Jvm.Cond.instanceMethod ({ cls := "PeerSearchModel", name := "bit", desc := "(II)I" } : Jvm.MethodName)) ∈ lw_all := lw_g (lw_at lw_m12 52 rfl) rfl
theorem q2865 : (Jvm.Cond.code ({ cls := "PeerSearchModel", name := "bit", desc := "(II)I" } : Jvm.MethodName) prog_32_method_61_code (3 : Nat) (Option.some Jvm.ClassFile.FieldType.int)) ∈ lw_all := lw_g (lw_at lw_m12 53 rfl) rfl
theorem q2866 : (Jvm.Cond.constantLong "PeerSearchModel" (581 : Nat) (8 : Int64)) ∈ lw_all := lw_g (lw_at lw_m12 54 rfl) rfl
theorem q2867 : (Jvm.Cond.methodLink "PeerSearchModel" (692 : Nat) ({ cls := "PeerSearchModel", name := "tookBits", desc := "(I)V" } : Jvm.MethodName)) ∈ lw_all := lw_g (lw_at lw_m12 55 rfl) rfl
theorem q2868 : (Jvm.Cond.privateMethod ({ cls := "PeerSearchModel", name := "tookBits", desc := "(I)V" } : Jvm.MethodName)) ∈ lw_tbl := lw_at lw_m12 56 rfl
theorem q2869 : (Jvm.Cond.instanceMethod ({ cls := "PeerSearchModel", name := "tookBits", desc := "(I)V" } : Jvm.MethodName)) ∈ lw_all := lw_g (lw_at lw_m12 57 rfl) rfl
theorem q2870 : (Jvm.Cond.code ({ cls := "PeerSearchModel", name := "tookBits", desc := "(I)V" } : Jvm.MethodName) prog_32_method_87_code (3 : Nat) (Option.none : Option Jvm.ClassFile.FieldType)) ∈ lw_all := lw_g (lw_at lw_m12 58 rfl) rfl
theorem q2871 : (Jvm.Cond.methodLink "PeerSearchModel" (695 : Nat) ({ cls := "PeerSearchModel", name := "findMatches", desc := "(I[III)V" } : Jvm.MethodName)) ∈ lw_all := lw_g (lw_at lw_m12 59 rfl) rfl
theorem q2872 : (Jvm.Cond.privateMethod ({ cls := "PeerSearchModel", name := "findMatches", desc := "(I[III)V" } : Jvm.MethodName)) ∈ lw_tbl := lw_at lw_m12 60 rfl
theorem q2873 : (Jvm.Cond.instanceMethod ({ cls := "PeerSearchModel", name := "findMatches", desc := "(I[III)V" } : Jvm.MethodName)) ∈ lw_all := lw_g (lw_at lw_m12 61 rfl) rfl
theorem q2874 : (Jvm.Cond.code ({ cls := "PeerSearchModel", name := "findMatches", desc := "(I[III)V" } : Jvm.MethodName) prog_32_method_65_code (7 : Nat) (Option.none : Option Jvm.ClassFile.FieldType)) ∈ lw_all := lw_g (lw_at lw_m12 62 rfl) rfl
theorem q2875 : (Jvm.Cond.methodLink "PeerSearchModel" (606 : Nat) ({ cls := "PeerSearchModel", name := "matches", desc := "(I)Z" } : Jvm.MethodName)) ∈ lw_all := lw_g (lw_at lw_m12 63 rfl) rfl
theorem q2876 : (Jvm.Cond.privateMethod ({ cls := "PeerSearchModel", name := "matches", desc := "(I)Z" } : Jvm.MethodName)) ∈ lw_tbl := lw_at lw_m12 64 rfl
theorem q2877 : (Jvm.Cond.instanceMethod ({ cls := "PeerSearchModel", name := "matches", desc := "(I)Z" } : Jvm.MethodName)) ∈ lw_all := lw_g (lw_at lw_m12 65 rfl) rfl
theorem q2878 : (Jvm.Cond.code ({ cls := "PeerSearchModel", name := "matches", desc := "(I)Z" } : Jvm.MethodName) prog_32_method_63_code (5 : Nat) (Option.some Jvm.ClassFile.FieldType.boolean)) ∈ lw_all := lw_g (lw_at lw_m12 66 rfl) rfl
theorem q2879 : (Jvm.Cond.methodLink "PeerSearchModel" (609 : Nat) ({ cls := "PeerSearchModel", name := "tell", desc := "(I)V" } : Jvm.MethodName)) ∈ lw_all := lw_g (lw_at lw_m12 67 rfl) rfl
theorem q2880 : (Jvm.Cond.privateMethod ({ cls := "PeerSearchModel", name := "tell", desc := "(I)V" } : Jvm.MethodName)) ∈ lw_tbl := lw_at lw_m12 68 rfl
theorem q2881 : (Jvm.Cond.instanceMethod ({ cls := "PeerSearchModel", name := "tell", desc := "(I)V" } : Jvm.MethodName)) ∈ lw_all := lw_g (lw_at lw_m12 69 rfl) rfl
theorem q2882 : (Jvm.Cond.code ({ cls := "PeerSearchModel", name := "tell", desc := "(I)V" } : Jvm.MethodName) prog_32_method_64_code (2 : Nat) (Option.none : Option Jvm.ClassFile.FieldType)) ∈ lw_all := lw_g (lw_at lw_m12 70 rfl) rfl
theorem q2883 : (Jvm.Cond.methodLink "PeerSearchModel" (699 : Nat) ({ cls := "PeerSearchModel", name := "tookMatches", desc := "(I)V" } : Jvm.MethodName)) ∈ lw_all := lw_g (lw_at lw_m12 71 rfl) rfl
theorem q2884 : (Jvm.Cond.privateMethod ({ cls := "PeerSearchModel", name := "tookMatches", desc := "(I)V" } : Jvm.MethodName)) ∈ lw_tbl := lw_at lw_m12 72 rfl
theorem q2885 : (Jvm.Cond.instanceMethod ({ cls := "PeerSearchModel", name := "tookMatches", desc := "(I)V" } : Jvm.MethodName)) ∈ lw_all := lw_g (lw_at lw_m12 73 rfl) rfl
theorem q2886 : (Jvm.Cond.code ({ cls := "PeerSearchModel", name := "tookMatches", desc := "(I)V" } : Jvm.MethodName) prog_32_method_88_code (5 : Nat) (Option.none : Option Jvm.ClassFile.FieldType)) ∈ lw_all := lw_g (lw_at lw_m12 74 rfl) rfl
theorem q2887 : (Jvm.Cond.methodLink "PeerSearchModel" (708 : Nat) ({ cls := "PeerSearchModel", name := "ranked", desc := "(I)V" } : Jvm.MethodName)) ∈ lw_all := lw_g (lw_at lw_m12 75 rfl) rfl
theorem q2888 : (Jvm.Cond.privateMethod ({ cls := "PeerSearchModel", name := "ranked", desc := "(I)V" } : Jvm.MethodName)) ∈ lw_tbl := lw_at lw_m12 76 rfl
theorem q2889 : (Jvm.Cond.instanceMethod ({ cls := "PeerSearchModel", name := "ranked", desc := "(I)V" } : Jvm.MethodName)) ∈ lw_all := lw_g (lw_at lw_m12 77 rfl) rfl
theorem q2890 : (Jvm.Cond.code ({ cls := "PeerSearchModel", name := "ranked", desc := "(I)V" } : Jvm.MethodName) prog_32_method_91_code (7 : Nat) (Option.none : Option Jvm.ClassFile.FieldType)) ∈ lw_all := lw_g (lw_at lw_m12 78 rfl) rfl
theorem q2891 : (Jvm.Cond.methodLink "PeerSearchModel" (711 : Nat) ({ cls := "PeerSearchModel", name := "better", desc := "(II)Z" } : Jvm.MethodName)) ∈ lw_all := lw_g (lw_at lw_m12 79 rfl) rfl
theorem q2892 : (Jvm.Cond.privateMethod ({ cls := "PeerSearchModel", name := "better", desc := "(II)Z" } : Jvm.MethodName)) ∈ lw_tbl := lw_at lw_m12 80 rfl
theorem q2893 : (Jvm.Cond.instanceMethod ({ cls := "PeerSearchModel", name := "better", desc := "(II)Z" } : Jvm.MethodName)) ∈ lw_all := lw_g (lw_at lw_m12 81 rfl) rfl
theorem q2894 : (Jvm.Cond.code ({ cls := "PeerSearchModel", name := "better", desc := "(II)Z" } : Jvm.MethodName) prog_32_method_90_code (3 : Nat) (Option.some Jvm.ClassFile.FieldType.boolean)) ∈ lw_all := lw_g (lw_at lw_m12 82 rfl) rfl
theorem q2895 : (Jvm.Cond.methodLink "PeerSearchModel" (702 : Nat) ({ cls := "PeerSearchModel", name := "findChecked", desc := "(I[II)V" } : Jvm.MethodName)) ∈ lw_all := lw_g (lw_at lw_m12 83 rfl) rfl
theorem q2896 : (Jvm.Cond.privateMethod ({ cls := "PeerSearchModel", name := "findChecked", desc := "(I[II)V" } : Jvm.MethodName)) ∈ lw_tbl := lw_at lw_m12 84 rfl
theorem q2897 : (Jvm.Cond.instanceMethod ({ cls := "PeerSearchModel", name := "findChecked", desc := "(I[II)V" } : Jvm.MethodName)) ∈ lw_all := lw_g (lw_at lw_m12 85 rfl) rfl
theorem q2898 : (Jvm.Cond.code ({ cls := "PeerSearchModel", name := "findChecked", desc := "(I[II)V" } : Jvm.MethodName) prog_32_method_66_code (6 : Nat) (Option.none : Option Jvm.ClassFile.FieldType)) ∈ lw_all := lw_g (lw_at lw_m12 86 rfl) rfl
theorem q2899 : (Jvm.Cond.methodLink "PeerSearchModel" (705 : Nat) ({ cls := "PeerSearchModel", name := "tookChecked", desc := "(I)V" } : Jvm.MethodName)) ∈ lw_all := lw_g (lw_at lw_m12 87 rfl) rfl
theorem q2900 : (Jvm.Cond.privateMethod ({ cls := "PeerSearchModel", name := "tookChecked", desc := "(I)V" } : Jvm.MethodName)) ∈ lw_tbl := lw_at lw_m12 88 rfl
theorem q2901 : (Jvm.Cond.instanceMethod ({ cls := "PeerSearchModel", name := "tookChecked", desc := "(I)V" } : Jvm.MethodName)) ∈ lw_all := lw_g (lw_at lw_m12 89 rfl) rfl
theorem q2902 : (Jvm.Cond.code ({ cls := "PeerSearchModel", name := "tookChecked", desc := "(I)V" } : Jvm.MethodName) prog_32_method_89_code (7 : Nat) (Option.none : Option Jvm.ClassFile.FieldType)) ∈ lw_all := lw_g (lw_at lw_m12 90 rfl) rfl
theorem q2904 : (Jvm.Cond.instanceMethod ({ cls := "PeerSearchModel", name := "crash", desc := "(I)Z" } : Jvm.MethodName)) ∈ lw_all := lw_g (lw_at lw_m12 92 rfl) rfl
theorem q2905 : (Jvm.Cond.selects "PeerSearchModel" ({ cls := "PeerSearchModel", name := "crash", desc := "(I)Z" } : Jvm.MethodName) ({ cls := "PeerSearchModel", name := "crash", desc := "(I)Z" } : Jvm.MethodName)) ∈ lw_all := lw_g (lw_at lw_m12 93 rfl) rfl
theorem q2906 : (Jvm.Cond.code ({ cls := "PeerSearchModel", name := "crash", desc := "(I)Z" } : Jvm.MethodName) prog_32_method_96_code (2 : Nat) (Option.some Jvm.ClassFile.FieldType.boolean)) ∈ lw_all := lw_g (lw_at lw_m12 94 rfl) rfl
theorem q2907 : (Jvm.Cond.methodLink "PeerSearchModel" (729 : Nat) ({ cls := "PeerSearchModel", name := "lives", desc := "(I)Z" } : Jvm.MethodName)) ∈ lw_all := lw_g (lw_at lw_m12 95 rfl) rfl
theorem q2908 : (Jvm.Cond.privateMethod ({ cls := "PeerSearchModel", name := "lives", desc := "(I)Z" } : Jvm.MethodName)) ∈ lw_tbl := lw_at lw_m12 96 rfl
theorem q2909 : (Jvm.Cond.instanceMethod ({ cls := "PeerSearchModel", name := "lives", desc := "(I)Z" } : Jvm.MethodName)) ∈ lw_all := lw_g (lw_at lw_m12 97 rfl) rfl
theorem q2910 : (Jvm.Cond.code ({ cls := "PeerSearchModel", name := "lives", desc := "(I)Z" } : Jvm.MethodName) prog_32_method_18_code (2 : Nat) (Option.some Jvm.ClassFile.FieldType.boolean)) ∈ lw_all := lw_g (lw_at lw_m12 98 rfl) rfl
theorem q2911 : (Jvm.Cond.methodLink "PeerSearchModel" (732 : Nat) ({ cls := "PeerSearchModel", name := "gone", desc := "(I)V" } : Jvm.MethodName)) ∈ lw_all := lw_g (lw_at lw_m12 99 rfl) rfl
theorem q2912 : (Jvm.Cond.privateMethod ({ cls := "PeerSearchModel", name := "gone", desc := "(I)V" } : Jvm.MethodName)) ∈ lw_tbl := lw_at lw_m12 100 rfl
theorem q2913 : (Jvm.Cond.instanceMethod ({ cls := "PeerSearchModel", name := "gone", desc := "(I)V" } : Jvm.MethodName)) ∈ lw_all := lw_g (lw_at lw_m12 101 rfl) rfl
theorem q2914 : (Jvm.Cond.code ({ cls := "PeerSearchModel", name := "gone", desc := "(I)V" } : Jvm.MethodName) prog_32_method_93_code (3 : Nat) (Option.none : Option Jvm.ClassFile.FieldType)) ∈ lw_all := lw_g (lw_at lw_m12 102 rfl) rfl
theorem q2916 : (Jvm.Cond.instanceMethod ({ cls := "PeerSearchModel", name := "leave", desc := "(I)Z" } : Jvm.MethodName)) ∈ lw_all := lw_g (lw_at lw_m12 104 rfl) rfl
theorem q2917 : (Jvm.Cond.selects "PeerSearchModel" ({ cls := "PeerSearchModel", name := "leave", desc := "(I)Z" } : Jvm.MethodName) ({ cls := "PeerSearchModel", name := "leave", desc := "(I)Z" } : Jvm.MethodName)) ∈ lw_all := lw_g (lw_at lw_m12 105 rfl) rfl
theorem q2918 : (Jvm.Cond.code ({ cls := "PeerSearchModel", name := "leave", desc := "(I)Z" } : Jvm.MethodName) prog_32_method_98_code (4 : Nat) (Option.some Jvm.ClassFile.FieldType.boolean)) ∈ lw_all := lw_g (lw_at lw_m12 106 rfl) rfl
theorem q2919 : (Jvm.Cond.methodLink "PeerSearchModel" (735 : Nat) ({ cls := "PeerSearchModel", name := "rowAt", desc := "(IZI)I" } : Jvm.MethodName)) ∈ lw_all := lw_g (lw_at lw_m12 107 rfl) rfl
theorem q2920 : (Jvm.Cond.privateMethod ({ cls := "PeerSearchModel", name := "rowAt", desc := "(IZI)I" } : Jvm.MethodName)) ∈ lw_tbl := lw_at lw_m12 108 rfl
theorem q2921 : (Jvm.Cond.instanceMethod ({ cls := "PeerSearchModel", name := "rowAt", desc := "(IZI)I" } : Jvm.MethodName)) ∈ lw_all := lw_g (lw_at lw_m12 109 rfl) rfl
theorem q2922 : (Jvm.Cond.code ({ cls := "PeerSearchModel", name := "rowAt", desc := "(IZI)I" } : Jvm.MethodName) prog_32_method_97_code (10 : Nat) (Option.some Jvm.ClassFile.FieldType.int)) ∈ lw_all := lw_g (lw_at lw_m12 110 rfl) rfl
theorem q2924 : (Jvm.Cond.instanceMethod ({ cls := "PeerSearchModel", name := "publish", desc := "(I)I" } : Jvm.MethodName)) ∈ lw_all := lw_g (lw_at lw_m12 112 rfl) rfl
theorem q2925 : (Jvm.Cond.selects "PeerSearchModel" ({ cls := "PeerSearchModel", name := "publish", desc := "(I)I" } : Jvm.MethodName) ({ cls := "PeerSearchModel", name := "publish", desc := "(I)I" } : Jvm.MethodName)) ∈ lw_all := lw_g (lw_at lw_m12 113 rfl) rfl
theorem q2926 : (Jvm.Cond.code ({ cls := "PeerSearchModel", name := "publish", desc := "(I)I" } : Jvm.MethodName) prog_32_method_100_code (3 : Nat) (Option.some Jvm.ClassFile.FieldType.int)) ∈ lw_all := lw_g (lw_at lw_m12 114 rfl) rfl
theorem q2927 : (Jvm.Cond.methodLink "PeerSearchModel" (739 : Nat) ({ cls := "PeerSearchModel", name := "beginPublish", desc := "(II)V" } : Jvm.MethodName)) ∈ lw_all := lw_g (lw_at lw_m12 115 rfl) rfl
theorem q2928 : (Jvm.Cond.privateMethod ({ cls := "PeerSearchModel", name := "beginPublish", desc := "(II)V" } : Jvm.MethodName)) ∈ lw_tbl := lw_at lw_m12 116 rfl
theorem q2929 : (Jvm.Cond.instanceMethod ({ cls := "PeerSearchModel", name := "beginPublish", desc := "(II)V" } : Jvm.MethodName)) ∈ lw_all := lw_g (lw_at lw_m12 117 rfl) rfl
theorem q2930 : (Jvm.Cond.code ({ cls := "PeerSearchModel", name := "beginPublish", desc := "(II)V" } : Jvm.MethodName) prog_32_method_99_code (3 : Nat) (Option.none : Option Jvm.ClassFile.FieldType)) ∈ lw_all := lw_g (lw_at lw_m12 118 rfl) rfl
theorem q2932 : (Jvm.Cond.instanceMethod ({ cls := "PeerSearchModel", name := "lookup", desc := "(I)I" } : Jvm.MethodName)) ∈ lw_all := lw_g (lw_at lw_m12 120 rfl) rfl
theorem q2933 : (Jvm.Cond.selects "PeerSearchModel" ({ cls := "PeerSearchModel", name := "lookup", desc := "(I)I" } : Jvm.MethodName) ({ cls := "PeerSearchModel", name := "lookup", desc := "(I)I" } : Jvm.MethodName)) ∈ lw_all := lw_g (lw_at lw_m12 121 rfl) rfl
theorem q2934 : (Jvm.Cond.code ({ cls := "PeerSearchModel", name := "lookup", desc := "(I)I" } : Jvm.MethodName) prog_32_method_101_code (3 : Nat) (Option.some Jvm.ClassFile.FieldType.int)) ∈ lw_all := lw_g (lw_at lw_m12 122 rfl) rfl
theorem q2936 : (Jvm.Cond.instanceMethod ({ cls := "PeerSearchModel", name := "query", desc := "(I)I" } : Jvm.MethodName)) ∈ lw_all := lw_g (lw_at lw_m12 124 rfl) rfl
theorem q2937 : (Jvm.Cond.selects "PeerSearchModel" ({ cls := "PeerSearchModel", name := "query", desc := "(I)I" } : Jvm.MethodName) ({ cls := "PeerSearchModel", name := "query", desc := "(I)I" } : Jvm.MethodName)) ∈ lw_all := lw_g (lw_at lw_m12 125 rfl) rfl
theorem q2938 : (Jvm.Cond.code ({ cls := "PeerSearchModel", name := "query", desc := "(I)I" } : Jvm.MethodName) prog_32_method_102_code (4 : Nat) (Option.some Jvm.ClassFile.FieldType.int)) ∈ lw_all := lw_g (lw_at lw_m12 126 rfl) rfl
theorem q2940 : (Jvm.Cond.instanceMethod ({ cls := "PeerSearchModel", name := "forge", desc := "(II)Z" } : Jvm.MethodName)) ∈ lw_all := lw_g (lw_at lw_m12 128 rfl) rfl
theorem q2941 : (Jvm.Cond.selects "PeerSearchModel" ({ cls := "PeerSearchModel", name := "forge", desc := "(II)Z" } : Jvm.MethodName) ({ cls := "PeerSearchModel", name := "forge", desc := "(II)Z" } : Jvm.MethodName)) ∈ lw_all := lw_g (lw_at lw_m12 129 rfl) rfl
theorem q2942 : (Jvm.Cond.code ({ cls := "PeerSearchModel", name := "forge", desc := "(II)Z" } : Jvm.MethodName) prog_32_method_103_code (5 : Nat) (Option.some Jvm.ClassFile.FieldType.boolean)) ∈ lw_all := lw_g (lw_at lw_m12 130 rfl) rfl
theorem q2944 : (Jvm.Cond.instanceMethod ({ cls := "PeerSearchModel", name := "run", desc := "(I)I" } : Jvm.MethodName)) ∈ lw_all := lw_g (lw_at lw_m12 132 rfl) rfl
theorem q2945 : (Jvm.Cond.selects "PeerSearchModel" ({ cls := "PeerSearchModel", name := "run", desc := "(I)I" } : Jvm.MethodName) ({ cls := "PeerSearchModel", name := "run", desc := "(I)I" } : Jvm.MethodName)) ∈ lw_all := lw_g (lw_at lw_m12 133 rfl) rfl
theorem q2946 : (Jvm.Cond.code ({ cls := "PeerSearchModel", name := "run", desc := "(I)I" } : Jvm.MethodName) prog_32_method_126_code (3 : Nat) (Option.some Jvm.ClassFile.FieldType.int)) ∈ lw_all := lw_g (lw_at lw_m12 134 rfl) rfl
theorem q2947 : (Jvm.Cond.methodLink "PeerSearchModel" (825 : Nat) ({ cls := "PeerSearchModel", name := "tick", desc := "()V" } : Jvm.MethodName)) ∈ lw_all := lw_g (lw_at lw_m12 135 rfl) rfl
theorem q2948 : (Jvm.Cond.privateMethod ({ cls := "PeerSearchModel", name := "tick", desc := "()V" } : Jvm.MethodName)) ∈ lw_tbl := lw_at lw_m12 136 rfl
theorem q2949 : (Jvm.Cond.instanceMethod ({ cls := "PeerSearchModel", name := "tick", desc := "()V" } : Jvm.MethodName)) ∈ lw_all := lw_g (lw_at lw_m12 137 rfl) rfl
theorem q2950 : (Jvm.Cond.code ({ cls := "PeerSearchModel", name := "tick", desc := "()V" } : Jvm.MethodName) prog_32_method_125_code (4 : Nat) (Option.none : Option Jvm.ClassFile.FieldType)) ∈ lw_all := lw_g (lw_at lw_m12 138 rfl) rfl
theorem q2951 : (Jvm.Cond.methodLink "PeerSearchModel" (801 : Nat) ({ cls := "PeerSearchModel", name := "nextDue", desc := "()I" } : Jvm.MethodName)) ∈ lw_all := lw_g (lw_at lw_m12 139 rfl) rfl
theorem q2952 : (Jvm.Cond.privateMethod ({ cls := "PeerSearchModel", name := "nextDue", desc := "()I" } : Jvm.MethodName)) ∈ lw_tbl := lw_at lw_m12 140 rfl
theorem q2953 : (Jvm.Cond.instanceMethod ({ cls := "PeerSearchModel", name := "nextDue", desc := "()I" } : Jvm.MethodName)) ∈ lw_all := lw_g (lw_at lw_m12 141 rfl) rfl
theorem q2954 : (Jvm.Cond.code ({ cls := "PeerSearchModel", name := "nextDue", desc := "()I" } : Jvm.MethodName) prog_32_method_121_code (3 : Nat) (Option.some Jvm.ClassFile.FieldType.int)) ∈ lw_all := lw_g (lw_at lw_m12 142 rfl) rfl
theorem q2955 : (Jvm.Cond.methodLink "PeerSearchModel" (795 : Nat) ({ cls := "PeerSearchModel", name := "ahead", desc := "(II)Z" } : Jvm.MethodName)) ∈ lw_all := lw_g (lw_at lw_m12 143 rfl) rfl
theorem q2956 : (Jvm.Cond.privateMethod ({ cls := "PeerSearchModel", name := "ahead", desc := "(II)Z" } : Jvm.MethodName)) ∈ lw_tbl := lw_at lw_m12 144 rfl
theorem q2957 : (Jvm.Cond.instanceMethod ({ cls := "PeerSearchModel", name := "ahead", desc := "(II)Z" } : Jvm.MethodName)) ∈ lw_all := lw_g (lw_at lw_m12 145 rfl) rfl
theorem q2958 : (Jvm.Cond.code ({ cls := "PeerSearchModel", name := "ahead", desc := "(II)Z" } : Jvm.MethodName) prog_32_method_35_code (3 : Nat) (Option.some Jvm.ClassFile.FieldType.boolean)) ∈ lw_all := lw_g (lw_at lw_m12 146 rfl) rfl
theorem q2959 : (Jvm.Cond.methodLink "PeerSearchModel" (804 : Nat) ({ cls := "PeerSearchModel", name := "takeIn", desc := "(I)V" } : Jvm.MethodName)) ∈ lw_all := lw_g (lw_at lw_m12 147 rfl) rfl
theorem q2960 : (Jvm.Cond.privateMethod ({ cls := "PeerSearchModel", name := "takeIn", desc := "(I)V" } : Jvm.MethodName)) ∈ lw_tbl := lw_at lw_m12 148 rfl
theorem q2961 : (Jvm.Cond.instanceMethod ({ cls := "PeerSearchModel", name := "takeIn", desc := "(I)V" } : Jvm.MethodName)) ∈ lw_all := lw_g (lw_at lw_m12 149 rfl) rfl
theorem q2962 : (Jvm.Cond.code ({ cls := "PeerSearchModel", name := "takeIn", desc := "(I)V" } : Jvm.MethodName) prog_32_method_122_code (3 : Nat) (Option.none : Option Jvm.ClassFile.FieldType)) ∈ lw_all := lw_g (lw_at lw_m12 150 rfl) rfl
theorem q2963 : (Jvm.Cond.methodLink "PeerSearchModel" (807 : Nat) ({ cls := "PeerSearchModel", name := "land", desc := "(I)V" } : Jvm.MethodName)) ∈ lw_all := lw_g (lw_at lw_m12 151 rfl) rfl
theorem q2964 : (Jvm.Cond.privateMethod ({ cls := "PeerSearchModel", name := "land", desc := "(I)V" } : Jvm.MethodName)) ∈ lw_tbl := lw_at lw_m12 152 rfl
theorem q2965 : (Jvm.Cond.instanceMethod ({ cls := "PeerSearchModel", name := "land", desc := "(I)V" } : Jvm.MethodName)) ∈ lw_all := lw_g (lw_at lw_m12 153 rfl) rfl
theorem q2966 : (Jvm.Cond.code ({ cls := "PeerSearchModel", name := "land", desc := "(I)V" } : Jvm.MethodName) prog_32_method_34_code (3 : Nat) (Option.none : Option Jvm.ClassFile.FieldType)) ∈ lw_all := lw_g (lw_at lw_m12 154 rfl) rfl
theorem q2967 : (Jvm.Cond.methodLink "PeerSearchModel" (813 : Nat) ({ cls := "PeerSearchModel", name := "deliver", desc := "(II)V" } : Jvm.MethodName)) ∈ lw_all := lw_g (lw_at lw_m12 155 rfl) rfl
theorem q2968 : (Jvm.Cond.privateMethod ({ cls := "PeerSearchModel", name := "deliver", desc := "(II)V" } : Jvm.MethodName)) ∈ lw_tbl := lw_at lw_m12 156 rfl
theorem q2969 : (Jvm.Cond.instanceMethod ({ cls := "PeerSearchModel", name := "deliver", desc := "(II)V" } : Jvm.MethodName)) ∈ lw_all := lw_g (lw_at lw_m12 157 rfl) rfl
theorem q2970 : (Jvm.Cond.code ({ cls := "PeerSearchModel", name := "deliver", desc := "(II)V" } : Jvm.MethodName) prog_32_method_112_code (5 : Nat) (Option.none : Option Jvm.ClassFile.FieldType)) ∈ lw_all := lw_g (lw_at lw_m12 158 rfl) rfl
theorem q2971 : (Jvm.Cond.methodLink "PeerSearchModel" (761 : Nat) ({ cls := "PeerSearchModel", name := "wellFormed", desc := "()Z" } : Jvm.MethodName)) ∈ lw_all := lw_g (lw_at lw_m12 159 rfl) rfl
theorem q2972 : (Jvm.Cond.privateMethod ({ cls := "PeerSearchModel", name := "wellFormed", desc := "()Z" } : Jvm.MethodName)) ∈ lw_tbl := lw_at lw_m12 160 rfl
theorem q2973 : (Jvm.Cond.instanceMethod ({ cls := "PeerSearchModel", name := "wellFormed", desc := "()Z" } : Jvm.MethodName)) ∈ lw_all := lw_g (lw_at lw_m12 161 rfl) rfl
theorem q2974 : (Jvm.Cond.code ({ cls := "PeerSearchModel", name := "wellFormed", desc := "()Z" } : Jvm.MethodName) prog_32_method_109_code (2 : Nat) (Option.some Jvm.ClassFile.FieldType.boolean)) ∈ lw_all := lw_g (lw_at lw_m12 162 rfl) rfl
theorem q2975 : (Jvm.Cond.methodLink "PeerSearchModel" (745 : Nat) ({ cls := "PeerSearchModel", name := "areNodes", desc := "(II)Z" } : Jvm.MethodName)) ∈ lw_all := lw_g (lw_at lw_m12 163 rfl) rfl
theorem q2976 : (Jvm.Cond.privateMethod ({ cls := "PeerSearchModel", name := "areNodes", desc := "(II)Z" } : Jvm.MethodName)) ∈ lw_tbl := lw_at lw_m12 164 rfl
theorem q2977 : (Jvm.Cond.instanceMethod ({ cls := "PeerSearchModel", name := "areNodes", desc := "(II)Z" } : Jvm.MethodName)) ∈ lw_all := lw_g (lw_at lw_m12 165 rfl) rfl
theorem q2978 : (Jvm.Cond.code ({ cls := "PeerSearchModel", name := "areNodes", desc := "(II)Z" } : Jvm.MethodName) prog_32_method_107_code (5 : Nat) (Option.some Jvm.ClassFile.FieldType.boolean)) ∈ lw_all := lw_g (lw_at lw_m12 166 rfl) rfl
theorem q2979 : (Jvm.Cond.methodLink "PeerSearchModel" (748 : Nat) ({ cls := "PeerSearchModel", name := "areRows", desc := "(III)Z" } : Jvm.MethodName)) ∈ lw_all := lw_g (lw_at lw_m12 167 rfl) rfl
theorem q2980 : (Jvm.Cond.privateMethod ({ cls := "PeerSearchModel", name := "areRows", desc := "(III)Z" } : Jvm.MethodName)) ∈ lw_tbl := lw_at lw_m12 168 rfl
theorem q2981 : (Jvm.Cond.instanceMethod ({ cls := "PeerSearchModel", name := "areRows", desc := "(III)Z" } : Jvm.MethodName)) ∈ lw_all := lw_g (lw_at lw_m12 169 rfl) rfl
theorem q2982 : (Jvm.Cond.code ({ cls := "PeerSearchModel", name := "areRows", desc := "(III)Z" } : Jvm.MethodName) prog_32_method_106_code (7 : Nat) (Option.some Jvm.ClassFile.FieldType.boolean)) ∈ lw_all := lw_g (lw_at lw_m12 170 rfl) rfl
theorem q2983 : (Jvm.Cond.methodLink "PeerSearchModel" (752 : Nat) ({ cls := "PeerSearchModel", name := "pairAt", desc := "(I)I" } : Jvm.MethodName)) ∈ lw_all := lw_g (lw_at lw_m12 171 rfl) rfl
theorem q2984 : (Jvm.Cond.privateMethod ({ cls := "PeerSearchModel", name := "pairAt", desc := "(I)I" } : Jvm.MethodName)) ∈ lw_tbl := lw_at lw_m12 172 rfl
theorem q2985 : (Jvm.Cond.instanceMethod ({ cls := "PeerSearchModel", name := "pairAt", desc := "(I)I" } : Jvm.MethodName)) ∈ lw_all := lw_g (lw_at lw_m12 173 rfl) rfl
theorem q2986 : (Jvm.Cond.code ({ cls := "PeerSearchModel", name := "pairAt", desc := "(I)I" } : Jvm.MethodName) prog_32_method_104_code (2 : Nat) (Option.some Jvm.ClassFile.FieldType.int)) ∈ lw_all := lw_g (lw_at lw_m12 174 rfl) rfl
theorem q2987 : (Jvm.Cond.methodLink "PeerSearchModel" (755 : Nat) ({ cls := "PeerSearchModel", name := "isHashes", desc := "(I)Z" } : Jvm.MethodName)) ∈ lw_all := lw_g (lw_at lw_m12 175 rfl) rfl
theorem q2988 : (Jvm.Cond.privateMethod ({ cls := "PeerSearchModel", name := "isHashes", desc := "(I)Z" } : Jvm.MethodName)) ∈ lw_tbl := lw_at lw_m12 176 rfl
theorem q2989 : (Jvm.Cond.instanceMethod ({ cls := "PeerSearchModel", name := "isHashes", desc := "(I)Z" } : Jvm.MethodName)) ∈ lw_all := lw_g (lw_at lw_m12 177 rfl) rfl
theorem q2990 : (Jvm.Cond.code ({ cls := "PeerSearchModel", name := "isHashes", desc := "(I)Z" } : Jvm.MethodName) prog_32_method_108_code (2 : Nat) (Option.some Jvm.ClassFile.FieldType.boolean)) ∈ lw_all := lw_g (lw_at lw_m12 178 rfl) rfl
theorem q2991 : (Jvm.Cond.methodLink "PeerSearchModel" (765 : Nat) ({ cls := "PeerSearchModel", name := "keyAt", desc := "([II)V" } : Jvm.MethodName)) ∈ lw_all := lw_g (lw_at lw_m12 179 rfl) rfl
theorem q2992 : (Jvm.Cond.privateMethod ({ cls := "PeerSearchModel", name := "keyAt", desc := "([II)V" } : Jvm.MethodName)) ∈ lw_tbl := lw_at lw_m12 180 rfl
theorem q2993 : (Jvm.Cond.instanceMethod ({ cls := "PeerSearchModel", name := "keyAt", desc := "([II)V" } : Jvm.MethodName)) ∈ lw_all := lw_g (lw_at lw_m12 181 rfl) rfl
theorem q2994 : (Jvm.Cond.code ({ cls := "PeerSearchModel", name := "keyAt", desc := "([II)V" } : Jvm.MethodName) prog_32_method_105_code (5 : Nat) (Option.none : Option Jvm.ClassFile.FieldType)) ∈ lw_all := lw_g (lw_at lw_m12 182 rfl) rfl
theorem q2995 : (Jvm.Cond.methodLink "PeerSearchModel" (768 : Nat) ({ cls := "PeerSearchModel", name := "lose", desc := "(I[III)V" } : Jvm.MethodName)) ∈ lw_all := lw_g (lw_at lw_m12 183 rfl) rfl
theorem q2996 : (Jvm.Cond.privateMethod ({ cls := "PeerSearchModel", name := "lose", desc := "(I[III)V" } : Jvm.MethodName)) ∈ lw_tbl := lw_at lw_m12 184 rfl
theorem q2997 : (Jvm.Cond.instanceMethod ({ cls := "PeerSearchModel", name := "lose", desc := "(I[III)V" } : Jvm.MethodName)) ∈ lw_all := lw_g (lw_at lw_m12 185 rfl) rfl
theorem q2998 : (Jvm.Cond.code ({ cls := "PeerSearchModel", name := "lose", desc := "(I[III)V" } : Jvm.MethodName) prog_32_method_47_code (9 : Nat) (Option.none : Option Jvm.ClassFile.FieldType)) ∈ lw_all := lw_g (lw_at lw_m12 186 rfl) rfl
theorem q2999 : (Jvm.Cond.methodLink "PeerSearchModel" (771 : Nat) ({ cls := "PeerSearchModel", name := "answer", desc := "(II)V" } : Jvm.MethodName)) ∈ lw_all := lw_g (lw_at lw_m12 187 rfl) rfl
theorem q3000 : (Jvm.Cond.privateMethod ({ cls := "PeerSearchModel", name := "answer", desc := "(II)V" } : Jvm.MethodName)) ∈ lw_tbl := lw_at lw_m12 188 rfl
theorem q3001 : (Jvm.Cond.instanceMethod ({ cls := "PeerSearchModel", name := "answer", desc := "(II)V" } : Jvm.MethodName)) ∈ lw_all := lw_g (lw_at lw_m12 189 rfl) rfl
theorem q3002 : (Jvm.Cond.code ({ cls := "PeerSearchModel", name := "answer", desc := "(II)V" } : Jvm.MethodName) prog_32_method_116_code (5 : Nat) (Option.none : Option Jvm.ClassFile.FieldType)) ∈ lw_all := lw_g (lw_at lw_m12 190 rfl) rfl
theorem q3003 : (Jvm.Cond.methodLink "PeerSearchModel" (758 : Nat) ({ cls := "PeerSearchModel", name := "numberIn", desc := "()I" } : Jvm.MethodName)) ∈ lw_all := lw_g (lw_at lw_m12 191 rfl) rfl
theorem q3004 : (Jvm.Cond.privateMethod ({ cls := "PeerSearchModel", name := "numberIn", desc := "()I" } : Jvm.MethodName)) ∈ lw_tbl := lw_at lw_m12 192 rfl
theorem q3005 : (Jvm.Cond.instanceMethod ({ cls := "PeerSearchModel", name := "numberIn", desc := "()I" } : Jvm.MethodName)) ∈ lw_all := lw_g (lw_at lw_m12 193 rfl) rfl
theorem q3006 : (Jvm.Cond.code ({ cls := "PeerSearchModel", name := "numberIn", desc := "()I" } : Jvm.MethodName) prog_32_method_110_code (1 : Nat) (Option.some Jvm.ClassFile.FieldType.int)) ∈ lw_all := lw_g (lw_at lw_m12 194 rfl) rfl
theorem q3007 : (Jvm.Cond.methodLink "PeerSearchModel" (780 : Nat) ({ cls := "PeerSearchModel", name := "tellNodes", desc := "(I)V" } : Jvm.MethodName)) ∈ lw_all := lw_g (lw_at lw_m12 195 rfl) rfl
theorem q3008 : (Jvm.Cond.privateMethod ({ cls := "PeerSearchModel", name := "tellNodes", desc := "(I)V" } : Jvm.MethodName)) ∈ lw_tbl := lw_at lw_m12 196 rfl
theorem q3009 : (Jvm.Cond.instanceMethod ({ cls := "PeerSearchModel", name := "tellNodes", desc := "(I)V" } : Jvm.MethodName)) ∈ lw_all := lw_g (lw_at lw_m12 197 rfl) rfl
theorem q3010 : (Jvm.Cond.code ({ cls := "PeerSearchModel", name := "tellNodes", desc := "(I)V" } : Jvm.MethodName) prog_32_method_113_code (3 : Nat) (Option.none : Option Jvm.ClassFile.FieldType)) ∈ lw_all := lw_g (lw_at lw_m12 198 rfl) rfl
theorem q3011 : (Jvm.Cond.methodLink "PeerSearchModel" (783 : Nat) ({ cls := "PeerSearchModel", name := "pairOut", desc := "(I)V" } : Jvm.MethodName)) ∈ lw_all := lw_g (lw_at lw_m12 199 rfl) rfl
theorem q3012 : (Jvm.Cond.privateMethod ({ cls := "PeerSearchModel", name := "pairOut", desc := "(I)V" } : Jvm.MethodName)) ∈ lw_tbl := lw_at lw_m12 200 rfl
theorem q3013 : (Jvm.Cond.instanceMethod ({ cls := "PeerSearchModel", name := "pairOut", desc := "(I)V" } : Jvm.MethodName)) ∈ lw_all := lw_g (lw_at lw_m12 201 rfl) rfl
theorem q3014 : (Jvm.Cond.code ({ cls := "PeerSearchModel", name := "pairOut", desc := "(I)V" } : Jvm.MethodName) prog_32_method_115_code (2 : Nat) (Option.none : Option Jvm.ClassFile.FieldType)) ∈ lw_all := lw_g (lw_at lw_m12 202 rfl) rfl
theorem q3015 : (Jvm.Cond.methodLink "PeerSearchModel" (786 : Nat) ({ cls := "PeerSearchModel", name := "takeFilter", desc := "(I)V" } : Jvm.MethodName)) ∈ lw_all := lw_g (lw_at lw_m12 203 rfl) rfl
theorem q3016 : (Jvm.Cond.privateMethod ({ cls := "PeerSearchModel", name := "takeFilter", desc := "(I)V" } : Jvm.MethodName)) ∈ lw_tbl := lw_at lw_m12 204 rfl
theorem q3017 : (Jvm.Cond.instanceMethod ({ cls := "PeerSearchModel", name := "takeFilter", desc := "(I)V" } : Jvm.MethodName)) ∈ lw_all := lw_g (lw_at lw_m12 205 rfl) rfl
theorem q3018 : (Jvm.Cond.code ({ cls := "PeerSearchModel", name := "takeFilter", desc := "(I)V" } : Jvm.MethodName) prog_32_method_117_code (3 : Nat) (Option.none : Option Jvm.ClassFile.FieldType)) ∈ lw_all := lw_g (lw_at lw_m12 206 rfl) rfl
theorem q3019 : (Jvm.Cond.methodLink "PeerSearchModel" (789 : Nat) ({ cls := "PeerSearchModel", name := "tellPostings", desc := "()V" } : Jvm.MethodName)) ∈ lw_all := lw_g (lw_at lw_m12 207 rfl) rfl
theorem q3020 : (Jvm.Cond.privateMethod ({ cls := "PeerSearchModel", name := "tellPostings", desc := "()V" } : Jvm.MethodName)) ∈ lw_tbl := lw_at lw_m12 208 rfl
theorem q3021 : (Jvm.Cond.instanceMethod ({ cls := "PeerSearchModel", name := "tellPostings", desc := "()V" } : Jvm.MethodName)) ∈ lw_all := lw_g (lw_at lw_m12 209 rfl) rfl
theorem q3022 : (Jvm.Cond.code ({ cls := "PeerSearchModel", name := "tellPostings", desc := "()V" } : Jvm.MethodName) prog_32_method_114_code (2 : Nat) (Option.none : Option Jvm.ClassFile.FieldType)) ∈ lw_all := lw_g (lw_at lw_m12 210 rfl) rfl
theorem q3023 : (Jvm.Cond.methodLink "PeerSearchModel" (774 : Nat) ({ cls := "PeerSearchModel", name := "awaited", desc := "(II)I" } : Jvm.MethodName)) ∈ lw_all := lw_g (lw_at lw_m12 211 rfl) rfl
theorem q3024 : (Jvm.Cond.privateMethod ({ cls := "PeerSearchModel", name := "awaited", desc := "(II)I" } : Jvm.MethodName)) ∈ lw_tbl := lw_at lw_m12 212 rfl
theorem q3025 : (Jvm.Cond.instanceMethod ({ cls := "PeerSearchModel", name := "awaited", desc := "(II)I" } : Jvm.MethodName)) ∈ lw_all := lw_g (lw_at lw_m12 213 rfl) rfl
theorem q3026 : (Jvm.Cond.code ({ cls := "PeerSearchModel", name := "awaited", desc := "(II)I" } : Jvm.MethodName) prog_32_method_111_code (4 : Nat) (Option.some Jvm.ClassFile.FieldType.int)) ∈ lw_all := lw_g (lw_at lw_m12 214 rfl) rfl
theorem q3027 : (Jvm.Cond.methodLink "PeerSearchModel" (777 : Nat) ({ cls := "PeerSearchModel", name := "answered", desc := "(II)V" } : Jvm.MethodName)) ∈ lw_all := lw_g (lw_at lw_m12 215 rfl) rfl
theorem q3028 : (Jvm.Cond.privateMethod ({ cls := "PeerSearchModel", name := "answered", desc := "(II)V" } : Jvm.MethodName)) ∈ lw_tbl := lw_at lw_m12 216 rfl
theorem q3029 : (Jvm.Cond.instanceMethod ({ cls := "PeerSearchModel", name := "answered", desc := "(II)V" } : Jvm.MethodName)) ∈ lw_all := lw_g (lw_at lw_m12 217 rfl) rfl
theorem q3030 : (Jvm.Cond.code ({ cls := "PeerSearchModel", name := "answered", desc := "(II)V" } : Jvm.MethodName) prog_32_method_119_code (7 : Nat) (Option.none : Option Jvm.ClassFile.FieldType)) ∈ lw_all := lw_g (lw_at lw_m12 218 rfl) rfl
theorem q3031 : (Jvm.Cond.methodLink "PeerSearchModel" (792 : Nat) ({ cls := "PeerSearchModel", name := "takeTold", desc := "(I)V" } : Jvm.MethodName)) ∈ lw_all := lw_g (lw_at lw_m12 219 rfl) rfl
theorem q3032 : (Jvm.Cond.privateMethod ({ cls := "PeerSearchModel", name := "takeTold", desc := "(I)V" } : Jvm.MethodName)) ∈ lw_tbl := lw_at lw_m12 220 rfl
theorem q3033 : (Jvm.Cond.instanceMethod ({ cls := "PeerSearchModel", name := "takeTold", desc := "(I)V" } : Jvm.MethodName)) ∈ lw_all := lw_g (lw_at lw_m12 221 rfl) rfl
theorem q3034 : (Jvm.Cond.code ({ cls := "PeerSearchModel", name := "takeTold", desc := "(I)V" } : Jvm.MethodName) prog_32_method_118_code (3 : Nat) (Option.none : Option Jvm.ClassFile.FieldType)) ∈ lw_all := lw_g (lw_at lw_m12 222 rfl) rfl
theorem q3035 : (Jvm.Cond.methodLink "PeerSearchModel" (816 : Nat) ({ cls := "PeerSearchModel", name := "runOut", desc := "(I)V" } : Jvm.MethodName)) ∈ lw_all := lw_g (lw_at lw_m12 223 rfl) rfl
theorem q3036 : (Jvm.Cond.privateMethod ({ cls := "PeerSearchModel", name := "runOut", desc := "(I)V" } : Jvm.MethodName)) ∈ lw_tbl := lw_at lw_m12 224 rfl
theorem q3037 : (Jvm.Cond.instanceMethod ({ cls := "PeerSearchModel", name := "runOut", desc := "(I)V" } : Jvm.MethodName)) ∈ lw_all := lw_g (lw_at lw_m12 225 rfl) rfl
theorem q3038 : (Jvm.Cond.code ({ cls := "PeerSearchModel", name := "runOut", desc := "(I)V" } : Jvm.MethodName) prog_32_method_123_code (6 : Nat) (Option.none : Option Jvm.ClassFile.FieldType)) ∈ lw_all := lw_g (lw_at lw_m12 226 rfl) rfl
theorem q3039 : (Jvm.Cond.methodLink "PeerSearchModel" (798 : Nat) ({ cls := "PeerSearchModel", name := "failed", desc := "(II)V" } : Jvm.MethodName)) ∈ lw_all := lw_g (lw_at lw_m12 227 rfl) rfl
theorem q3040 : (Jvm.Cond.privateMethod ({ cls := "PeerSearchModel", name := "failed", desc := "(II)V" } : Jvm.MethodName)) ∈ lw_tbl := lw_at lw_m12 228 rfl
theorem q3041 : (Jvm.Cond.instanceMethod ({ cls := "PeerSearchModel", name := "failed", desc := "(II)V" } : Jvm.MethodName)) ∈ lw_all := lw_g (lw_at lw_m12 229 rfl) rfl
theorem q3042 : (Jvm.Cond.code ({ cls := "PeerSearchModel", name := "failed", desc := "(II)V" } : Jvm.MethodName) prog_32_method_120_code (4 : Nat) (Option.none : Option Jvm.ClassFile.FieldType)) ∈ lw_all := lw_g (lw_at lw_m12 230 rfl) rfl
theorem q3043 : (Jvm.Cond.methodLink "PeerSearchModel" (819 : Nat) ({ cls := "PeerSearchModel", name := "expire", desc := "(I)V" } : Jvm.MethodName)) ∈ lw_all := lw_g (lw_at lw_m12 231 rfl) rfl
theorem q3044 : (Jvm.Cond.privateMethod ({ cls := "PeerSearchModel", name := "expire", desc := "(I)V" } : Jvm.MethodName)) ∈ lw_tbl := lw_at lw_m12 232 rfl
theorem q3045 : (Jvm.Cond.instanceMethod ({ cls := "PeerSearchModel", name := "expire", desc := "(I)V" } : Jvm.MethodName)) ∈ lw_all := lw_g (lw_at lw_m12 233 rfl) rfl
theorem q3046 : (Jvm.Cond.code ({ cls := "PeerSearchModel", name := "expire", desc := "(I)V" } : Jvm.MethodName) prog_32_method_59_code (5 : Nat) (Option.none : Option Jvm.ClassFile.FieldType)) ∈ lw_all := lw_g (lw_at lw_m12 234 rfl) rfl
theorem q3047 : (Jvm.Cond.methodLink "PeerSearchModel" (822 : Nat) ({ cls := "PeerSearchModel", name := "background", desc := "(I)V" } : Jvm.MethodName)) ∈ lw_all := lw_g (lw_at lw_m12 235 rfl) rfl
theorem q3048 : (Jvm.Cond.privateMethod ({ cls := "PeerSearchModel", name := "background", desc := "(I)V" } : Jvm.MethodName)) ∈ lw_tbl := lw_at lw_m12 236 rfl
theorem q3049 : (Jvm.Cond.instanceMethod ({ cls := "PeerSearchModel", name := "background", desc := "(I)V" } : Jvm.MethodName)) ∈ lw_all := lw_g (lw_at lw_m12 237 rfl) rfl
theorem q3050 : (Jvm.Cond.code ({ cls := "PeerSearchModel", name := "background", desc := "(I)V" } : Jvm.MethodName) prog_32_method_124_code (4 : Nat) (Option.none : Option Jvm.ClassFile.FieldType)) ∈ lw_all := lw_g (lw_at lw_m12 238 rfl) rfl
theorem q3052 : (Jvm.Cond.instanceMethod ({ cls := "PeerSearchModel", name := "rest", desc := "(I)I" } : Jvm.MethodName)) ∈ lw_all := lw_g (lw_at lw_m13 0 rfl) rfl
theorem q3053 : (Jvm.Cond.selects "PeerSearchModel" ({ cls := "PeerSearchModel", name := "rest", desc := "(I)I" } : Jvm.MethodName) ({ cls := "PeerSearchModel", name := "rest", desc := "(I)I" } : Jvm.MethodName)) ∈ lw_all := lw_g (lw_at lw_m13 1 rfl) rfl
theorem q3054 : (Jvm.Cond.code ({ cls := "PeerSearchModel", name := "rest", desc := "(I)I" } : Jvm.MethodName) prog_32_method_128_code (3 : Nat) (Option.some Jvm.ClassFile.FieldType.int)) ∈ lw_all := lw_g (lw_at lw_m13 2 rfl) rfl
theorem q3055 : (Jvm.Cond.methodLink "PeerSearchModel" (828 : Nat) ({ cls := "PeerSearchModel", name := "going", desc := "()I" } : Jvm.MethodName)) ∈ lw_all := lw_g (lw_at lw_m13 3 rfl) rfl
theorem q3056 : (Jvm.Cond.privateMethod ({ cls := "PeerSearchModel", name := "going", desc := "()I" } : Jvm.MethodName)) ∈ lw_tbl := lw_at lw_m13 4 rfl
theorem q3057 : (Jvm.Cond.instanceMethod ({ cls := "PeerSearchModel", name := "going", desc := "()I" } : Jvm.MethodName)) ∈ lw_all := lw_g (lw_at lw_m13 5 rfl) rfl
theorem q3058 : (Jvm.Cond.code ({ cls := "PeerSearchModel", name := "going", desc := "()I" } : Jvm.MethodName) prog_32_method_127_code (3 : Nat) (Option.some Jvm.ClassFile.FieldType.int)) ∈ lw_all := lw_g (lw_at lw_m13 6 rfl) rfl
theorem q3060 : (Jvm.Cond.instanceMethod ({ cls := "PeerSearchModel", name := "task", desc := "(II)I" } : Jvm.MethodName)) ∈ lw_all := lw_g (lw_at lw_m13 8 rfl) rfl
theorem q3061 : (Jvm.Cond.selects "PeerSearchModel" ({ cls := "PeerSearchModel", name := "task", desc := "(II)I" } : Jvm.MethodName) ({ cls := "PeerSearchModel", name := "task", desc := "(II)I" } : Jvm.MethodName)) ∈ lw_all := lw_g (lw_at lw_m13 9 rfl) rfl
theorem q3062 : (Jvm.Cond.code ({ cls := "PeerSearchModel", name := "task", desc := "(II)I" } : Jvm.MethodName) prog_32_method_129_code (3 : Nat) (Option.some Jvm.ClassFile.FieldType.int)) ∈ lw_all := lw_g (lw_at lw_m13 10 rfl) rfl
theorem q3064 : (Jvm.Cond.instanceMethod ({ cls := "PeerSearchModel", name := "found", desc := "(III)I" } : Jvm.MethodName)) ∈ lw_all := lw_g (lw_at lw_m13 12 rfl) rfl
theorem q3065 : (Jvm.Cond.selects "PeerSearchModel" ({ cls := "PeerSearchModel", name := "found", desc := "(III)I" } : Jvm.MethodName) ({ cls := "PeerSearchModel", name := "found", desc := "(III)I" } : Jvm.MethodName)) ∈ lw_all := lw_g (lw_at lw_m13 13 rfl) rfl
theorem q3066 : (Jvm.Cond.code ({ cls := "PeerSearchModel", name := "found", desc := "(III)I" } : Jvm.MethodName) prog_32_method_130_code (4 : Nat) (Option.some Jvm.ClassFile.FieldType.int)) ∈ lw_all := lw_g (lw_at lw_m13 14 rfl) rfl
theorem q3068 : (Jvm.Cond.instanceMethod ({ cls := "PeerSearchModel", name := "count", desc := "(II)I" } : Jvm.MethodName)) ∈ lw_all := lw_g (lw_at lw_m13 16 rfl) rfl
theorem q3069 : (Jvm.Cond.selects "PeerSearchModel" ({ cls := "PeerSearchModel", name := "count", desc := "(II)I" } : Jvm.MethodName) ({ cls := "PeerSearchModel", name := "count", desc := "(II)I" } : Jvm.MethodName)) ∈ lw_all := lw_g (lw_at lw_m13 17 rfl) rfl
theorem q3070 : (Jvm.Cond.code ({ cls := "PeerSearchModel", name := "count", desc := "(II)I" } : Jvm.MethodName) prog_32_method_132_code (3 : Nat) (Option.some Jvm.ClassFile.FieldType.int)) ∈ lw_all := lw_g (lw_at lw_m13 18 rfl) rfl
theorem q3071 : (Jvm.Cond.methodLink "PeerSearchModel" (831 : Nat) ({ cls := "PeerSearchModel", name := "contacts", desc := "(IZ)I" } : Jvm.MethodName)) ∈ lw_all := lw_g (lw_at lw_m13 19 rfl) rfl
theorem q3072 : (Jvm.Cond.privateMethod ({ cls := "PeerSearchModel", name := "contacts", desc := "(IZ)I" } : Jvm.MethodName)) ∈ lw_tbl := lw_at lw_m13 20 rfl
theorem q3073 : (Jvm.Cond.instanceMethod ({ cls := "PeerSearchModel", name := "contacts", desc := "(IZ)I" } : Jvm.MethodName)) ∈ lw_all := lw_g (lw_at lw_m13 21 rfl) rfl
theorem q3074 : (Jvm.Cond.code ({ cls := "PeerSearchModel", name := "contacts", desc := "(IZ)I" } : Jvm.MethodName) prog_32_method_131_code (5 : Nat) (Option.some Jvm.ClassFile.FieldType.int)) ∈ lw_all := lw_g (lw_at lw_m13 22 rfl) rfl
theorem q3075 : (Jvm.Cond.methodLink "PeerSearchModel" (835 : Nat) ({ cls := "PeerSearchModel", name := "waiting", desc := "(I)I" } : Jvm.MethodName)) ∈ lw_all := lw_g (lw_at lw_m13 23 rfl) rfl
theorem q3076 : (Jvm.Cond.privateMethod ({ cls := "PeerSearchModel", name := "waiting", desc := "(I)I" } : Jvm.MethodName)) ∈ lw_tbl := lw_at lw_m13 24 rfl
theorem q3077 : (Jvm.Cond.instanceMethod ({ cls := "PeerSearchModel", name := "waiting", desc := "(I)I" } : Jvm.MethodName)) ∈ lw_all := lw_g (lw_at lw_m13 25 rfl) rfl
theorem q3078 : (Jvm.Cond.code ({ cls := "PeerSearchModel", name := "waiting", desc := "(I)I" } : Jvm.MethodName) prog_32_method_50_code (4 : Nat) (Option.some Jvm.ClassFile.FieldType.int)) ∈ lw_all := lw_g (lw_at lw_m13 26 rfl) rfl
theorem q3080 : (Jvm.Cond.instanceMethod ({ cls := "PeerSearchModel", name := "contact", desc := "(IZII)I" } : Jvm.MethodName)) ∈ lw_all := lw_g (lw_at lw_m13 28 rfl) rfl
theorem q3081 : (Jvm.Cond.selects "PeerSearchModel" ({ cls := "PeerSearchModel", name := "contact", desc := "(IZII)I" } : Jvm.MethodName) ({ cls := "PeerSearchModel", name := "contact", desc := "(IZII)I" } : Jvm.MethodName)) ∈ lw_all := lw_g (lw_at lw_m13 29 rfl) rfl
theorem q3082 : (Jvm.Cond.code ({ cls := "PeerSearchModel", name := "contact", desc := "(IZII)I" } : Jvm.MethodName) prog_32_method_133_code (6 : Nat) (Option.some Jvm.ClassFile.FieldType.int)) ∈ lw_all := lw_g (lw_at lw_m13 30 rfl) rfl
theorem q3084 : (Jvm.Cond.instanceMethod ({ cls := "PeerSearchModel", name := "posting", desc := "(III)I" } : Jvm.MethodName)) ∈ lw_all := lw_g (lw_at lw_m13 32 rfl) rfl
theorem q3085 : (Jvm.Cond.selects "PeerSearchModel" ({ cls := "PeerSearchModel", name := "posting", desc := "(III)I" } : Jvm.MethodName) ({ cls := "PeerSearchModel", name := "posting", desc := "(III)I" } : Jvm.MethodName)) ∈ lw_all := lw_g (lw_at lw_m13 33 rfl) rfl
theorem q3086 : (Jvm.Cond.code ({ cls := "PeerSearchModel", name := "posting", desc := "(III)I" } : Jvm.MethodName) prog_32_method_135_code (8 : Nat) (Option.some Jvm.ClassFile.FieldType.int)) ∈ lw_all := lw_g (lw_at lw_m13 34 rfl) rfl
theorem q3087 : (Jvm.Cond.methodLink "PeerSearchModel" (841 : Nat) ({ cls := "PeerSearchModel", name := "postBefore", desc := "(II)Z" } : Jvm.MethodName)) ∈ lw_all := lw_g (lw_at lw_m13 35 rfl) rfl
theorem q3088 : (Jvm.Cond.privateMethod ({ cls := "PeerSearchModel", name := "postBefore", desc := "(II)Z" } : Jvm.MethodName)) ∈ lw_tbl := lw_at lw_m13 36 rfl
theorem q3089 : (Jvm.Cond.instanceMethod ({ cls := "PeerSearchModel", name := "postBefore", desc := "(II)Z" } : Jvm.MethodName)) ∈ lw_all := lw_g (lw_at lw_m13 37 rfl) rfl
theorem q3090 : (Jvm.Cond.code ({ cls := "PeerSearchModel", name := "postBefore", desc := "(II)Z" } : Jvm.MethodName) prog_32_method_134_code (3 : Nat) (Option.some Jvm.ClassFile.FieldType.boolean)) ∈ lw_all := lw_g (lw_at lw_m13 38 rfl) rfl
theorem q3091 : (Jvm.Cond.methodLink "PeerSearchModel" (838 : Nat) ({ cls := "PeerSearchModel", name := "below", desc := "([II[II)Z" } : Jvm.MethodName)) ∈ lw_all := lw_g (lw_at lw_m13 39 rfl) rfl
theorem q3092 : (Jvm.Cond.static ({ cls := "PeerSearchModel", name := "below", desc := "([II[II)Z" } : Jvm.MethodName)) ∈ lw_all := lw_g (lw_at lw_m13 40 rfl) rfl
theorem q3093 : (Jvm.Cond.code ({ cls := "PeerSearchModel", name := "below", desc := "([II[II)Z" } : Jvm.MethodName) prog_32_method_14_code (6 : Nat) (Option.some Jvm.ClassFile.FieldType.boolean)) ∈ lw_all := lw_g (lw_at lw_m13 41 rfl) rfl
theorem q3095 : (Jvm.Cond.instanceMethod ({ cls := "PeerSearchModel", name := "flight", desc := "(II)I" } : Jvm.MethodName)) ∈ lw_all := lw_g (lw_at lw_m13 43 rfl) rfl
theorem q3096 : (Jvm.Cond.selects "PeerSearchModel" ({ cls := "PeerSearchModel", name := "flight", desc := "(II)I" } : Jvm.MethodName) ({ cls := "PeerSearchModel", name := "flight", desc := "(II)I" } : Jvm.MethodName)) ∈ lw_all := lw_g (lw_at lw_m13 44 rfl) rfl
theorem q3097 : (Jvm.Cond.code ({ cls := "PeerSearchModel", name := "flight", desc := "(II)I" } : Jvm.MethodName) prog_32_method_136_code (7 : Nat) (Option.some Jvm.ClassFile.FieldType.int)) ∈ lw_all := lw_g (lw_at lw_m13 45 rfl) rfl
theorem q3099 : (Jvm.Cond.instanceMethod ({ cls := "PeerSearchModel", name := "look", desc := "(I)I" } : Jvm.MethodName)) ∈ lw_all := lw_g (lw_at lw_m13 47 rfl) rfl
theorem q3100 : (Jvm.Cond.selects "PeerSearchModel" ({ cls := "PeerSearchModel", name := "look", desc := "(I)I" } : Jvm.MethodName) ({ cls := "PeerSearchModel", name := "look", desc := "(I)I" } : Jvm.MethodName)) ∈ lw_all := lw_g (lw_at lw_m13 48 rfl) rfl
theorem q3101 : (Jvm.Cond.code ({ cls := "PeerSearchModel", name := "look", desc := "(I)I" } : Jvm.MethodName) prog_32_method_137_code (4 : Nat) (Option.some Jvm.ClassFile.FieldType.int)) ∈ lw_all := lw_g (lw_at lw_m13 49 rfl) rfl
theorem q3103 : (Jvm.Cond.instanceMethod ({ cls := "PeerSearchModel", name := "stable", desc := "()Z" } : Jvm.MethodName)) ∈ lw_all := lw_g (lw_at lw_m13 51 rfl) rfl
theorem q3104 : (Jvm.Cond.selects "PeerSearchModel" ({ cls := "PeerSearchModel", name := "stable", desc := "()Z" } : Jvm.MethodName) ({ cls := "PeerSearchModel", name := "stable", desc := "()Z" } : Jvm.MethodName)) ∈ lw_all := lw_g (lw_at lw_m13 52 rfl) rfl
theorem q3105 : (Jvm.Cond.code ({ cls := "PeerSearchModel", name := "stable", desc := "()Z" } : Jvm.MethodName) prog_32_method_139_code (4 : Nat) (Option.some Jvm.ClassFile.FieldType.boolean)) ∈ lw_all := lw_g (lw_at lw_m13 53 rfl) rfl
theorem q3106 : (Jvm.Cond.methodLink "PeerSearchModel" (844 : Nat) ({ cls := "PeerSearchModel", name := "isTrue", desc := "(I)Z" } : Jvm.MethodName)) ∈ lw_all := lw_g (lw_at lw_m13 54 rfl) rfl
theorem q3107 : (Jvm.Cond.privateMethod ({ cls := "PeerSearchModel", name := "isTrue", desc := "(I)Z" } : Jvm.MethodName)) ∈ lw_tbl := lw_at lw_m13 55 rfl
theorem q3108 : (Jvm.Cond.instanceMethod ({ cls := "PeerSearchModel", name := "isTrue", desc := "(I)Z" } : Jvm.MethodName)) ∈ lw_all := lw_g (lw_at lw_m13 56 rfl) rfl
theorem q3109 : (Jvm.Cond.code ({ cls := "PeerSearchModel", name := "isTrue", desc := "(I)Z" } : Jvm.MethodName) prog_32_method_138_code (5 : Nat) (Option.some Jvm.ClassFile.FieldType.boolean)) ∈ lw_all := lw_g (lw_at lw_m13 57 rfl) rfl
theorem q3111 : (Jvm.Cond.instanceMethod ({ cls := "PeerSearchModel", name := "nearest", desc := "(I)I" } : Jvm.MethodName)) ∈ lw_all := lw_g (lw_at lw_m13 59 rfl) rfl
theorem q3112 : (Jvm.Cond.selects "PeerSearchModel" ({ cls := "PeerSearchModel", name := "nearest", desc := "(I)I" } : Jvm.MethodName) ({ cls := "PeerSearchModel", name := "nearest", desc := "(I)I" } : Jvm.MethodName)) ∈ lw_all := lw_g (lw_at lw_m13 60 rfl) rfl
theorem q3113 : (Jvm.Cond.code ({ cls := "PeerSearchModel", name := "nearest", desc := "(I)I" } : Jvm.MethodName) prog_32_method_140_code (5 : Nat) (Option.some Jvm.ClassFile.FieldType.int)) ∈ lw_all := lw_g (lw_at lw_m13 61 rfl) rfl
theorem q3115 : (Jvm.Cond.instanceMethod ({ cls := "PeerSearchModel", name := "truth", desc := "(II)I" } : Jvm.MethodName)) ∈ lw_all := lw_g (lw_at lw_m13 63 rfl) rfl
theorem q3116 : (Jvm.Cond.selects "PeerSearchModel" ({ cls := "PeerSearchModel", name := "truth", desc := "(II)I" } : Jvm.MethodName) ({ cls := "PeerSearchModel", name := "truth", desc := "(II)I" } : Jvm.MethodName)) ∈ lw_all := lw_g (lw_at lw_m13 64 rfl) rfl
theorem q3117 : (Jvm.Cond.code ({ cls := "PeerSearchModel", name := "truth", desc := "(II)I" } : Jvm.MethodName) prog_32_method_141_code (9 : Nat) (Option.some Jvm.ClassFile.FieldType.int)) ∈ lw_all := lw_g (lw_at lw_m13 65 rfl) rfl
theorem in_X16 : ∀ w ∈ wsX160, w ∈ lw_all := lw_in wsX160 [2262, 2264, 2266, 2268, 2270, 2272, 2274, 2276, 2278, 2280, 2282, 2284, 2286, 2288, 2290, 2292, 2294, 2296, 2298, 2300, 2302, 2304, 2306, 2308, 2310, 2312, 2314, 2316, 2318, 2320, 2322, 2324, 2326, 2328, 2330, 2332, 2334, 2336, 2338, 2340, 2342, 2344, 2346, 2348, 2350, 2352, 2354, 2356, 2358, 2360, 2362, 2364, 2366, 2368, 2370, 2372, 2374, 2376, 2378, 2380, 2382, 2384, 2386, 2388, 2390, 2392, 2394, 2396, 2398, 2400, 2402, 2404, 2406, 2408, 2410, 2412, 2414, 2416, 2418, 2420, 2422, 2424, 2426, 2428, 2430, 2432, 2434, 2436, 2438, 2440, 2442, 2444, 2446, 2448, 2450, 2452, 2454, 2456, 2458, 2460, 2462, 2464, 2466, 2468, 2470, 2472, 2474, 2476, 2478, 2480, 2482, 2484, 2486, 2488, 2490, 2492, 2494, 2496, 2498, 2500, 2502, 2504, 2506, 2508, 2510, 2512, 2514, 2516, 2518, 2520, 2522, 2524, 2526, 2528, 2530, 2532, 2534, 2536, 2538, 2540, 2542, 2544, 2546, 2548, 2550] (by decide +kernel) (by decide +kernel)
/-! java/lang/Integer -/
def RJ1 : String := "java/lang/Integer"
abbrev cJ1_rotateLeft : ByteArray := prog_33_method_50_code
def yJ1_rotateLeft : MethodName := ⟨RJ1, "rotateLeft", "(II)I"⟩
abbrev cJ1_numberOfLeadingZeros : ByteArray := prog_33_method_47_code
def yJ1_numberOfLeadingZeros : MethodName := ⟨RJ1, "numberOfLeadingZeros", "(I)I"⟩
abbrev cJ1_compareUnsigned : ByteArray := prog_33_method_41_code
def yJ1_compareUnsigned : MethodName := ⟨RJ1, "compareUnsigned", "(II)I"⟩
abbrev cJ1_compare : ByteArray := prog_33_method_40_code
def yJ1_compare : MethodName := ⟨RJ1, "compare", "(II)I"⟩
theorem q190 : (Jvm.Cond.initialized "java/lang/Integer") ∈ lw_all := lw_g (lw_at lw_m1 18 rfl) rfl
theorem q676 : (Jvm.Cond.static ({ cls := "java/lang/Integer", name := "rotateLeft", desc := "(II)I" } : Jvm.MethodName)) ∈ lw_all := lw_g (lw_at lw_m3 24 rfl) rfl
theorem q677 : (Jvm.Cond.code ({ cls := "java/lang/Integer", name := "rotateLeft", desc := "(II)I" } : Jvm.MethodName) prog_33_method_50_code (2 : Nat) (Option.some Jvm.ClassFile.FieldType.int)) ∈ lw_all := lw_g (lw_at lw_m3 25 rfl) rfl
theorem q702 : (Jvm.Cond.static ({ cls := "java/lang/Integer", name := "numberOfLeadingZeros", desc := "(I)I" } : Jvm.MethodName)) ∈ lw_all := lw_g (lw_at lw_m3 50 rfl) rfl
theorem q703 : (Jvm.Cond.code ({ cls := "java/lang/Integer", name := "numberOfLeadingZeros", desc := "(I)I" } : Jvm.MethodName) prog_33_method_47_code (2 : Nat) (Option.some Jvm.ClassFile.FieldType.int)) ∈ lw_all := lw_g (lw_at lw_m3 51 rfl) rfl
theorem q704 : (Jvm.Cond.constant "java/lang/Integer" (264 : Nat) (65536 : Int32)) ∈ lw_all := lw_g (lw_at lw_m3 52 rfl) rfl
theorem q1401 : (Jvm.Cond.static ({ cls := "java/lang/Integer", name := "compareUnsigned", desc := "(II)I" } : Jvm.MethodName)) ∈ lw_all := lw_g (lw_at lw_m6 29 rfl) rfl
theorem q1402 : (Jvm.Cond.code ({ cls := "java/lang/Integer", name := "compareUnsigned", desc := "(II)I" } : Jvm.MethodName) prog_33_method_41_code (2 : Nat) (Option.some Jvm.ClassFile.FieldType.int)) ∈ lw_all := lw_g (lw_at lw_m6 30 rfl) rfl
theorem q1403 : (Jvm.Cond.constant "java/lang/Integer" (127 : Nat) (-2147483648 : Int32)) ∈ lw_all := lw_g (lw_at lw_m6 31 rfl) rfl
theorem q1404 : (Jvm.Cond.methodLink "java/lang/Integer" (259 : Nat) ({ cls := "java/lang/Integer", name := "compare", desc := "(II)I" } : Jvm.MethodName)) ∈ lw_all := lw_g (lw_at lw_m6 32 rfl) rfl
theorem q1405 : (Jvm.Cond.static ({ cls := "java/lang/Integer", name := "compare", desc := "(II)I" } : Jvm.MethodName)) ∈ lw_all := lw_g (lw_at lw_m6 33 rfl) rfl
theorem q1406 : (Jvm.Cond.code ({ cls := "java/lang/Integer", name := "compare", desc := "(II)I" } : Jvm.MethodName) prog_33_method_40_code (2 : Nat) (Option.some Jvm.ClassFile.FieldType.int)) ∈ lw_all := lw_g (lw_at lw_m6 34 rfl) rfl
/-! PeerSearch$Peer -/
def RX17 : String := "PeerSearch$Peer"
def TX17 : u_T := fun k => match k with
  | 0 => ("PeerSearch$Peer", "board", "LPeerSearch$Board;", true)
  | 1 => ("PeerSearch$Peer", "number", "I", true)
  | 2 => ("PeerSearch$Peer", "key", "LPeerSearch$Key;", true)
  | 3 => ("PeerSearch$Peer", "state", "I", false)
  | 4 => ("PeerSearch$Peer", "side", "I", false)
  | 5 => ("PeerSearch$Peer", "table", "LPeerSearch$Table;", true)
  | 6 => ("PeerSearch$Peer", "store", "LPeerSearch$Store;", true)
  | 7 => ("PeerSearch$Peer", "library", "LPeerSearch$Library;", true)
  | 8 => ("PeerSearch$Peer", "waiting", "[LPeerSearch$Request;", true)
  | 9 => ("PeerSearch$Peer", "waits", "I", false)
  | 10 => ("PeerSearch$Peer", "next", "I", false)
  | 11 => ("PeerSearch$Peer", "malformed", "I", false)
  | 12 => ("PeerSearch$Peer", "strays", "I", false)
  | 13 => ("PeerSearch$Peer", "refused", "I", false)
  | 14 => ("PeerSearch$Peer", "sent", "I", false)
  | 15 => ("PeerSearch$Peer", "delivered", "I", false)
  | 16 => ("PeerSearch$Peer", "cameLive", "I", false)
  | 17 => ("PeerSearch$Peer", "published", "I", false)
  | 18 => ("PeerSearch$Peer", "refreshed", "I", false)
  | _ => ("PeerSearch$Peer", "background", "LPeerSearch$Work;", true)
def tyX17 : Nat → FieldType := fun k => match k with
  | 0 => .object "PeerSearch$Board"
  | 1 => .int
  | 2 => .object "PeerSearch$Key"
  | 3 => .int
  | 4 => .int
  | 5 => .object "PeerSearch$Table"
  | 6 => .object "PeerSearch$Store"
  | 7 => .object "PeerSearch$Library"
  | 8 => .array (.object "PeerSearch$Request")
  | 9 => .int
  | 10 => .int
  | 11 => .int
  | 12 => .int
  | 13 => .int
  | 14 => .int
  | 15 => .int
  | 16 => .int
  | 17 => .int
  | 18 => .int
  | _ => .object "PeerSearch$Work"
abbrev wsX170 : List Cond := u_ws RX17 TX17 20
theorem nmX17 : ∀ a, a < 20 → ∀ b, b < 20 → a ≠ b → (TX17 a).2.1 ≠ (TX17 b).2.1 := by decide +kernel
theorem tyX17_ok : ∀ k, k < 20 → parseFieldDescriptor (TX17 k).2.2.1 = some (tyX17 k) := by decide +kernel
abbrev cX17_init : ByteArray := prog_17_method_1_code
def yX17_init : MethodName := ⟨RX17, "<init>", "(LPeerSearch$Board;ILPeerSearch$Key;)V"⟩
abbrev cX17_live : ByteArray := prog_17_method_2_code
def yX17_live : MethodName := ⟨RX17, "live", "()V"⟩
abbrev cX17_see : ByteArray := prog_17_method_8_code
def yX17_see : MethodName := ⟨RX17, "see", "(LPeerSearch$Key;I)V"⟩
abbrev cX17_begin : ByteArray := prog_17_method_5_code
def yX17_begin : MethodName := ⟨RX17, "begin", "(I)LPeerSearch$Packet;"⟩
abbrev cX17_ask : ByteArray := prog_17_method_6_code
def yX17_ask : MethodName := ⟨RX17, "ask", "(LPeerSearch$Key;ILPeerSearch$Work;ILPeerSearch$Bucket;)Z"⟩
abbrev cX17_sendAgain : ByteArray := prog_17_method_7_code
def yX17_sendAgain : MethodName := ⟨RX17, "sendAgain", "(LPeerSearch$Request;)V"⟩
abbrev cX17_send : ByteArray := prog_17_method_4_code
def yX17_send : MethodName := ⟨RX17, "send", "(ILPeerSearch$Packet;)V"⟩
abbrev cX17_answers : ByteArray := prog_17_method_14_code
def yX17_answers : MethodName := ⟨RX17, "answers", "(LPeerSearch$Packet;LPeerSearch$Key;)Z"⟩
abbrev cX17_putNodes : ByteArray := prog_17_method_15_code
def yX17_putNodes : MethodName := ⟨RX17, "putNodes", "(LPeerSearch$Packet;LPeerSearch$Key;LPeerSearch$Key;)V"⟩
abbrev cX17_putBits : ByteArray := prog_17_method_16_code
def yX17_putBits : MethodName := ⟨RX17, "putBits", "(LPeerSearch$Packet;LPeerSearch$Key;)V"⟩
abbrev cX17_putMatches : ByteArray := prog_17_method_18_code
def yX17_putMatches : MethodName := ⟨RX17, "putMatches", "(LPeerSearch$Packet;LPeerSearch$Key;LPeerSearch$Packet;)V"⟩
abbrev cX17_putPosting : ByteArray := prog_17_method_17_code
def yX17_putPosting : MethodName := ⟨RX17, "putPosting", "(LPeerSearch$Packet;LPeerSearch$Posting;)V"⟩
abbrev cX17_putChecked : ByteArray := prog_17_method_19_code
def yX17_putChecked : MethodName := ⟨RX17, "putChecked", "(LPeerSearch$Packet;LPeerSearch$Key;LPeerSearch$Packet;)V"⟩
abbrev cX17_end : ByteArray := prog_17_method_3_code
def yX17_end : MethodName := ⟨RX17, "end", "()V"⟩
abbrev cX17_deliver : ByteArray := prog_17_method_12_code
def yX17_deliver : MethodName := ⟨RX17, "deliver", "(ILPeerSearch$Packet;)V"⟩
abbrev cX17_isAnswer : ByteArray := prog_17_method_11_code
def yX17_isAnswer : MethodName := ⟨RX17, "isAnswer", "(I)Z"⟩
abbrev cX17_takeAnswer : ByteArray := prog_17_method_13_code
def yX17_takeAnswer : MethodName := ⟨RX17, "takeAnswer", "(ILPeerSearch$Packet;LPeerSearch$Key;)V"⟩
abbrev cX17_find : ByteArray := prog_17_method_9_code
def yX17_find : MethodName := ⟨RX17, "find", "(I)I"⟩
abbrev cX17_remove : ByteArray := prog_17_method_10_code
def yX17_remove : MethodName := ⟨RX17, "remove", "(I)LPeerSearch$Request;"⟩
abbrev cX17_runOut : ByteArray := prog_17_method_20_code
def yX17_runOut : MethodName := ⟨RX17, "runOut", "()V"⟩
abbrev cX17_fail : ByteArray := prog_17_method_21_code
def yX17_fail : MethodName := ⟨RX17, "fail", "(I)V"⟩
theorem q191 : (Jvm.Cond.initialized "PeerSearch$Peer") ∈ lw_all := lw_g (lw_at lw_m1 19 rfl) rfl
theorem q272 : (Jvm.Cond.fieldLinkNest "PeerSearch$Peer" (142 : Nat) "PeerSearch$Packet" "bytes" "[B" "PeerSearch") ∈ lw_tbl := lw_at lw_m1 100 rfl
theorem q333 : (Jvm.Cond.fieldLinkNest "PeerSearch$Peer" (87 : Nat) "PeerSearch$Net" "time" "I" "PeerSearch") ∈ lw_tbl := lw_at lw_m1 161 rfl
theorem q420 : (Jvm.Cond.fieldLinkNest "PeerSearch$Peer" (55 : Nat) "PeerSearch$Board" "most" "I" "PeerSearch") ∈ lw_tbl := lw_at lw_m2 8 rfl
theorem q426 : (Jvm.Cond.fieldLinkNest "PeerSearch$Peer" (83 : Nat) "PeerSearch$Board" "net" "LPeerSearch$Net;" "PeerSearch") ∈ lw_tbl := lw_at lw_m2 14 rfl
theorem q433 : (Jvm.Cond.fieldLinkNest "PeerSearch$Peer" (60 : Nat) "PeerSearch$Board" "pool" "LPeerSearch$Pool;" "PeerSearch") ∈ lw_tbl := lw_at lw_m2 21 rfl
theorem q440 : (Jvm.Cond.fieldLinkNest "PeerSearch$Peer" (306 : Nat) "PeerSearch$Board" "best" "[LPeerSearch$Contact;" "PeerSearch") ∈ lw_tbl := lw_at lw_m2 28 rfl
theorem q442 : (Jvm.Cond.fieldLinkNest "PeerSearch$Peer" (119 : Nat) "PeerSearch$Board" "out" "LPeerSearch$Packet;" "PeerSearch") ∈ lw_tbl := lw_at lw_m2 30 rfl
theorem q446 : (Jvm.Cond.fieldLinkNest "PeerSearch$Peer" (247 : Nat) "PeerSearch$Board" "answer" "LPeerSearch$Packet;" "PeerSearch") ∈ lw_tbl := lw_at lw_m2 34 rfl
theorem q448 : (Jvm.Cond.fieldLinkNest "PeerSearch$Peer" (319 : Nat) "PeerSearch$Board" "filter" "LPeerSearch$Filter;" "PeerSearch") ∈ lw_tbl := lw_at lw_m2 36 rfl
theorem q450 : (Jvm.Cond.fieldLinkNest "PeerSearch$Peer" (266 : Nat) "PeerSearch$Board" "asked" "LPeerSearch$Key;" "PeerSearch") ∈ lw_tbl := lw_at lw_m2 38 rfl
theorem q452 : (Jvm.Cond.fieldLinkNest "PeerSearch$Peer" (222 : Nat) "PeerSearch$Board" "sender" "LPeerSearch$Key;" "PeerSearch") ∈ lw_tbl := lw_at lw_m2 40 rfl
theorem q455 : (Jvm.Cond.fieldLinkNest "PeerSearch$Peer" (273 : Nat) "PeerSearch$Board" "told" "LPeerSearch$Key;" "PeerSearch") ∈ lw_tbl := lw_at lw_m2 43 rfl
theorem q457 : (Jvm.Cond.fieldLinkNest "PeerSearch$Peer" (366 : Nat) "PeerSearch$Board" "numbers" "[I" "PeerSearch") ∈ lw_tbl := lw_at lw_m2 45 rfl
theorem q572 : (Jvm.Cond.fieldLinkNest "PeerSearch$Peer" (155 : Nat) "PeerSearch$Work" "life" "I" "PeerSearch") ∈ lw_tbl := lw_at lw_m2 160 rfl
theorem q706 : (Jvm.Cond.instantiable "PeerSearch$Peer" (20 : Nat)) ∈ lw_all := lw_g (lw_at lw_m3 54 rfl) rfl
theorem q708 : (Jvm.Cond.instanceMethod ({ cls := "PeerSearch$Peer", name := "<init>", desc := "(LPeerSearch$Board;ILPeerSearch$Key;)V" } : Jvm.MethodName)) ∈ lw_all := lw_g (lw_at lw_m3 56 rfl) rfl
theorem q709 : (Jvm.Cond.code ({ cls := "PeerSearch$Peer", name := "<init>", desc := "(LPeerSearch$Board;ILPeerSearch$Key;)V" } : Jvm.MethodName) prog_17_method_1_code (4 : Nat) (Option.none : Option Jvm.ClassFile.FieldType)) ∈ lw_all := lw_g (lw_at lw_m3 57 rfl) rfl
theorem q710 : (Jvm.Cond.methodLink "PeerSearch$Peer" (3 : Nat) ({ cls := "java/lang/Object", name := "<init>", desc := "()V" } : Jvm.MethodName)) ∈ lw_all := lw_g (lw_at lw_m3 58 rfl) rfl
theorem q711 : (Jvm.Cond.classLink "PeerSearch$Peer" (9 : Nat) "PeerSearch$Key") ∈ lw_all := lw_g (lw_at lw_m3 59 rfl) rfl
theorem q712 : (Jvm.Cond.methodLinkNest "PeerSearch$Peer" (11 : Nat) ({ cls := "PeerSearch$Key", name := "<init>", desc := "()V" } : Jvm.MethodName) "PeerSearch") ∈ lw_tbl := lw_at lw_m3 60 rfl
theorem q713 : (Jvm.Cond.classLink "PeerSearch$Peer" (18 : Nat) "PeerSearch$Store") ∈ lw_all := lw_g (lw_at lw_m3 61 rfl) rfl
theorem q715 : (Jvm.Cond.methodLinkNest "PeerSearch$Peer" (20 : Nat) ({ cls := "PeerSearch$Store", name := "<init>", desc := "()V" } : Jvm.MethodName) "PeerSearch") ∈ lw_tbl := lw_at lw_m3 63 rfl
theorem q724 : (Jvm.Cond.fieldLinkNest "PeerSearch$Peer" (327 : Nat) "PeerSearch$Store" "rows" "[LPeerSearch$Posting;" "PeerSearch") ∈ lw_tbl := lw_at lw_m3 72 rfl
theorem q736 : (Jvm.Cond.classLink "PeerSearch$Peer" (25 : Nat) "PeerSearch$Library") ∈ lw_all := lw_g (lw_at lw_m3 84 rfl) rfl
theorem q738 : (Jvm.Cond.methodLinkNest "PeerSearch$Peer" (27 : Nat) ({ cls := "PeerSearch$Library", name := "<init>", desc := "()V" } : Jvm.MethodName) "PeerSearch") ∈ lw_tbl := lw_at lw_m3 86 rfl
theorem q759 : (Jvm.Cond.classLink "PeerSearch$Peer" (32 : Nat) "PeerSearch$Request") ∈ lw_all := lw_g (lw_at lw_m3 107 rfl) rfl
theorem q761 : (Jvm.Cond.methodLink "PeerSearch$Peer" (49 : Nat) ({ cls := "PeerSearch$Key", name := "set", desc := "(LPeerSearch$Key;)V" } : Jvm.MethodName)) ∈ lw_all := lw_g (lw_at lw_m3 109 rfl) rfl
theorem q765 : (Jvm.Cond.classLink "PeerSearch$Peer" (53 : Nat) "PeerSearch$Table") ∈ lw_all := lw_g (lw_at lw_m3 113 rfl) rfl
theorem q767 : (Jvm.Cond.methodLink "PeerSearch$Peer" (64 : Nat) ({ cls := "PeerSearch$Table", name := "<init>", desc := "(LPeerSearch$Key;ILPeerSearch$Pool;)V" } : Jvm.MethodName)) ∈ lw_all := lw_g (lw_at lw_m3 115 rfl) rfl
theorem q807 : (Jvm.Cond.fieldLinkNest "PeerSearch$Peer" (194 : Nat) "PeerSearch$Row" "contacts" "[LPeerSearch$Contact;" "PeerSearch") ∈ lw_tbl := lw_at lw_m3 155 rfl
theorem q817 : (Jvm.Cond.fieldLinkNest "PeerSearch$Peer" (188 : Nat) "PeerSearch$Bucket" "row" "LPeerSearch$Row;" "PeerSearch") ∈ lw_tbl := lw_at lw_m3 165 rfl
theorem q821 : (Jvm.Cond.fieldLinkNest "PeerSearch$Peer" (208 : Nat) "PeerSearch$Bucket" "probes" "Z" "PeerSearch") ∈ lw_tbl := lw_at lw_m3 169 rfl
theorem q845 : (Jvm.Cond.classLink "PeerSearch$Peer" (71 : Nat) "PeerSearch$Work") ∈ lw_all := lw_g (lw_at lw_m3 193 rfl) rfl
theorem q846 : (Jvm.Cond.methodLink "PeerSearch$Peer" (73 : Nat) ({ cls := "PeerSearch$Work", name := "<init>", desc := "(LPeerSearch$Board;)V" } : Jvm.MethodName)) ∈ lw_all := lw_g (lw_at lw_m3 194 rfl) rfl
theorem q847 : (Jvm.Cond.fieldLink "PeerSearch$Peer" (42 : Nat) "PeerSearch$Peer" "board" "LPeerSearch$Board;") ∈ lw_all := lw_g (lw_at lw_m3 195 rfl) rfl
theorem q848 : (Jvm.Cond.fieldLink "PeerSearch$Peer" (46 : Nat) "PeerSearch$Peer" "number" "I") ∈ lw_all := lw_g (lw_at lw_m3 196 rfl) rfl
theorem q852 : (Jvm.Cond.fieldLink "PeerSearch$Peer" (12 : Nat) "PeerSearch$Peer" "key" "LPeerSearch$Key;") ∈ lw_all := lw_g (lw_at lw_m3 200 rfl) rfl
theorem q858 : (Jvm.Cond.fieldLink "PeerSearch$Peer" (80 : Nat) "PeerSearch$Peer" "state" "I") ∈ lw_all := lw_g (lw_at lw_m3 206 rfl) rfl
theorem q862 : (Jvm.Cond.fieldLink "PeerSearch$Peer" (67 : Nat) "PeerSearch$Peer" "table" "LPeerSearch$Table;") ∈ lw_all := lw_g (lw_at lw_m3 210 rfl) rfl
theorem q866 : (Jvm.Cond.fieldLink "PeerSearch$Peer" (21 : Nat) "PeerSearch$Peer" "store" "LPeerSearch$Store;") ∈ lw_all := lw_g (lw_at lw_m3 214 rfl) rfl
theorem q869 : (Jvm.Cond.fieldLink "PeerSearch$Peer" (28 : Nat) "PeerSearch$Peer" "library" "LPeerSearch$Library;") ∈ lw_all := lw_g (lw_at lw_m3 217 rfl) rfl
theorem q872 : (Jvm.Cond.fieldLink "PeerSearch$Peer" (34 : Nat) "PeerSearch$Peer" "waiting" "[LPeerSearch$Request;") ∈ lw_all := lw_g (lw_at lw_m3 220 rfl) rfl
theorem q873 : (Jvm.Cond.fieldLink "PeerSearch$Peer" (101 : Nat) "PeerSearch$Peer" "waits" "I") ∈ lw_all := lw_g (lw_at lw_m3 221 rfl) rfl
theorem q875 : (Jvm.Cond.fieldLink "PeerSearch$Peer" (38 : Nat) "PeerSearch$Peer" "next" "I") ∈ lw_all := lw_g (lw_at lw_m3 223 rfl) rfl
theorem q876 : (Jvm.Cond.fieldLink "PeerSearch$Peer" (219 : Nat) "PeerSearch$Peer" "malformed" "I") ∈ lw_all := lw_g (lw_at lw_m3 224 rfl) rfl
theorem q878 : (Jvm.Cond.fieldLink "PeerSearch$Peer" (259 : Nat) "PeerSearch$Peer" "strays" "I") ∈ lw_all := lw_g (lw_at lw_m3 226 rfl) rfl
theorem q880 : (Jvm.Cond.fieldLink "PeerSearch$Peer" (292 : Nat) "PeerSearch$Peer" "refused" "I") ∈ lw_all := lw_g (lw_at lw_m3 228 rfl) rfl
theorem q882 : (Jvm.Cond.fieldLink "PeerSearch$Peer" (108 : Nat) "PeerSearch$Peer" "sent" "I") ∈ lw_all := lw_g (lw_at lw_m3 230 rfl) rfl
theorem q884 : (Jvm.Cond.fieldLink "PeerSearch$Peer" (212 : Nat) "PeerSearch$Peer" "delivered" "I") ∈ lw_all := lw_g (lw_at lw_m3 232 rfl) rfl
theorem q886 : (Jvm.Cond.fieldLink "PeerSearch$Peer" (92 : Nat) "PeerSearch$Peer" "cameLive" "I") ∈ lw_all := lw_g (lw_at lw_m3 234 rfl) rfl
theorem q887 : (Jvm.Cond.fieldLink "PeerSearch$Peer" (95 : Nat) "PeerSearch$Peer" "published" "I") ∈ lw_all := lw_g (lw_at lw_m3 235 rfl) rfl
theorem q890 : (Jvm.Cond.fieldLink "PeerSearch$Peer" (98 : Nat) "PeerSearch$Peer" "refreshed" "I") ∈ lw_all := lw_g (lw_at lw_m3 238 rfl) rfl
theorem q892 : (Jvm.Cond.fieldLink "PeerSearch$Peer" (76 : Nat) "PeerSearch$Peer" "background" "LPeerSearch$Work;") ∈ lw_all := lw_g (lw_at lw_m4 0 rfl) rfl
theorem q894 : (Jvm.Cond.laysFinal "PeerSearch$Peer" "PeerSearch$Peer" "board" "LPeerSearch$Board;") ∈ lw_all := lw_g (lw_at lw_m4 2 rfl) rfl
theorem q895 : (Jvm.Cond.soleField "PeerSearch$Peer" "board") ∈ lw_all := lw_g (lw_at lw_m4 3 rfl) rfl
theorem q896 : (Jvm.Cond.laysFinal "PeerSearch$Peer" "PeerSearch$Peer" "number" "I") ∈ lw_all := lw_g (lw_at lw_m4 4 rfl) rfl
theorem q897 : (Jvm.Cond.soleField "PeerSearch$Peer" "number") ∈ lw_all := lw_g (lw_at lw_m4 5 rfl) rfl
theorem q898 : (Jvm.Cond.laysFinal "PeerSearch$Peer" "PeerSearch$Peer" "key" "LPeerSearch$Key;") ∈ lw_all := lw_g (lw_at lw_m4 6 rfl) rfl
theorem q899 : (Jvm.Cond.soleField "PeerSearch$Peer" "key") ∈ lw_all := lw_g (lw_at lw_m4 7 rfl) rfl
theorem q900 : (Jvm.Cond.lays "PeerSearch$Peer" "PeerSearch$Peer" "state" "I") ∈ lw_all := lw_g (lw_at lw_m4 8 rfl) rfl
theorem q901 : (Jvm.Cond.soleField "PeerSearch$Peer" "state") ∈ lw_all := lw_g (lw_at lw_m4 9 rfl) rfl
theorem q902 : (Jvm.Cond.lays "PeerSearch$Peer" "PeerSearch$Peer" "side" "I") ∈ lw_all := lw_g (lw_at lw_m4 10 rfl) rfl
theorem q903 : (Jvm.Cond.soleField "PeerSearch$Peer" "side") ∈ lw_all := lw_g (lw_at lw_m4 11 rfl) rfl
theorem q904 : (Jvm.Cond.laysFinal "PeerSearch$Peer" "PeerSearch$Peer" "table" "LPeerSearch$Table;") ∈ lw_all := lw_g (lw_at lw_m4 12 rfl) rfl
theorem q905 : (Jvm.Cond.soleField "PeerSearch$Peer" "table") ∈ lw_all := lw_g (lw_at lw_m4 13 rfl) rfl
theorem q906 : (Jvm.Cond.laysFinal "PeerSearch$Peer" "PeerSearch$Peer" "store" "LPeerSearch$Store;") ∈ lw_all := lw_g (lw_at lw_m4 14 rfl) rfl
theorem q907 : (Jvm.Cond.soleField "PeerSearch$Peer" "store") ∈ lw_all := lw_g (lw_at lw_m4 15 rfl) rfl
theorem q908 : (Jvm.Cond.laysFinal "PeerSearch$Peer" "PeerSearch$Peer" "library" "LPeerSearch$Library;") ∈ lw_all := lw_g (lw_at lw_m4 16 rfl) rfl
theorem q909 : (Jvm.Cond.soleField "PeerSearch$Peer" "library") ∈ lw_all := lw_g (lw_at lw_m4 17 rfl) rfl
theorem q910 : (Jvm.Cond.laysFinal "PeerSearch$Peer" "PeerSearch$Peer" "waiting" "[LPeerSearch$Request;") ∈ lw_all := lw_g (lw_at lw_m4 18 rfl) rfl
theorem q911 : (Jvm.Cond.soleField "PeerSearch$Peer" "waiting") ∈ lw_all := lw_g (lw_at lw_m4 19 rfl) rfl
theorem q912 : (Jvm.Cond.lays "PeerSearch$Peer" "PeerSearch$Peer" "waits" "I") ∈ lw_all := lw_g (lw_at lw_m4 20 rfl) rfl
theorem q913 : (Jvm.Cond.soleField "PeerSearch$Peer" "waits") ∈ lw_all := lw_g (lw_at lw_m4 21 rfl) rfl
theorem q914 : (Jvm.Cond.lays "PeerSearch$Peer" "PeerSearch$Peer" "next" "I") ∈ lw_all := lw_g (lw_at lw_m4 22 rfl) rfl
theorem q915 : (Jvm.Cond.soleField "PeerSearch$Peer" "next") ∈ lw_all := lw_g (lw_at lw_m4 23 rfl) rfl
theorem q916 : (Jvm.Cond.lays "PeerSearch$Peer" "PeerSearch$Peer" "malformed" "I") ∈ lw_all := lw_g (lw_at lw_m4 24 rfl) rfl
theorem q917 : (Jvm.Cond.soleField "PeerSearch$Peer" "malformed") ∈ lw_all := lw_g (lw_at lw_m4 25 rfl) rfl
theorem q918 : (Jvm.Cond.lays "PeerSearch$Peer" "PeerSearch$Peer" "strays" "I") ∈ lw_all := lw_g (lw_at lw_m4 26 rfl) rfl
theorem q919 : (Jvm.Cond.soleField "PeerSearch$Peer" "strays") ∈ lw_all := lw_g (lw_at lw_m4 27 rfl) rfl
theorem q920 : (Jvm.Cond.lays "PeerSearch$Peer" "PeerSearch$Peer" "refused" "I") ∈ lw_all := lw_g (lw_at lw_m4 28 rfl) rfl
theorem q921 : (Jvm.Cond.soleField "PeerSearch$Peer" "refused") ∈ lw_all := lw_g (lw_at lw_m4 29 rfl) rfl
theorem q922 : (Jvm.Cond.lays "PeerSearch$Peer" "PeerSearch$Peer" "sent" "I") ∈ lw_all := lw_g (lw_at lw_m4 30 rfl) rfl
theorem q923 : (Jvm.Cond.soleField "PeerSearch$Peer" "sent") ∈ lw_all := lw_g (lw_at lw_m4 31 rfl) rfl
theorem q924 : (Jvm.Cond.lays "PeerSearch$Peer" "PeerSearch$Peer" "delivered" "I") ∈ lw_all := lw_g (lw_at lw_m4 32 rfl) rfl
theorem q925 : (Jvm.Cond.soleField "PeerSearch$Peer" "delivered") ∈ lw_all := lw_g (lw_at lw_m4 33 rfl) rfl
theorem q926 : (Jvm.Cond.lays "PeerSearch$Peer" "PeerSearch$Peer" "cameLive" "I") ∈ lw_all := lw_g (lw_at lw_m4 34 rfl) rfl
theorem q927 : (Jvm.Cond.soleField "PeerSearch$Peer" "cameLive") ∈ lw_all := lw_g (lw_at lw_m4 35 rfl) rfl
theorem q928 : (Jvm.Cond.lays "PeerSearch$Peer" "PeerSearch$Peer" "published" "I") ∈ lw_all := lw_g (lw_at lw_m4 36 rfl) rfl
theorem q929 : (Jvm.Cond.soleField "PeerSearch$Peer" "published") ∈ lw_all := lw_g (lw_at lw_m4 37 rfl) rfl
theorem q930 : (Jvm.Cond.lays "PeerSearch$Peer" "PeerSearch$Peer" "refreshed" "I") ∈ lw_all := lw_g (lw_at lw_m4 38 rfl) rfl
theorem q931 : (Jvm.Cond.soleField "PeerSearch$Peer" "refreshed") ∈ lw_all := lw_g (lw_at lw_m4 39 rfl) rfl
theorem q932 : (Jvm.Cond.laysFinal "PeerSearch$Peer" "PeerSearch$Peer" "background" "LPeerSearch$Work;") ∈ lw_all := lw_g (lw_at lw_m4 40 rfl) rfl
theorem q933 : (Jvm.Cond.soleField "PeerSearch$Peer" "background") ∈ lw_all := lw_g (lw_at lw_m4 41 rfl) rfl
theorem q934 : (Jvm.Cond.superclass "PeerSearch$Peer" "java/lang/Object") ∈ lw_all := lw_g (lw_at lw_m4 42 rfl) rfl
theorem q972 : (Jvm.Cond.instanceMethod ({ cls := "PeerSearch$Peer", name := "live", desc := "()V" } : Jvm.MethodName)) ∈ lw_all := lw_g (lw_at lw_m4 80 rfl) rfl
theorem q973 : (Jvm.Cond.selects "PeerSearch$Peer" ({ cls := "PeerSearch$Peer", name := "live", desc := "()V" } : Jvm.MethodName) ({ cls := "PeerSearch$Peer", name := "live", desc := "()V" } : Jvm.MethodName)) ∈ lw_all := lw_g (lw_at lw_m4 81 rfl) rfl
theorem q974 : (Jvm.Cond.code ({ cls := "PeerSearch$Peer", name := "live", desc := "()V" } : Jvm.MethodName) prog_17_method_2_code (1 : Nat) (Option.none : Option Jvm.ClassFile.FieldType)) ∈ lw_all := lw_g (lw_at lw_m4 82 rfl) rfl
theorem q984 : (Jvm.Cond.instanceMethod ({ cls := "PeerSearch$Peer", name := "see", desc := "(LPeerSearch$Key;I)V" } : Jvm.MethodName)) ∈ lw_all := lw_g (lw_at lw_m4 92 rfl) rfl
theorem q985 : (Jvm.Cond.selects "PeerSearch$Peer" ({ cls := "PeerSearch$Peer", name := "see", desc := "(LPeerSearch$Key;I)V" } : Jvm.MethodName) ({ cls := "PeerSearch$Peer", name := "see", desc := "(LPeerSearch$Key;I)V" } : Jvm.MethodName)) ∈ lw_all := lw_g (lw_at lw_m4 93 rfl) rfl
theorem q986 : (Jvm.Cond.code ({ cls := "PeerSearch$Peer", name := "see", desc := "(LPeerSearch$Key;I)V" } : Jvm.MethodName) prog_17_method_8_code (6 : Nat) (Option.none : Option Jvm.ClassFile.FieldType)) ∈ lw_all := lw_g (lw_at lw_m4 94 rfl) rfl
theorem q987 : (Jvm.Cond.methodLink "PeerSearch$Peer" (181 : Nat) ({ cls := "PeerSearch$Table", name := "see", desc := "(LPeerSearch$Key;I)LPeerSearch$Bucket;" } : Jvm.MethodName)) ∈ lw_all := lw_g (lw_at lw_m4 95 rfl) rfl
theorem q1035 : (Jvm.Cond.fieldLinkNest "PeerSearch$Peer" (200 : Nat) "PeerSearch$Contact" "key" "LPeerSearch$Key;" "PeerSearch") ∈ lw_tbl := lw_at lw_m4 143 rfl
theorem q1040 : (Jvm.Cond.fieldLinkNest "PeerSearch$Peer" (203 : Nat) "PeerSearch$Contact" "address" "I" "PeerSearch") ∈ lw_tbl := lw_at lw_m4 148 rfl
theorem q1052 : (Jvm.Cond.methodLink "PeerSearch$Peer" (185 : Nat) ({ cls := "PeerSearch$Peer", name := "begin", desc := "(I)LPeerSearch$Packet;" } : Jvm.MethodName)) ∈ lw_all := lw_g (lw_at lw_m4 160 rfl) rfl
theorem q1053 : (Jvm.Cond.instanceMethod ({ cls := "PeerSearch$Peer", name := "begin", desc := "(I)LPeerSearch$Packet;" } : Jvm.MethodName)) ∈ lw_all := lw_g (lw_at lw_m4 161 rfl) rfl
theorem q1054 : (Jvm.Cond.selects "PeerSearch$Peer" ({ cls := "PeerSearch$Peer", name := "begin", desc := "(I)LPeerSearch$Packet;" } : Jvm.MethodName) ({ cls := "PeerSearch$Peer", name := "begin", desc := "(I)LPeerSearch$Packet;" } : Jvm.MethodName)) ∈ lw_all := lw_g (lw_at lw_m4 162 rfl) rfl
theorem q1055 : (Jvm.Cond.code ({ cls := "PeerSearch$Peer", name := "begin", desc := "(I)LPeerSearch$Packet;" } : Jvm.MethodName) prog_17_method_5_code (2 : Nat) (Option.some (Jvm.ClassFile.FieldType.object "PeerSearch$Packet"))) ∈ lw_all := lw_g (lw_at lw_m4 163 rfl) rfl
theorem q1056 : (Jvm.Cond.methodLink "PeerSearch$Peer" (123 : Nat) ({ cls := "PeerSearch$Packet", name := "begin", desc := "(IILPeerSearch$Key;)V" } : Jvm.MethodName)) ∈ lw_all := lw_g (lw_at lw_m4 164 rfl) rfl
theorem q1068 : (Jvm.Cond.methodLink "PeerSearch$Peer" (204 : Nat) ({ cls := "PeerSearch$Peer", name := "ask", desc := "(LPeerSearch$Key;ILPeerSearch$Work;ILPeerSearch$Bucket;)Z" } : Jvm.MethodName)) ∈ lw_all := lw_g (lw_at lw_m4 176 rfl) rfl
theorem q1069 : (Jvm.Cond.instanceMethod ({ cls := "PeerSearch$Peer", name := "ask", desc := "(LPeerSearch$Key;ILPeerSearch$Work;ILPeerSearch$Bucket;)Z" } : Jvm.MethodName)) ∈ lw_all := lw_g (lw_at lw_m4 177 rfl) rfl
theorem q1070 : (Jvm.Cond.selects "PeerSearch$Peer" ({ cls := "PeerSearch$Peer", name := "ask", desc := "(LPeerSearch$Key;ILPeerSearch$Work;ILPeerSearch$Bucket;)Z" } : Jvm.MethodName) ({ cls := "PeerSearch$Peer", name := "ask", desc := "(LPeerSearch$Key;ILPeerSearch$Work;ILPeerSearch$Bucket;)Z" } : Jvm.MethodName)) ∈ lw_all := lw_g (lw_at lw_m4 178 rfl) rfl
theorem q1071 : (Jvm.Cond.code ({ cls := "PeerSearch$Peer", name := "ask", desc := "(LPeerSearch$Key;ILPeerSearch$Work;ILPeerSearch$Bucket;)Z" } : Jvm.MethodName) prog_17_method_6_code (8 : Nat) (Option.some Jvm.ClassFile.FieldType.boolean)) ∈ lw_all := lw_g (lw_at lw_m4 179 rfl) rfl
theorem q1073 : (Jvm.Cond.methodLinkNest "PeerSearch$Peer" (129 : Nat) ({ cls := "PeerSearch$Request", name := "<init>", desc := "()V" } : Jvm.MethodName) "PeerSearch") ∈ lw_tbl := lw_at lw_m4 181 rfl
theorem q1081 : (Jvm.Cond.fieldLinkNest "PeerSearch$Peer" (130 : Nat) "PeerSearch$Request" "number" "I" "PeerSearch") ∈ lw_tbl := lw_at lw_m4 189 rfl
theorem q1082 : (Jvm.Cond.fieldLinkNest "PeerSearch$Peer" (132 : Nat) "PeerSearch$Request" "address" "I" "PeerSearch") ∈ lw_tbl := lw_at lw_m4 190 rfl
theorem q1083 : (Jvm.Cond.fieldLinkNest "PeerSearch$Peer" (150 : Nat) "PeerSearch$Request" "type" "I" "PeerSearch") ∈ lw_tbl := lw_at lw_m4 191 rfl
theorem q1084 : (Jvm.Cond.fieldLinkNest "PeerSearch$Peer" (175 : Nat) "PeerSearch$Request" "deadline" "I" "PeerSearch") ∈ lw_tbl := lw_at lw_m4 192 rfl
theorem q1085 : (Jvm.Cond.fieldLinkNest "PeerSearch$Peer" (166 : Nat) "PeerSearch$Request" "sent" "I" "PeerSearch") ∈ lw_tbl := lw_at lw_m4 193 rfl
theorem q1086 : (Jvm.Cond.fieldLinkNest "PeerSearch$Peer" (158 : Nat) "PeerSearch$Request" "life" "I" "PeerSearch") ∈ lw_tbl := lw_at lw_m4 194 rfl
theorem q1087 : (Jvm.Cond.fieldLinkNest "PeerSearch$Peer" (159 : Nat) "PeerSearch$Request" "tag" "I" "PeerSearch") ∈ lw_tbl := lw_at lw_m4 195 rfl
theorem q1089 : (Jvm.Cond.fieldLinkNest "PeerSearch$Peer" (131 : Nat) "PeerSearch$Request" "key" "LPeerSearch$Key;" "PeerSearch") ∈ lw_tbl := lw_at lw_m4 197 rfl
theorem q1091 : (Jvm.Cond.fieldLinkNest "PeerSearch$Peer" (135 : Nat) "PeerSearch$Request" "packet" "LPeerSearch$Packet;" "PeerSearch") ∈ lw_tbl := lw_at lw_m4 199 rfl
theorem q1092 : (Jvm.Cond.fieldLinkNest "PeerSearch$Peer" (152 : Nat) "PeerSearch$Request" "work" "LPeerSearch$Work;" "PeerSearch") ∈ lw_tbl := lw_at lw_m4 200 rfl
theorem q1093 : (Jvm.Cond.fieldLinkNest "PeerSearch$Peer" (162 : Nat) "PeerSearch$Request" "probed" "LPeerSearch$Bucket;" "PeerSearch") ∈ lw_tbl := lw_at lw_m4 201 rfl
theorem q1117 : (Jvm.Cond.methodLink "PeerSearch$Peer" (138 : Nat) ({ cls := "PeerSearch$Packet", name := "copy", desc := "(LPeerSearch$Packet;)V" } : Jvm.MethodName)) ∈ lw_all := lw_g (lw_at lw_m4 225 rfl) rfl
theorem q1124 : (Jvm.Cond.methodLink "PeerSearch$Peer" (146 : Nat) ({ cls := "PeerSearch$Packet", name := "type", desc := "()I" } : Jvm.MethodName)) ∈ lw_all := lw_g (lw_at lw_m4 232 rfl) rfl
theorem q1132 : (Jvm.Cond.methodLink "PeerSearch$Peer" (167 : Nat) ({ cls := "PeerSearch$Peer", name := "sendAgain", desc := "(LPeerSearch$Request;)V" } : Jvm.MethodName)) ∈ lw_all := lw_g (lw_at lw_m5 0 rfl) rfl
theorem q1133 : (Jvm.Cond.privateMethod ({ cls := "PeerSearch$Peer", name := "sendAgain", desc := "(LPeerSearch$Request;)V" } : Jvm.MethodName)) ∈ lw_tbl := lw_at lw_m5 1 rfl
theorem q1134 : (Jvm.Cond.instanceMethod ({ cls := "PeerSearch$Peer", name := "sendAgain", desc := "(LPeerSearch$Request;)V" } : Jvm.MethodName)) ∈ lw_all := lw_g (lw_at lw_m5 2 rfl) rfl
theorem q1135 : (Jvm.Cond.code ({ cls := "PeerSearch$Peer", name := "sendAgain", desc := "(LPeerSearch$Request;)V" } : Jvm.MethodName) prog_17_method_7_code (2 : Nat) (Option.none : Option Jvm.ClassFile.FieldType)) ∈ lw_all := lw_g (lw_at lw_m5 3 rfl) rfl
theorem q1136 : (Jvm.Cond.methodLink "PeerSearch$Peer" (171 : Nat) ({ cls := "PeerSearch$Net", name := "setting", desc := "(I)I" } : Jvm.MethodName)) ∈ lw_all := lw_g (lw_at lw_m5 4 rfl) rfl
theorem q1140 : (Jvm.Cond.methodLink "PeerSearch$Peer" (178 : Nat) ({ cls := "PeerSearch$Peer", name := "send", desc := "(ILPeerSearch$Packet;)V" } : Jvm.MethodName)) ∈ lw_all := lw_g (lw_at lw_m5 8 rfl) rfl
theorem q1141 : (Jvm.Cond.privateMethod ({ cls := "PeerSearch$Peer", name := "send", desc := "(ILPeerSearch$Packet;)V" } : Jvm.MethodName)) ∈ lw_tbl := lw_at lw_m5 9 rfl
theorem q1142 : (Jvm.Cond.instanceMethod ({ cls := "PeerSearch$Peer", name := "send", desc := "(ILPeerSearch$Packet;)V" } : Jvm.MethodName)) ∈ lw_all := lw_g (lw_at lw_m5 10 rfl) rfl
theorem q1143 : (Jvm.Cond.code ({ cls := "PeerSearch$Peer", name := "send", desc := "(ILPeerSearch$Packet;)V" } : Jvm.MethodName) prog_17_method_4_code (3 : Nat) (Option.none : Option Jvm.ClassFile.FieldType)) ∈ lw_all := lw_g (lw_at lw_m5 11 rfl) rfl
theorem q1144 : (Jvm.Cond.methodLink "PeerSearch$Peer" (111 : Nat) ({ cls := "PeerSearch$Board", name := "areApart", desc := "(II)Z" } : Jvm.MethodName)) ∈ lw_all := lw_g (lw_at lw_m5 12 rfl) rfl
theorem q1152 : (Jvm.Cond.methodLink "PeerSearch$Peer" (115 : Nat) ({ cls := "PeerSearch$Net", name := "send", desc := "(IIZLPeerSearch$Packet;)V" } : Jvm.MethodName)) ∈ lw_all := lw_g (lw_at lw_m5 20 rfl) rfl
theorem q1464 : (Jvm.Cond.instanceMethod ({ cls := "PeerSearch$Peer", name := "answers", desc := "(LPeerSearch$Packet;LPeerSearch$Key;)Z" } : Jvm.MethodName)) ∈ lw_all := lw_g (lw_at lw_m6 92 rfl) rfl
theorem q1465 : (Jvm.Cond.selects "PeerSearch$Peer" ({ cls := "PeerSearch$Peer", name := "answers", desc := "(LPeerSearch$Packet;LPeerSearch$Key;)Z" } : Jvm.MethodName) ({ cls := "PeerSearch$Peer", name := "answers", desc := "(LPeerSearch$Packet;LPeerSearch$Key;)Z" } : Jvm.MethodName)) ∈ lw_all := lw_g (lw_at lw_m6 93 rfl) rfl
theorem q1466 : (Jvm.Cond.code ({ cls := "PeerSearch$Peer", name := "answers", desc := "(LPeerSearch$Packet;LPeerSearch$Key;)Z" } : Jvm.MethodName) prog_17_method_14_code (4 : Nat) (Option.some Jvm.ClassFile.FieldType.boolean)) ∈ lw_all := lw_g (lw_at lw_m6 94 rfl) rfl
theorem q1467 : (Jvm.Cond.methodLink "PeerSearch$Peer" (250 : Nat) ({ cls := "PeerSearch$Packet", name := "number", desc := "()I" } : Jvm.MethodName)) ∈ lw_all := lw_g (lw_at lw_m6 95 rfl) rfl
theorem q1471 : (Jvm.Cond.methodLink "PeerSearch$Peer" (225 : Nat) ({ cls := "PeerSearch$Packet", name := "getKey", desc := "(ILPeerSearch$Key;)V" } : Jvm.MethodName)) ∈ lw_all := lw_g (lw_at lw_m6 99 rfl) rfl
theorem q1475 : (Jvm.Cond.methodLink "PeerSearch$Peer" (276 : Nat) ({ cls := "PeerSearch$Peer", name := "putNodes", desc := "(LPeerSearch$Packet;LPeerSearch$Key;LPeerSearch$Key;)V" } : Jvm.MethodName)) ∈ lw_all := lw_g (lw_at lw_m6 103 rfl) rfl
theorem q1476 : (Jvm.Cond.privateMethod ({ cls := "PeerSearch$Peer", name := "putNodes", desc := "(LPeerSearch$Packet;LPeerSearch$Key;LPeerSearch$Key;)V" } : Jvm.MethodName)) ∈ lw_tbl := lw_at lw_m6 104 rfl
theorem q1477 : (Jvm.Cond.instanceMethod ({ cls := "PeerSearch$Peer", name := "putNodes", desc := "(LPeerSearch$Packet;LPeerSearch$Key;LPeerSearch$Key;)V" } : Jvm.MethodName)) ∈ lw_all := lw_g (lw_at lw_m6 105 rfl) rfl
theorem q1478 : (Jvm.Cond.code ({ cls := "PeerSearch$Peer", name := "putNodes", desc := "(LPeerSearch$Packet;LPeerSearch$Key;LPeerSearch$Key;)V" } : Jvm.MethodName) prog_17_method_15_code (6 : Nat) (Option.none : Option Jvm.ClassFile.FieldType)) ∈ lw_all := lw_g (lw_at lw_m6 106 rfl) rfl
theorem q1479 : (Jvm.Cond.methodLink "PeerSearch$Peer" (309 : Nat) ({ cls := "PeerSearch$Table", name := "nearest", desc := "(LPeerSearch$Key;LPeerSearch$Key;[LPeerSearch$Contact;)I" } : Jvm.MethodName)) ∈ lw_all := lw_g (lw_at lw_m6 107 rfl) rfl
theorem q1480 : (Jvm.Cond.methodLink "PeerSearch$Peer" (284 : Nat) ({ cls := "PeerSearch$Packet", name := "put", desc := "(II)V" } : Jvm.MethodName)) ∈ lw_all := lw_g (lw_at lw_m6 108 rfl) rfl
theorem q1481 : (Jvm.Cond.methodLink "PeerSearch$Peer" (313 : Nat) ({ cls := "PeerSearch$Packet", name := "putKey", desc := "(LPeerSearch$Key;)V" } : Jvm.MethodName)) ∈ lw_all := lw_g (lw_at lw_m6 109 rfl) rfl
theorem q1482 : (Jvm.Cond.methodLink "PeerSearch$Peer" (280 : Nat) ({ cls := "PeerSearch$Store", name := "count", desc := "(LPeerSearch$Key;)I" } : Jvm.MethodName)) ∈ lw_all := lw_g (lw_at lw_m6 110 rfl) rfl
theorem q1483 : (Jvm.Cond.methodLink "PeerSearch$Peer" (288 : Nat) ({ cls := "PeerSearch$Store", name := "keep", desc := "(LPeerSearch$Packet;I)Z" } : Jvm.MethodName)) ∈ lw_all := lw_g (lw_at lw_m6 111 rfl) rfl
theorem q1511 : (Jvm.Cond.fieldLinkNest "PeerSearch$Peer" (331 : Nat) "PeerSearch$Posting" "owner" "I" "PeerSearch") ∈ lw_tbl := lw_at lw_m6 139 rfl
theorem q1514 : (Jvm.Cond.fieldLinkNest "PeerSearch$Peer" (336 : Nat) "PeerSearch$Posting" "document" "I" "PeerSearch") ∈ lw_tbl := lw_at lw_m6 142 rfl
theorem q1517 : (Jvm.Cond.fieldLinkNest "PeerSearch$Peer" (345 : Nat) "PeerSearch$Posting" "weight" "I" "PeerSearch") ∈ lw_tbl := lw_at lw_m6 145 rfl
theorem q1533 : (Jvm.Cond.methodLink "PeerSearch$Peer" (295 : Nat) ({ cls := "PeerSearch$Peer", name := "putBits", desc := "(LPeerSearch$Packet;LPeerSearch$Key;)V" } : Jvm.MethodName)) ∈ lw_all := lw_g (lw_at lw_m6 161 rfl) rfl
theorem q1534 : (Jvm.Cond.privateMethod ({ cls := "PeerSearch$Peer", name := "putBits", desc := "(LPeerSearch$Packet;LPeerSearch$Key;)V" } : Jvm.MethodName)) ∈ lw_tbl := lw_at lw_m6 162 rfl
theorem q1535 : (Jvm.Cond.instanceMethod ({ cls := "PeerSearch$Peer", name := "putBits", desc := "(LPeerSearch$Packet;LPeerSearch$Key;)V" } : Jvm.MethodName)) ∈ lw_all := lw_g (lw_at lw_m6 163 rfl) rfl
theorem q1536 : (Jvm.Cond.code ({ cls := "PeerSearch$Peer", name := "putBits", desc := "(LPeerSearch$Packet;LPeerSearch$Key;)V" } : Jvm.MethodName) prog_17_method_16_code (6 : Nat) (Option.none : Option Jvm.ClassFile.FieldType)) ∈ lw_all := lw_g (lw_at lw_m6 164 rfl) rfl
theorem q1537 : (Jvm.Cond.methodLink "PeerSearch$Peer" (316 : Nat) ({ cls := "PeerSearch$Store", name := "first", desc := "(LPeerSearch$Key;)I" } : Jvm.MethodName)) ∈ lw_all := lw_g (lw_at lw_m6 165 rfl) rfl
theorem q1538 : (Jvm.Cond.methodLink "PeerSearch$Peer" (323 : Nat) ({ cls := "PeerSearch$Filter", name := "begin", desc := "(II)V" } : Jvm.MethodName)) ∈ lw_all := lw_g (lw_at lw_m6 166 rfl) rfl
theorem q1539 : (Jvm.Cond.methodLink "PeerSearch$Peer" (339 : Nat) ({ cls := "PeerSearch$Filter", name := "add", desc := "(II)V" } : Jvm.MethodName)) ∈ lw_all := lw_g (lw_at lw_m6 167 rfl) rfl
theorem q1554 : (Jvm.Cond.methodLink "PeerSearch$Peer" (342 : Nat) ({ cls := "PeerSearch$Filter", name := "write", desc := "(LPeerSearch$Packet;)V" } : Jvm.MethodName)) ∈ lw_all := lw_g (lw_at lw_m6 182 rfl) rfl
theorem q1555 : (Jvm.Cond.methodLink "PeerSearch$Peer" (299 : Nat) ({ cls := "PeerSearch$Peer", name := "putMatches", desc := "(LPeerSearch$Packet;LPeerSearch$Key;LPeerSearch$Packet;)V" } : Jvm.MethodName)) ∈ lw_all := lw_g (lw_at lw_m6 183 rfl) rfl
theorem q1556 : (Jvm.Cond.privateMethod ({ cls := "PeerSearch$Peer", name := "putMatches", desc := "(LPeerSearch$Packet;LPeerSearch$Key;LPeerSearch$Packet;)V" } : Jvm.MethodName)) ∈ lw_tbl := lw_at lw_m6 184 rfl
theorem q1557 : (Jvm.Cond.instanceMethod ({ cls := "PeerSearch$Peer", name := "putMatches", desc := "(LPeerSearch$Packet;LPeerSearch$Key;LPeerSearch$Packet;)V" } : Jvm.MethodName)) ∈ lw_all := lw_g (lw_at lw_m6 185 rfl) rfl
theorem q1558 : (Jvm.Cond.code ({ cls := "PeerSearch$Peer", name := "putMatches", desc := "(LPeerSearch$Packet;LPeerSearch$Key;LPeerSearch$Packet;)V" } : Jvm.MethodName) prog_17_method_18_code (11 : Nat) (Option.none : Option Jvm.ClassFile.FieldType)) ∈ lw_all := lw_g (lw_at lw_m6 186 rfl) rfl
theorem q1559 : (Jvm.Cond.methodLink "PeerSearch$Peer" (348 : Nat) ({ cls := "PeerSearch$Filter", name := "read", desc := "(LPeerSearch$Packet;I)V" } : Jvm.MethodName)) ∈ lw_all := lw_g (lw_at lw_m6 187 rfl) rfl
theorem q1564 : (Jvm.Cond.methodLink "PeerSearch$Peer" (352 : Nat) ({ cls := "PeerSearch$Packet", name := "get", desc := "(II)I" } : Jvm.MethodName)) ∈ lw_all := lw_g (lw_at lw_m6 192 rfl) rfl
theorem q1565 : (Jvm.Cond.methodLink "PeerSearch$Peer" (356 : Nat) ({ cls := "PeerSearch$Filter", name := "mayHave", desc := "(II)Z" } : Jvm.MethodName)) ∈ lw_all := lw_g (lw_at lw_m6 193 rfl) rfl
theorem q1569 : (Jvm.Cond.methodLink "PeerSearch$Peer" (359 : Nat) ({ cls := "PeerSearch$Peer", name := "putPosting", desc := "(LPeerSearch$Packet;LPeerSearch$Posting;)V" } : Jvm.MethodName)) ∈ lw_all := lw_g (lw_at lw_m6 197 rfl) rfl
theorem q1570 : (Jvm.Cond.static ({ cls := "PeerSearch$Peer", name := "putPosting", desc := "(LPeerSearch$Packet;LPeerSearch$Posting;)V" } : Jvm.MethodName)) ∈ lw_all := lw_g (lw_at lw_m6 198 rfl) rfl
theorem q1571 : (Jvm.Cond.code ({ cls := "PeerSearch$Peer", name := "putPosting", desc := "(LPeerSearch$Packet;LPeerSearch$Posting;)V" } : Jvm.MethodName) prog_17_method_17_code (2 : Nat) (Option.none : Option Jvm.ClassFile.FieldType)) ∈ lw_all := lw_g (lw_at lw_m6 199 rfl) rfl
theorem q1572 : (Jvm.Cond.methodLink "PeerSearch$Peer" (303 : Nat) ({ cls := "PeerSearch$Peer", name := "putChecked", desc := "(LPeerSearch$Packet;LPeerSearch$Key;LPeerSearch$Packet;)V" } : Jvm.MethodName)) ∈ lw_all := lw_g (lw_at lw_m6 200 rfl) rfl
theorem q1573 : (Jvm.Cond.privateMethod ({ cls := "PeerSearch$Peer", name := "putChecked", desc := "(LPeerSearch$Packet;LPeerSearch$Key;LPeerSearch$Packet;)V" } : Jvm.MethodName)) ∈ lw_tbl := lw_at lw_m6 201 rfl
theorem q1574 : (Jvm.Cond.instanceMethod ({ cls := "PeerSearch$Peer", name := "putChecked", desc := "(LPeerSearch$Packet;LPeerSearch$Key;LPeerSearch$Packet;)V" } : Jvm.MethodName)) ∈ lw_all := lw_g (lw_at lw_m6 202 rfl) rfl
theorem q1575 : (Jvm.Cond.code ({ cls := "PeerSearch$Peer", name := "putChecked", desc := "(LPeerSearch$Packet;LPeerSearch$Key;LPeerSearch$Packet;)V" } : Jvm.MethodName) prog_17_method_19_code (9 : Nat) (Option.none : Option Jvm.ClassFile.FieldType)) ∈ lw_all := lw_g (lw_at lw_m6 203 rfl) rfl
theorem q1576 : (Jvm.Cond.methodLink "PeerSearch$Peer" (363 : Nat) ({ cls := "PeerSearch$Store", name := "find", desc := "(LPeerSearch$Key;II)I" } : Jvm.MethodName)) ∈ lw_all := lw_g (lw_at lw_m6 204 rfl) rfl
theorem q1664 : (Jvm.Cond.instanceMethod ({ cls := "PeerSearch$Peer", name := "end", desc := "()V" } : Jvm.MethodName)) ∈ lw_all := lw_g (lw_at lw_m7 52 rfl) rfl
theorem q1665 : (Jvm.Cond.selects "PeerSearch$Peer" ({ cls := "PeerSearch$Peer", name := "end", desc := "()V" } : Jvm.MethodName) ({ cls := "PeerSearch$Peer", name := "end", desc := "()V" } : Jvm.MethodName)) ∈ lw_all := lw_g (lw_at lw_m7 53 rfl) rfl
theorem q1666 : (Jvm.Cond.code ({ cls := "PeerSearch$Peer", name := "end", desc := "()V" } : Jvm.MethodName) prog_17_method_3_code (1 : Nat) (Option.none : Option Jvm.ClassFile.FieldType)) ∈ lw_all := lw_g (lw_at lw_m7 54 rfl) rfl
theorem q1667 : (Jvm.Cond.methodLink "PeerSearch$Peer" (104 : Nat) ({ cls := "PeerSearch$Table", name := "clear", desc := "()V" } : Jvm.MethodName)) ∈ lw_all := lw_g (lw_at lw_m7 55 rfl) rfl
theorem q1668 : (Jvm.Cond.methodLink "PeerSearch$Peer" (107 : Nat) ({ cls := "PeerSearch$Store", name := "clear", desc := "()V" } : Jvm.MethodName)) ∈ lw_all := lw_g (lw_at lw_m7 56 rfl) rfl
theorem q1903 : (Jvm.Cond.instanceMethod ({ cls := "PeerSearch$Peer", name := "deliver", desc := "(ILPeerSearch$Packet;)V" } : Jvm.MethodName)) ∈ lw_all := lw_g (lw_at lw_m8 51 rfl) rfl
theorem q1904 : (Jvm.Cond.selects "PeerSearch$Peer" ({ cls := "PeerSearch$Peer", name := "deliver", desc := "(ILPeerSearch$Packet;)V" } : Jvm.MethodName) ({ cls := "PeerSearch$Peer", name := "deliver", desc := "(ILPeerSearch$Packet;)V" } : Jvm.MethodName)) ∈ lw_all := lw_g (lw_at lw_m8 52 rfl) rfl
theorem q1905 : (Jvm.Cond.code ({ cls := "PeerSearch$Peer", name := "deliver", desc := "(ILPeerSearch$Packet;)V" } : Jvm.MethodName) prog_17_method_12_code (4 : Nat) (Option.none : Option Jvm.ClassFile.FieldType)) ∈ lw_all := lw_g (lw_at lw_m8 53 rfl) rfl
theorem q1906 : (Jvm.Cond.methodLink "PeerSearch$Peer" (215 : Nat) ({ cls := "PeerSearch$Packet", name := "isWell", desc := "()Z" } : Jvm.MethodName)) ∈ lw_all := lw_g (lw_at lw_m8 54 rfl) rfl
theorem q1931 : (Jvm.Cond.methodLink "PeerSearch$Peer" (229 : Nat) ({ cls := "PeerSearch$Peer", name := "isAnswer", desc := "(I)Z" } : Jvm.MethodName)) ∈ lw_all := lw_g (lw_at lw_m8 79 rfl) rfl
theorem q1932 : (Jvm.Cond.static ({ cls := "PeerSearch$Peer", name := "isAnswer", desc := "(I)Z" } : Jvm.MethodName)) ∈ lw_all := lw_g (lw_at lw_m8 80 rfl) rfl
theorem q1933 : (Jvm.Cond.code ({ cls := "PeerSearch$Peer", name := "isAnswer", desc := "(I)Z" } : Jvm.MethodName) prog_17_method_11_code (1 : Nat) (Option.some Jvm.ClassFile.FieldType.boolean)) ∈ lw_all := lw_g (lw_at lw_m8 81 rfl) rfl
theorem q1934 : (Jvm.Cond.methodLink "PeerSearch$Peer" (233 : Nat) ({ cls := "PeerSearch$Peer", name := "takeAnswer", desc := "(ILPeerSearch$Packet;LPeerSearch$Key;)V" } : Jvm.MethodName)) ∈ lw_all := lw_g (lw_at lw_m8 82 rfl) rfl
theorem q1935 : (Jvm.Cond.privateMethod ({ cls := "PeerSearch$Peer", name := "takeAnswer", desc := "(ILPeerSearch$Packet;LPeerSearch$Key;)V" } : Jvm.MethodName)) ∈ lw_tbl := lw_at lw_m8 83 rfl
theorem q1936 : (Jvm.Cond.instanceMethod ({ cls := "PeerSearch$Peer", name := "takeAnswer", desc := "(ILPeerSearch$Packet;LPeerSearch$Key;)V" } : Jvm.MethodName)) ∈ lw_all := lw_g (lw_at lw_m8 84 rfl) rfl
theorem q1937 : (Jvm.Cond.code ({ cls := "PeerSearch$Peer", name := "takeAnswer", desc := "(ILPeerSearch$Packet;LPeerSearch$Key;)V" } : Jvm.MethodName) prog_17_method_13_code (8 : Nat) (Option.none : Option Jvm.ClassFile.FieldType)) ∈ lw_all := lw_g (lw_at lw_m8 85 rfl) rfl
theorem q1938 : (Jvm.Cond.methodLink "PeerSearch$Peer" (252 : Nat) ({ cls := "PeerSearch$Peer", name := "find", desc := "(I)I" } : Jvm.MethodName)) ∈ lw_all := lw_g (lw_at lw_m8 86 rfl) rfl
theorem q1939 : (Jvm.Cond.privateMethod ({ cls := "PeerSearch$Peer", name := "find", desc := "(I)I" } : Jvm.MethodName)) ∈ lw_tbl := lw_at lw_m8 87 rfl
theorem q1940 : (Jvm.Cond.instanceMethod ({ cls := "PeerSearch$Peer", name := "find", desc := "(I)I" } : Jvm.MethodName)) ∈ lw_all := lw_g (lw_at lw_m8 88 rfl) rfl
theorem q1941 : (Jvm.Cond.code ({ cls := "PeerSearch$Peer", name := "find", desc := "(I)I" } : Jvm.MethodName) prog_17_method_9_code (3 : Nat) (Option.some Jvm.ClassFile.FieldType.int)) ∈ lw_all := lw_g (lw_at lw_m8 89 rfl) rfl
theorem q1942 : (Jvm.Cond.methodLink "PeerSearch$Peer" (255 : Nat) ({ cls := "PeerSearch$Key", name := "is", desc := "(LPeerSearch$Key;)Z" } : Jvm.MethodName)) ∈ lw_all := lw_g (lw_at lw_m8 90 rfl) rfl
theorem q1943 : (Jvm.Cond.methodLink "PeerSearch$Peer" (241 : Nat) ({ cls := "PeerSearch$Peer", name := "see", desc := "(LPeerSearch$Key;I)V" } : Jvm.MethodName)) ∈ lw_all := lw_g (lw_at lw_m8 91 rfl) rfl
theorem q1944 : (Jvm.Cond.methodLink "PeerSearch$Peer" (262 : Nat) ({ cls := "PeerSearch$Peer", name := "remove", desc := "(I)LPeerSearch$Request;" } : Jvm.MethodName)) ∈ lw_all := lw_g (lw_at lw_m8 92 rfl) rfl
theorem q1945 : (Jvm.Cond.privateMethod ({ cls := "PeerSearch$Peer", name := "remove", desc := "(I)LPeerSearch$Request;" } : Jvm.MethodName)) ∈ lw_tbl := lw_at lw_m8 93 rfl
theorem q1946 : (Jvm.Cond.instanceMethod ({ cls := "PeerSearch$Peer", name := "remove", desc := "(I)LPeerSearch$Request;" } : Jvm.MethodName)) ∈ lw_all := lw_g (lw_at lw_m8 94 rfl) rfl
theorem q1947 : (Jvm.Cond.code ({ cls := "PeerSearch$Peer", name := "remove", desc := "(I)LPeerSearch$Request;" } : Jvm.MethodName) prog_17_method_10_code (4 : Nat) (Option.some (Jvm.ClassFile.FieldType.object "PeerSearch$Request"))) ∈ lw_all := lw_g (lw_at lw_m8 95 rfl) rfl
theorem q1948 : (Jvm.Cond.methodLink "PeerSearch$Peer" (269 : Nat) ({ cls := "PeerSearch$Work", name := "answered", desc := "(ILPeerSearch$Key;LPeerSearch$Packet;)V" } : Jvm.MethodName)) ∈ lw_all := lw_g (lw_at lw_m8 96 rfl) rfl
theorem q1970 : (Jvm.Cond.methodLink "PeerSearch$Peer" (237 : Nat) ({ cls := "PeerSearch$Table", name := "lose", desc := "(LPeerSearch$Key;I)V" } : Jvm.MethodName)) ∈ lw_all := lw_g (lw_at lw_m8 118 rfl) rfl
theorem q1974 : (Jvm.Cond.methodLink "PeerSearch$Peer" (243 : Nat) ({ cls := "PeerSearch$Peer", name := "answers", desc := "(LPeerSearch$Packet;LPeerSearch$Key;)Z" } : Jvm.MethodName)) ∈ lw_all := lw_g (lw_at lw_m8 122 rfl) rfl
theorem q1980 : (Jvm.Cond.instanceMethod ({ cls := "PeerSearch$Peer", name := "runOut", desc := "()V" } : Jvm.MethodName)) ∈ lw_all := lw_g (lw_at lw_m8 128 rfl) rfl
theorem q1981 : (Jvm.Cond.selects "PeerSearch$Peer" ({ cls := "PeerSearch$Peer", name := "runOut", desc := "()V" } : Jvm.MethodName) ({ cls := "PeerSearch$Peer", name := "runOut", desc := "()V" } : Jvm.MethodName)) ∈ lw_all := lw_g (lw_at lw_m8 129 rfl) rfl
theorem q1982 : (Jvm.Cond.code ({ cls := "PeerSearch$Peer", name := "runOut", desc := "()V" } : Jvm.MethodName) prog_17_method_20_code (4 : Nat) (Option.none : Option Jvm.ClassFile.FieldType)) ∈ lw_all := lw_g (lw_at lw_m8 130 rfl) rfl
theorem q1983 : (Jvm.Cond.methodLink "PeerSearch$Peer" (370 : Nat) ({ cls := "PeerSearch$Peer", name := "fail", desc := "(I)V" } : Jvm.MethodName)) ∈ lw_all := lw_g (lw_at lw_m8 131 rfl) rfl
theorem q1984 : (Jvm.Cond.privateMethod ({ cls := "PeerSearch$Peer", name := "fail", desc := "(I)V" } : Jvm.MethodName)) ∈ lw_tbl := lw_at lw_m8 132 rfl
theorem q1985 : (Jvm.Cond.instanceMethod ({ cls := "PeerSearch$Peer", name := "fail", desc := "(I)V" } : Jvm.MethodName)) ∈ lw_all := lw_g (lw_at lw_m8 133 rfl) rfl
theorem q1986 : (Jvm.Cond.code ({ cls := "PeerSearch$Peer", name := "fail", desc := "(I)V" } : Jvm.MethodName) prog_17_method_21_code (6 : Nat) (Option.none : Option Jvm.ClassFile.FieldType)) ∈ lw_all := lw_g (lw_at lw_m8 134 rfl) rfl
theorem q1987 : (Jvm.Cond.methodLink "PeerSearch$Peer" (374 : Nat) ({ cls := "PeerSearch$Work", name := "failed", desc := "(ILPeerSearch$Key;)V" } : Jvm.MethodName)) ∈ lw_all := lw_g (lw_at lw_m8 135 rfl) rfl
theorem in_X17 : ∀ w ∈ wsX170, w ∈ lw_all := lw_in wsX170 [894, 896, 898, 900, 902, 904, 906, 908, 910, 912, 914, 916, 918, 920, 922, 924, 926, 928, 930, 932] (by decide +kernel) (by decide +kernel)
/-! PeerSearch$Store -/
def RX18 : String := "PeerSearch$Store"
def TX18 : u_T := fun k => match k with
  | 0 => ("PeerSearch$Store", "rows", "[LPeerSearch$Posting;", true)
  | 1 => ("PeerSearch$Store", "size", "I", false)
  | _ => ("PeerSearch$Store", "key", "LPeerSearch$Key;", true)
def tyX18 : Nat → FieldType := fun k => match k with
  | 0 => .array (.object "PeerSearch$Posting")
  | 1 => .int
  | _ => .object "PeerSearch$Key"
abbrev wsX180 : List Cond := u_ws RX18 TX18 3
theorem nmX18 : ∀ a, a < 3 → ∀ b, b < 3 → a ≠ b → (TX18 a).2.1 ≠ (TX18 b).2.1 := by decide +kernel
theorem tyX18_ok : ∀ k, k < 3 → parseFieldDescriptor (TX18 k).2.2.1 = some (tyX18 k) := by decide +kernel
abbrev cX18_init : ByteArray := prog_26_method_1_code
def yX18_init : MethodName := ⟨RX18, "<init>", "()V"⟩
abbrev cX18_count : ByteArray := prog_26_method_5_code
def yX18_count : MethodName := ⟨RX18, "count", "(LPeerSearch$Key;)I"⟩
abbrev cX18_place : ByteArray := prog_26_method_3_code
def yX18_place : MethodName := ⟨RX18, "place", "(LPeerSearch$Key;II)I"⟩
abbrev cX18_compare : ByteArray := prog_26_method_2_code
def yX18_compare : MethodName := ⟨RX18, "compare", "(LPeerSearch$Posting;LPeerSearch$Key;II)I"⟩
abbrev cX18_first : ByteArray := prog_26_method_4_code
def yX18_first : MethodName := ⟨RX18, "first", "(LPeerSearch$Key;)I"⟩
abbrev cX18_keep : ByteArray := prog_26_method_9_code
def yX18_keep : MethodName := ⟨RX18, "keep", "(LPeerSearch$Packet;I)Z"⟩
abbrev cX18_find : ByteArray := prog_26_method_6_code
def yX18_find : MethodName := ⟨RX18, "find", "(LPeerSearch$Key;II)I"⟩
abbrev cX18_isEarlier : ByteArray := prog_26_method_8_code
def yX18_isEarlier : MethodName := ⟨RX18, "isEarlier", "(LPeerSearch$Packet;I)Z"⟩
abbrev cX18_put : ByteArray := prog_26_method_7_code
def yX18_put : MethodName := ⟨RX18, "put", "(LPeerSearch$Key;IIII)V"⟩
abbrev cX18_clear : ByteArray := prog_26_method_11_code
def yX18_clear : MethodName := ⟨RX18, "clear", "()V"⟩
abbrev cX18_expire : ByteArray := prog_26_method_10_code
def yX18_expire : MethodName := ⟨RX18, "expire", "(I)V"⟩
theorem q192 : (Jvm.Cond.initialized "PeerSearch$Store") ∈ lw_all := lw_g (lw_at lw_m1 20 rfl) rfl
theorem q714 : (Jvm.Cond.instantiable "PeerSearch$Store" (3 : Nat)) ∈ lw_all := lw_g (lw_at lw_m3 62 rfl) rfl
theorem q716 : (Jvm.Cond.instanceMethod ({ cls := "PeerSearch$Store", name := "<init>", desc := "()V" } : Jvm.MethodName)) ∈ lw_all := lw_g (lw_at lw_m3 64 rfl) rfl
theorem q717 : (Jvm.Cond.code ({ cls := "PeerSearch$Store", name := "<init>", desc := "()V" } : Jvm.MethodName) prog_26_method_1_code (1 : Nat) (Option.none : Option Jvm.ClassFile.FieldType)) ∈ lw_all := lw_g (lw_at lw_m3 65 rfl) rfl
theorem q718 : (Jvm.Cond.methodLink "PeerSearch$Store" (5 : Nat) ({ cls := "java/lang/Object", name := "<init>", desc := "()V" } : Jvm.MethodName)) ∈ lw_all := lw_g (lw_at lw_m3 66 rfl) rfl
theorem q719 : (Jvm.Cond.classLink "PeerSearch$Store" (11 : Nat) "PeerSearch$Posting") ∈ lw_all := lw_g (lw_at lw_m3 67 rfl) rfl
theorem q721 : (Jvm.Cond.classLink "PeerSearch$Store" (19 : Nat) "PeerSearch$Key") ∈ lw_all := lw_g (lw_at lw_m3 69 rfl) rfl
theorem q722 : (Jvm.Cond.methodLinkNest "PeerSearch$Store" (21 : Nat) ({ cls := "PeerSearch$Key", name := "<init>", desc := "()V" } : Jvm.MethodName) "PeerSearch") ∈ lw_tbl := lw_at lw_m3 70 rfl
theorem q723 : (Jvm.Cond.fieldLink "PeerSearch$Store" (13 : Nat) "PeerSearch$Store" "rows" "[LPeerSearch$Posting;") ∈ lw_all := lw_g (lw_at lw_m3 71 rfl) rfl
theorem q726 : (Jvm.Cond.fieldLink "PeerSearch$Store" (38 : Nat) "PeerSearch$Store" "size" "I") ∈ lw_all := lw_g (lw_at lw_m3 74 rfl) rfl
theorem q728 : (Jvm.Cond.fieldLink "PeerSearch$Store" (22 : Nat) "PeerSearch$Store" "key" "LPeerSearch$Key;") ∈ lw_all := lw_g (lw_at lw_m3 76 rfl) rfl
theorem q729 : (Jvm.Cond.laysFinal "PeerSearch$Store" "PeerSearch$Store" "rows" "[LPeerSearch$Posting;") ∈ lw_all := lw_g (lw_at lw_m3 77 rfl) rfl
theorem q730 : (Jvm.Cond.soleField "PeerSearch$Store" "rows") ∈ lw_all := lw_g (lw_at lw_m3 78 rfl) rfl
theorem q731 : (Jvm.Cond.lays "PeerSearch$Store" "PeerSearch$Store" "size" "I") ∈ lw_all := lw_g (lw_at lw_m3 79 rfl) rfl
theorem q732 : (Jvm.Cond.soleField "PeerSearch$Store" "size") ∈ lw_all := lw_g (lw_at lw_m3 80 rfl) rfl
theorem q733 : (Jvm.Cond.laysFinal "PeerSearch$Store" "PeerSearch$Store" "key" "LPeerSearch$Key;") ∈ lw_all := lw_g (lw_at lw_m3 81 rfl) rfl
theorem q734 : (Jvm.Cond.soleField "PeerSearch$Store" "key") ∈ lw_all := lw_g (lw_at lw_m3 82 rfl) rfl
theorem q735 : (Jvm.Cond.superclass "PeerSearch$Store" "java/lang/Object") ∈ lw_all := lw_g (lw_at lw_m3 83 rfl) rfl
theorem q1386 : (Jvm.Cond.instanceMethod ({ cls := "PeerSearch$Store", name := "count", desc := "(LPeerSearch$Key;)I" } : Jvm.MethodName)) ∈ lw_all := lw_g (lw_at lw_m6 14 rfl) rfl
theorem q1387 : (Jvm.Cond.selects "PeerSearch$Store" ({ cls := "PeerSearch$Store", name := "count", desc := "(LPeerSearch$Key;)I" } : Jvm.MethodName) ({ cls := "PeerSearch$Store", name := "count", desc := "(LPeerSearch$Key;)I" } : Jvm.MethodName)) ∈ lw_all := lw_g (lw_at lw_m6 15 rfl) rfl
theorem q1388 : (Jvm.Cond.code ({ cls := "PeerSearch$Store", name := "count", desc := "(LPeerSearch$Key;)I" } : Jvm.MethodName) prog_26_method_5_code (2 : Nat) (Option.some Jvm.ClassFile.FieldType.int)) ∈ lw_all := lw_g (lw_at lw_m6 16 rfl) rfl
theorem q1389 : (Jvm.Cond.methodLink "PeerSearch$Store" (44 : Nat) ({ cls := "PeerSearch$Store", name := "place", desc := "(LPeerSearch$Key;II)I" } : Jvm.MethodName)) ∈ lw_all := lw_g (lw_at lw_m6 17 rfl) rfl
theorem q1390 : (Jvm.Cond.privateMethod ({ cls := "PeerSearch$Store", name := "place", desc := "(LPeerSearch$Key;II)I" } : Jvm.MethodName)) ∈ lw_tbl := lw_at lw_m6 18 rfl
theorem q1391 : (Jvm.Cond.instanceMethod ({ cls := "PeerSearch$Store", name := "place", desc := "(LPeerSearch$Key;II)I" } : Jvm.MethodName)) ∈ lw_all := lw_g (lw_at lw_m6 19 rfl) rfl
theorem q1392 : (Jvm.Cond.code ({ cls := "PeerSearch$Store", name := "place", desc := "(LPeerSearch$Key;II)I" } : Jvm.MethodName) prog_26_method_3_code (7 : Nat) (Option.some Jvm.ClassFile.FieldType.int)) ∈ lw_all := lw_g (lw_at lw_m6 20 rfl) rfl
theorem q1393 : (Jvm.Cond.methodLink "PeerSearch$Store" (41 : Nat) ({ cls := "PeerSearch$Store", name := "compare", desc := "(LPeerSearch$Posting;LPeerSearch$Key;II)I" } : Jvm.MethodName)) ∈ lw_all := lw_g (lw_at lw_m6 21 rfl) rfl
theorem q1394 : (Jvm.Cond.static ({ cls := "PeerSearch$Store", name := "compare", desc := "(LPeerSearch$Posting;LPeerSearch$Key;II)I" } : Jvm.MethodName)) ∈ lw_all := lw_g (lw_at lw_m6 22 rfl) rfl
theorem q1395 : (Jvm.Cond.code ({ cls := "PeerSearch$Store", name := "compare", desc := "(LPeerSearch$Posting;LPeerSearch$Key;II)I" } : Jvm.MethodName) prog_26_method_2_code (5 : Nat) (Option.some Jvm.ClassFile.FieldType.int)) ∈ lw_all := lw_g (lw_at lw_m6 23 rfl) rfl
theorem q1396 : (Jvm.Cond.methodLink "PeerSearch$Store" (27 : Nat) ({ cls := "PeerSearch$Key", name := "compare", desc := "(LPeerSearch$Key;)I" } : Jvm.MethodName)) ∈ lw_all := lw_g (lw_at lw_m6 24 rfl) rfl
theorem q1407 : (Jvm.Cond.methodLink "PeerSearch$Store" (48 : Nat) ({ cls := "PeerSearch$Store", name := "first", desc := "(LPeerSearch$Key;)I" } : Jvm.MethodName)) ∈ lw_all := lw_g (lw_at lw_m6 35 rfl) rfl
theorem q1408 : (Jvm.Cond.instanceMethod ({ cls := "PeerSearch$Store", name := "first", desc := "(LPeerSearch$Key;)I" } : Jvm.MethodName)) ∈ lw_all := lw_g (lw_at lw_m6 36 rfl) rfl
theorem q1409 : (Jvm.Cond.selects "PeerSearch$Store" ({ cls := "PeerSearch$Store", name := "first", desc := "(LPeerSearch$Key;)I" } : Jvm.MethodName) ({ cls := "PeerSearch$Store", name := "first", desc := "(LPeerSearch$Key;)I" } : Jvm.MethodName)) ∈ lw_all := lw_g (lw_at lw_m6 37 rfl) rfl
theorem q1410 : (Jvm.Cond.code ({ cls := "PeerSearch$Store", name := "first", desc := "(LPeerSearch$Key;)I" } : Jvm.MethodName) prog_26_method_4_code (2 : Nat) (Option.some Jvm.ClassFile.FieldType.int)) ∈ lw_all := lw_g (lw_at lw_m6 38 rfl) rfl
theorem q1484 : (Jvm.Cond.instanceMethod ({ cls := "PeerSearch$Store", name := "keep", desc := "(LPeerSearch$Packet;I)Z" } : Jvm.MethodName)) ∈ lw_all := lw_g (lw_at lw_m6 112 rfl) rfl
theorem q1485 : (Jvm.Cond.selects "PeerSearch$Store" ({ cls := "PeerSearch$Store", name := "keep", desc := "(LPeerSearch$Packet;I)Z" } : Jvm.MethodName) ({ cls := "PeerSearch$Store", name := "keep", desc := "(LPeerSearch$Packet;I)Z" } : Jvm.MethodName)) ∈ lw_all := lw_g (lw_at lw_m6 113 rfl) rfl
theorem q1486 : (Jvm.Cond.code ({ cls := "PeerSearch$Store", name := "keep", desc := "(LPeerSearch$Packet;I)Z" } : Jvm.MethodName) prog_26_method_9_code (6 : Nat) (Option.some Jvm.ClassFile.FieldType.boolean)) ∈ lw_all := lw_g (lw_at lw_m6 114 rfl) rfl
theorem q1487 : (Jvm.Cond.methodLink "PeerSearch$Store" (66 : Nat) ({ cls := "PeerSearch$Packet", name := "getKey", desc := "(ILPeerSearch$Key;)V" } : Jvm.MethodName)) ∈ lw_all := lw_g (lw_at lw_m6 115 rfl) rfl
theorem q1488 : (Jvm.Cond.methodLink "PeerSearch$Store" (62 : Nat) ({ cls := "PeerSearch$Packet", name := "get", desc := "(II)I" } : Jvm.MethodName)) ∈ lw_all := lw_g (lw_at lw_m6 116 rfl) rfl
theorem q1489 : (Jvm.Cond.methodLink "PeerSearch$Store" (70 : Nat) ({ cls := "PeerSearch$Store", name := "find", desc := "(LPeerSearch$Key;II)I" } : Jvm.MethodName)) ∈ lw_all := lw_g (lw_at lw_m6 117 rfl) rfl
theorem q1490 : (Jvm.Cond.instanceMethod ({ cls := "PeerSearch$Store", name := "find", desc := "(LPeerSearch$Key;II)I" } : Jvm.MethodName)) ∈ lw_all := lw_g (lw_at lw_m6 118 rfl) rfl
theorem q1491 : (Jvm.Cond.selects "PeerSearch$Store" ({ cls := "PeerSearch$Store", name := "find", desc := "(LPeerSearch$Key;II)I" } : Jvm.MethodName) ({ cls := "PeerSearch$Store", name := "find", desc := "(LPeerSearch$Key;II)I" } : Jvm.MethodName)) ∈ lw_all := lw_g (lw_at lw_m6 119 rfl) rfl
theorem q1492 : (Jvm.Cond.code ({ cls := "PeerSearch$Store", name := "find", desc := "(LPeerSearch$Key;II)I" } : Jvm.MethodName) prog_26_method_6_code (5 : Nat) (Option.some Jvm.ClassFile.FieldType.int)) ∈ lw_all := lw_g (lw_at lw_m6 120 rfl) rfl
theorem q1493 : (Jvm.Cond.methodLink "PeerSearch$Store" (73 : Nat) ({ cls := "PeerSearch$Store", name := "isEarlier", desc := "(LPeerSearch$Packet;I)Z" } : Jvm.MethodName)) ∈ lw_all := lw_g (lw_at lw_m6 121 rfl) rfl
theorem q1494 : (Jvm.Cond.static ({ cls := "PeerSearch$Store", name := "isEarlier", desc := "(LPeerSearch$Packet;I)Z" } : Jvm.MethodName)) ∈ lw_all := lw_g (lw_at lw_m6 122 rfl) rfl
theorem q1495 : (Jvm.Cond.code ({ cls := "PeerSearch$Store", name := "isEarlier", desc := "(LPeerSearch$Packet;I)Z" } : Jvm.MethodName) prog_26_method_8_code (3 : Nat) (Option.some Jvm.ClassFile.FieldType.boolean)) ∈ lw_all := lw_g (lw_at lw_m6 123 rfl) rfl
theorem q1496 : (Jvm.Cond.methodLink "PeerSearch$Store" (77 : Nat) ({ cls := "PeerSearch$Store", name := "put", desc := "(LPeerSearch$Key;IIII)V" } : Jvm.MethodName)) ∈ lw_all := lw_g (lw_at lw_m6 124 rfl) rfl
theorem q1497 : (Jvm.Cond.privateMethod ({ cls := "PeerSearch$Store", name := "put", desc := "(LPeerSearch$Key;IIII)V" } : Jvm.MethodName)) ∈ lw_tbl := lw_at lw_m6 125 rfl
theorem q1498 : (Jvm.Cond.instanceMethod ({ cls := "PeerSearch$Store", name := "put", desc := "(LPeerSearch$Key;IIII)V" } : Jvm.MethodName)) ∈ lw_all := lw_g (lw_at lw_m6 126 rfl) rfl
theorem q1499 : (Jvm.Cond.code ({ cls := "PeerSearch$Store", name := "put", desc := "(LPeerSearch$Key;IIII)V" } : Jvm.MethodName) prog_26_method_7_code (9 : Nat) (Option.none : Option Jvm.ClassFile.FieldType)) ∈ lw_all := lw_g (lw_at lw_m6 127 rfl) rfl
theorem q1501 : (Jvm.Cond.methodLinkNest "PeerSearch$Store" (51 : Nat) ({ cls := "PeerSearch$Posting", name := "<init>", desc := "()V" } : Jvm.MethodName) "PeerSearch") ∈ lw_tbl := lw_at lw_m6 129 rfl
theorem q1508 : (Jvm.Cond.fieldLinkNest "PeerSearch$Store" (26 : Nat) "PeerSearch$Posting" "key" "LPeerSearch$Key;" "PeerSearch") ∈ lw_tbl := lw_at lw_m6 136 rfl
theorem q1510 : (Jvm.Cond.fieldLinkNest "PeerSearch$Store" (31 : Nat) "PeerSearch$Posting" "owner" "I" "PeerSearch") ∈ lw_tbl := lw_at lw_m6 138 rfl
theorem q1513 : (Jvm.Cond.fieldLinkNest "PeerSearch$Store" (35 : Nat) "PeerSearch$Posting" "document" "I" "PeerSearch") ∈ lw_tbl := lw_at lw_m6 141 rfl
theorem q1516 : (Jvm.Cond.fieldLinkNest "PeerSearch$Store" (56 : Nat) "PeerSearch$Posting" "weight" "I" "PeerSearch") ∈ lw_tbl := lw_at lw_m6 144 rfl
theorem q1519 : (Jvm.Cond.fieldLinkNest "PeerSearch$Store" (59 : Nat) "PeerSearch$Posting" "end" "I" "PeerSearch") ∈ lw_tbl := lw_at lw_m6 147 rfl
theorem q1532 : (Jvm.Cond.methodLink "PeerSearch$Store" (52 : Nat) ({ cls := "PeerSearch$Key", name := "set", desc := "(LPeerSearch$Key;)V" } : Jvm.MethodName)) ∈ lw_all := lw_g (lw_at lw_m6 160 rfl) rfl
theorem q1669 : (Jvm.Cond.instanceMethod ({ cls := "PeerSearch$Store", name := "clear", desc := "()V" } : Jvm.MethodName)) ∈ lw_all := lw_g (lw_at lw_m7 57 rfl) rfl
theorem q1670 : (Jvm.Cond.selects "PeerSearch$Store" ({ cls := "PeerSearch$Store", name := "clear", desc := "()V" } : Jvm.MethodName) ({ cls := "PeerSearch$Store", name := "clear", desc := "()V" } : Jvm.MethodName)) ∈ lw_all := lw_g (lw_at lw_m7 58 rfl) rfl
theorem q1671 : (Jvm.Cond.code ({ cls := "PeerSearch$Store", name := "clear", desc := "()V" } : Jvm.MethodName) prog_26_method_11_code (1 : Nat) (Option.none : Option Jvm.ClassFile.FieldType)) ∈ lw_all := lw_g (lw_at lw_m7 59 rfl) rfl
theorem q2002 : (Jvm.Cond.instanceMethod ({ cls := "PeerSearch$Store", name := "expire", desc := "(I)V" } : Jvm.MethodName)) ∈ lw_all := lw_g (lw_at lw_m8 150 rfl) rfl
theorem q2003 : (Jvm.Cond.selects "PeerSearch$Store" ({ cls := "PeerSearch$Store", name := "expire", desc := "(I)V" } : Jvm.MethodName) ({ cls := "PeerSearch$Store", name := "expire", desc := "(I)V" } : Jvm.MethodName)) ∈ lw_all := lw_g (lw_at lw_m8 151 rfl) rfl
theorem q2004 : (Jvm.Cond.code ({ cls := "PeerSearch$Store", name := "expire", desc := "(I)V" } : Jvm.MethodName) prog_26_method_10_code (5 : Nat) (Option.none : Option Jvm.ClassFile.FieldType)) ∈ lw_all := lw_g (lw_at lw_m8 152 rfl) rfl
theorem in_X18 : ∀ w ∈ wsX180, w ∈ lw_all := lw_in wsX180 [729, 731, 733] (by decide +kernel) (by decide +kernel)
/-! PeerSearch$Library -/
def RX19 : String := "PeerSearch$Library"
def TX19 : u_T := fun k => match k with
  | 0 => ("PeerSearch$Library", "terms", "[LPeerSearch$Term;", true)
  | 1 => ("PeerSearch$Library", "size", "I", false)
  | _ => ("PeerSearch$Library", "documents", "I", false)
def tyX19 : Nat → FieldType := fun k => match k with
  | 0 => .array (.object "PeerSearch$Term")
  | 1 => .int
  | _ => .int
abbrev wsX190 : List Cond := u_ws RX19 TX19 3
theorem nmX19 : ∀ a, a < 3 → ∀ b, b < 3 → a ≠ b → (TX19 a).2.1 ≠ (TX19 b).2.1 := by decide +kernel
theorem tyX19_ok : ∀ k, k < 3 → parseFieldDescriptor (TX19 k).2.2.1 = some (tyX19 k) := by decide +kernel
abbrev cX19_init : ByteArray := prog_12_method_1_code
def yX19_init : MethodName := ⟨RX19, "<init>", "()V"⟩
abbrev cX19_add : ByteArray := prog_12_method_3_code
def yX19_add : MethodName := ⟨RX19, "add", "(LPeerSearch$Cutter;LPeerSearch$Sha;)I"⟩
abbrev cX19_find : ByteArray := prog_12_method_2_code
def yX19_find : MethodName := ⟨RX19, "find", "(LPeerSearch$Cutter;I)I"⟩
abbrev cX19_make : ByteArray := prog_12_method_4_code
def yX19_make : MethodName := ⟨RX19, "make", "(LPeerSearch$Cutter;IILPeerSearch$Sha;)V"⟩
abbrev cX19_weight : ByteArray := prog_12_method_5_code
def yX19_weight : MethodName := ⟨RX19, "weight", "(LPeerSearch$Cutter;II)I"⟩
theorem q193 : (Jvm.Cond.initialized "PeerSearch$Library") ∈ lw_all := lw_g (lw_at lw_m1 21 rfl) rfl
theorem q227 : (Jvm.Cond.fieldLinkNest "PeerSearch$Library" (54 : Nat) "PeerSearch$Cutter" "letters" "[B" "PeerSearch") ∈ lw_tbl := lw_at lw_m1 55 rfl
theorem q231 : (Jvm.Cond.fieldLinkNest "PeerSearch$Library" (46 : Nat) "PeerSearch$Cutter" "sizes" "[I" "PeerSearch") ∈ lw_tbl := lw_at lw_m1 59 rfl
theorem q234 : (Jvm.Cond.fieldLinkNest "PeerSearch$Library" (44 : Nat) "PeerSearch$Cutter" "weights" "[I" "PeerSearch") ∈ lw_tbl := lw_at lw_m1 62 rfl
theorem q236 : (Jvm.Cond.fieldLinkNest "PeerSearch$Library" (25 : Nat) "PeerSearch$Cutter" "many" "I" "PeerSearch") ∈ lw_tbl := lw_at lw_m1 64 rfl
theorem q737 : (Jvm.Cond.instantiable "PeerSearch$Library" (3 : Nat)) ∈ lw_all := lw_g (lw_at lw_m3 85 rfl) rfl
theorem q739 : (Jvm.Cond.instanceMethod ({ cls := "PeerSearch$Library", name := "<init>", desc := "()V" } : Jvm.MethodName)) ∈ lw_all := lw_g (lw_at lw_m3 87 rfl) rfl
theorem q740 : (Jvm.Cond.code ({ cls := "PeerSearch$Library", name := "<init>", desc := "()V" } : Jvm.MethodName) prog_12_method_1_code (1 : Nat) (Option.none : Option Jvm.ClassFile.FieldType)) ∈ lw_all := lw_g (lw_at lw_m3 88 rfl) rfl
theorem q741 : (Jvm.Cond.methodLink "PeerSearch$Library" (3 : Nat) ({ cls := "java/lang/Object", name := "<init>", desc := "()V" } : Jvm.MethodName)) ∈ lw_all := lw_g (lw_at lw_m3 89 rfl) rfl
theorem q742 : (Jvm.Cond.classLink "PeerSearch$Library" (9 : Nat) "PeerSearch$Term") ∈ lw_all := lw_g (lw_at lw_m3 90 rfl) rfl
theorem q744 : (Jvm.Cond.fieldLink "PeerSearch$Library" (11 : Nat) "PeerSearch$Library" "terms" "[LPeerSearch$Term;") ∈ lw_all := lw_g (lw_at lw_m3 92 rfl) rfl
theorem q746 : (Jvm.Cond.fieldLink "PeerSearch$Library" (17 : Nat) "PeerSearch$Library" "size" "I") ∈ lw_all := lw_g (lw_at lw_m3 94 rfl) rfl
theorem q750 : (Jvm.Cond.fieldLink "PeerSearch$Library" (33 : Nat) "PeerSearch$Library" "documents" "I") ∈ lw_all := lw_g (lw_at lw_m3 98 rfl) rfl
theorem q752 : (Jvm.Cond.laysFinal "PeerSearch$Library" "PeerSearch$Library" "terms" "[LPeerSearch$Term;") ∈ lw_all := lw_g (lw_at lw_m3 100 rfl) rfl
theorem q753 : (Jvm.Cond.soleField "PeerSearch$Library" "terms") ∈ lw_all := lw_g (lw_at lw_m3 101 rfl) rfl
theorem q754 : (Jvm.Cond.lays "PeerSearch$Library" "PeerSearch$Library" "size" "I") ∈ lw_all := lw_g (lw_at lw_m3 102 rfl) rfl
theorem q755 : (Jvm.Cond.soleField "PeerSearch$Library" "size") ∈ lw_all := lw_g (lw_at lw_m3 103 rfl) rfl
theorem q756 : (Jvm.Cond.lays "PeerSearch$Library" "PeerSearch$Library" "documents" "I") ∈ lw_all := lw_g (lw_at lw_m3 104 rfl) rfl
theorem q757 : (Jvm.Cond.soleField "PeerSearch$Library" "documents") ∈ lw_all := lw_g (lw_at lw_m3 105 rfl) rfl
theorem q758 : (Jvm.Cond.superclass "PeerSearch$Library" "java/lang/Object") ∈ lw_all := lw_g (lw_at lw_m3 106 rfl) rfl
theorem q1707 : (Jvm.Cond.instanceMethod ({ cls := "PeerSearch$Library", name := "add", desc := "(LPeerSearch$Cutter;LPeerSearch$Sha;)I" } : Jvm.MethodName)) ∈ lw_all := lw_g (lw_at lw_m7 95 rfl) rfl
theorem q1708 : (Jvm.Cond.selects "PeerSearch$Library" ({ cls := "PeerSearch$Library", name := "add", desc := "(LPeerSearch$Cutter;LPeerSearch$Sha;)I" } : Jvm.MethodName) ({ cls := "PeerSearch$Library", name := "add", desc := "(LPeerSearch$Cutter;LPeerSearch$Sha;)I" } : Jvm.MethodName)) ∈ lw_all := lw_g (lw_at lw_m7 96 rfl) rfl
theorem q1709 : (Jvm.Cond.code ({ cls := "PeerSearch$Library", name := "add", desc := "(LPeerSearch$Cutter;LPeerSearch$Sha;)I" } : Jvm.MethodName) prog_12_method_3_code (6 : Nat) (Option.some Jvm.ClassFile.FieldType.int)) ∈ lw_all := lw_g (lw_at lw_m7 97 rfl) rfl
theorem q1710 : (Jvm.Cond.methodLink "PeerSearch$Library" (30 : Nat) ({ cls := "PeerSearch$Library", name := "find", desc := "(LPeerSearch$Cutter;I)I" } : Jvm.MethodName)) ∈ lw_all := lw_g (lw_at lw_m7 98 rfl) rfl
theorem q1711 : (Jvm.Cond.privateMethod ({ cls := "PeerSearch$Library", name := "find", desc := "(LPeerSearch$Cutter;I)I" } : Jvm.MethodName)) ∈ lw_tbl := lw_at lw_m7 99 rfl
theorem q1712 : (Jvm.Cond.instanceMethod ({ cls := "PeerSearch$Library", name := "find", desc := "(LPeerSearch$Cutter;I)I" } : Jvm.MethodName)) ∈ lw_all := lw_g (lw_at lw_m7 100 rfl) rfl
theorem q1713 : (Jvm.Cond.code ({ cls := "PeerSearch$Library", name := "find", desc := "(LPeerSearch$Cutter;I)I" } : Jvm.MethodName) prog_12_method_2_code (4 : Nat) (Option.some Jvm.ClassFile.FieldType.int)) ∈ lw_all := lw_g (lw_at lw_m7 101 rfl) rfl
theorem q1714 : (Jvm.Cond.methodLink "PeerSearch$Library" (21 : Nat) ({ cls := "PeerSearch$Term", name := "compare", desc := "(LPeerSearch$Cutter;I)I" } : Jvm.MethodName)) ∈ lw_all := lw_g (lw_at lw_m7 102 rfl) rfl
theorem q1719 : (Jvm.Cond.methodLink "PeerSearch$Library" (36 : Nat) ({ cls := "PeerSearch$Library", name := "make", desc := "(LPeerSearch$Cutter;IILPeerSearch$Sha;)V" } : Jvm.MethodName)) ∈ lw_all := lw_g (lw_at lw_m7 107 rfl) rfl
theorem q1720 : (Jvm.Cond.privateMethod ({ cls := "PeerSearch$Library", name := "make", desc := "(LPeerSearch$Cutter;IILPeerSearch$Sha;)V" } : Jvm.MethodName)) ∈ lw_tbl := lw_at lw_m7 108 rfl
theorem q1721 : (Jvm.Cond.instanceMethod ({ cls := "PeerSearch$Library", name := "make", desc := "(LPeerSearch$Cutter;IILPeerSearch$Sha;)V" } : Jvm.MethodName)) ∈ lw_all := lw_g (lw_at lw_m7 109 rfl) rfl
theorem q1722 : (Jvm.Cond.code ({ cls := "PeerSearch$Library", name := "make", desc := "(LPeerSearch$Cutter;IILPeerSearch$Sha;)V" } : Jvm.MethodName) prog_12_method_4_code (7 : Nat) (Option.none : Option Jvm.ClassFile.FieldType)) ∈ lw_all := lw_g (lw_at lw_m7 110 rfl) rfl
theorem q1724 : (Jvm.Cond.methodLinkNest "PeerSearch$Library" (45 : Nat) ({ cls := "PeerSearch$Term", name := "<init>", desc := "()V" } : Jvm.MethodName) "PeerSearch") ∈ lw_tbl := lw_at lw_m7 112 rfl
theorem q1731 : (Jvm.Cond.fieldLinkNest "PeerSearch$Library" (50 : Nat) "PeerSearch$Term" "letters" "[B" "PeerSearch") ∈ lw_tbl := lw_at lw_m7 119 rfl
theorem q1733 : (Jvm.Cond.fieldLinkNest "PeerSearch$Library" (49 : Nat) "PeerSearch$Term" "size" "I" "PeerSearch") ∈ lw_tbl := lw_at lw_m7 121 rfl
theorem q1736 : (Jvm.Cond.fieldLinkNest "PeerSearch$Library" (55 : Nat) "PeerSearch$Term" "key" "LPeerSearch$Key;" "PeerSearch") ∈ lw_tbl := lw_at lw_m7 124 rfl
theorem q1738 : (Jvm.Cond.fieldLinkNest "PeerSearch$Library" (40 : Nat) "PeerSearch$Term" "weights" "[I" "PeerSearch") ∈ lw_tbl := lw_at lw_m7 126 rfl
theorem q1749 : (Jvm.Cond.methodLink "PeerSearch$Library" (59 : Nat) ({ cls := "PeerSearch$Sha", name := "of", desc := "([BILPeerSearch$Key;)V" } : Jvm.MethodName)) ∈ lw_all := lw_g (lw_at lw_m7 137 rfl) rfl
theorem q2095 : (Jvm.Cond.instanceMethod ({ cls := "PeerSearch$Library", name := "weight", desc := "(LPeerSearch$Cutter;II)I" } : Jvm.MethodName)) ∈ lw_all := lw_g (lw_at lw_m9 3 rfl) rfl
theorem q2096 : (Jvm.Cond.selects "PeerSearch$Library" ({ cls := "PeerSearch$Library", name := "weight", desc := "(LPeerSearch$Cutter;II)I" } : Jvm.MethodName) ({ cls := "PeerSearch$Library", name := "weight", desc := "(LPeerSearch$Cutter;II)I" } : Jvm.MethodName)) ∈ lw_all := lw_g (lw_at lw_m9 4 rfl) rfl
theorem q2097 : (Jvm.Cond.code ({ cls := "PeerSearch$Library", name := "weight", desc := "(LPeerSearch$Cutter;II)I" } : Jvm.MethodName) prog_12_method_5_code (5 : Nat) (Option.some Jvm.ClassFile.FieldType.int)) ∈ lw_all := lw_g (lw_at lw_m9 5 rfl) rfl
theorem in_X19 : ∀ w ∈ wsX190, w ∈ lw_all := lw_in wsX190 [752, 754, 756] (by decide +kernel) (by decide +kernel)
/-! PeerSearch$Table -/
def RX20 : String := "PeerSearch$Table"
def TX20 : u_T := fun k => match k with
  | 0 => ("PeerSearch$Table", "own", "LPeerSearch$Key;", true)
  | 1 => ("PeerSearch$Table", "most", "I", true)
  | 2 => ("PeerSearch$Table", "pool", "LPeerSearch$Pool;", true)
  | 3 => ("PeerSearch$Table", "buckets", "[LPeerSearch$Bucket;", true)
  | _ => ("PeerSearch$Table", "count", "I", false)
def tyX20 : Nat → FieldType := fun k => match k with
  | 0 => .object "PeerSearch$Key"
  | 1 => .int
  | 2 => .object "PeerSearch$Pool"
  | 3 => .array (.object "PeerSearch$Bucket")
  | _ => .int
abbrev wsX200 : List Cond := u_ws RX20 TX20 5
theorem nmX20 : ∀ a, a < 5 → ∀ b, b < 5 → a ≠ b → (TX20 a).2.1 ≠ (TX20 b).2.1 := by decide +kernel
theorem tyX20_ok : ∀ k, k < 5 → parseFieldDescriptor (TX20 k).2.2.1 = some (tyX20 k) := by decide +kernel
abbrev cX20_init : ByteArray := prog_27_method_1_code
def yX20_init : MethodName := ⟨RX20, "<init>", "(LPeerSearch$Key;ILPeerSearch$Pool;)V"⟩
abbrev cX20_clear : ByteArray := prog_27_method_4_code
def yX20_clear : MethodName := ⟨RX20, "clear", "()V"⟩
abbrev cX20_empty : ByteArray := prog_27_method_3_code
def yX20_empty : MethodName := ⟨RX20, "empty", "(LPeerSearch$Row;)V"⟩
abbrev cX20_open : ByteArray := prog_27_method_2_code
def yX20_open : MethodName := ⟨RX20, "open", "()LPeerSearch$Bucket;"⟩
abbrev cX20_see : ByteArray := prog_27_method_7_code
def yX20_see : MethodName := ⟨RX20, "see", "(LPeerSearch$Key;I)LPeerSearch$Bucket;"⟩
abbrev cX20_bucketFor : ByteArray := prog_27_method_5_code
def yX20_bucketFor : MethodName := ⟨RX20, "bucketFor", "(I)LPeerSearch$Bucket;"⟩
abbrev cX20_split : ByteArray := prog_27_method_6_code
def yX20_split : MethodName := ⟨RX20, "split", "()V"⟩
abbrev cX20_reserve : ByteArray := prog_27_method_8_code
def yX20_reserve : MethodName := ⟨RX20, "reserve", "(LPeerSearch$Bucket;ILPeerSearch$Key;I)V"⟩
abbrev cX20_nearest : ByteArray := prog_27_method_14_code
def yX20_nearest : MethodName := ⟨RX20, "nearest", "(LPeerSearch$Key;LPeerSearch$Key;[LPeerSearch$Contact;)I"⟩
abbrev cX20_closest : ByteArray := prog_27_method_13_code
def yX20_closest : MethodName := ⟨RX20, "closest", "()I"⟩
abbrev cX20_contact : ByteArray := prog_27_method_11_code
def yX20_contact : MethodName := ⟨RX20, "contact", "(ZI)LPeerSearch$Contact;"⟩
abbrev cX20_ranked : ByteArray := prog_27_method_12_code
def yX20_ranked : MethodName := ⟨RX20, "ranked", "(LPeerSearch$Row;I)LPeerSearch$Contact;"⟩
abbrev cX20_lose : ByteArray := prog_27_method_9_code
def yX20_lose : MethodName := ⟨RX20, "lose", "(LPeerSearch$Key;I)V"⟩
abbrev cX20_size : ByteArray := prog_27_method_10_code
def yX20_size : MethodName := ⟨RX20, "size", "(Z)I"⟩
abbrev cX20_hasAt : ByteArray := prog_27_method_15_code
def yX20_hasAt : MethodName := ⟨RX20, "hasAt", "(I)Z"⟩
theorem q194 : (Jvm.Cond.initialized "PeerSearch$Table") ∈ lw_all := lw_g (lw_at lw_m1 22 rfl) rfl
theorem q766 : (Jvm.Cond.instantiable "PeerSearch$Table" (5 : Nat)) ∈ lw_all := lw_g (lw_at lw_m3 114 rfl) rfl
theorem q768 : (Jvm.Cond.instanceMethod ({ cls := "PeerSearch$Table", name := "<init>", desc := "(LPeerSearch$Key;ILPeerSearch$Pool;)V" } : Jvm.MethodName)) ∈ lw_all := lw_g (lw_at lw_m3 116 rfl) rfl
theorem q769 : (Jvm.Cond.code ({ cls := "PeerSearch$Table", name := "<init>", desc := "(LPeerSearch$Key;ILPeerSearch$Pool;)V" } : Jvm.MethodName) prog_27_method_1_code (4 : Nat) (Option.none : Option Jvm.ClassFile.FieldType)) ∈ lw_all := lw_g (lw_at lw_m3 117 rfl) rfl
theorem q770 : (Jvm.Cond.methodLink "PeerSearch$Table" (3 : Nat) ({ cls := "java/lang/Object", name := "<init>", desc := "()V" } : Jvm.MethodName)) ∈ lw_all := lw_g (lw_at lw_m3 118 rfl) rfl
theorem q771 : (Jvm.Cond.classLink "PeerSearch$Table" (11 : Nat) "PeerSearch$Bucket") ∈ lw_all := lw_g (lw_at lw_m3 119 rfl) rfl
theorem q773 : (Jvm.Cond.methodLink "PeerSearch$Table" (31 : Nat) ({ cls := "PeerSearch$Table", name := "clear", desc := "()V" } : Jvm.MethodName)) ∈ lw_all := lw_g (lw_at lw_m3 121 rfl) rfl
theorem q774 : (Jvm.Cond.instanceMethod ({ cls := "PeerSearch$Table", name := "clear", desc := "()V" } : Jvm.MethodName)) ∈ lw_all := lw_g (lw_at lw_m3 122 rfl) rfl
theorem q775 : (Jvm.Cond.selects "PeerSearch$Table" ({ cls := "PeerSearch$Table", name := "clear", desc := "()V" } : Jvm.MethodName) ({ cls := "PeerSearch$Table", name := "clear", desc := "()V" } : Jvm.MethodName)) ∈ lw_all := lw_g (lw_at lw_m3 123 rfl) rfl
theorem q776 : (Jvm.Cond.code ({ cls := "PeerSearch$Table", name := "clear", desc := "()V" } : Jvm.MethodName) prog_27_method_4_code (2 : Nat) (Option.none : Option Jvm.ClassFile.FieldType)) ∈ lw_all := lw_g (lw_at lw_m3 124 rfl) rfl
theorem q777 : (Jvm.Cond.methodLink "PeerSearch$Table" (63 : Nat) ({ cls := "PeerSearch$Table", name := "empty", desc := "(LPeerSearch$Row;)V" } : Jvm.MethodName)) ∈ lw_all := lw_g (lw_at lw_m3 125 rfl) rfl
theorem q778 : (Jvm.Cond.privateMethod ({ cls := "PeerSearch$Table", name := "empty", desc := "(LPeerSearch$Row;)V" } : Jvm.MethodName)) ∈ lw_tbl := lw_at lw_m3 126 rfl
theorem q779 : (Jvm.Cond.instanceMethod ({ cls := "PeerSearch$Table", name := "empty", desc := "(LPeerSearch$Row;)V" } : Jvm.MethodName)) ∈ lw_all := lw_g (lw_at lw_m3 127 rfl) rfl
theorem q780 : (Jvm.Cond.code ({ cls := "PeerSearch$Table", name := "empty", desc := "(LPeerSearch$Row;)V" } : Jvm.MethodName) prog_27_method_3_code (2 : Nat) (Option.none : Option Jvm.ClassFile.FieldType)) ∈ lw_all := lw_g (lw_at lw_m3 128 rfl) rfl
theorem q781 : (Jvm.Cond.methodLink "PeerSearch$Table" (49 : Nat) ({ cls := "PeerSearch$Row", name := "remove", desc := "(I)LPeerSearch$Contact;" } : Jvm.MethodName)) ∈ lw_all := lw_g (lw_at lw_m3 129 rfl) rfl
theorem q785 : (Jvm.Cond.methodLink "PeerSearch$Table" (53 : Nat) ({ cls := "PeerSearch$Pool", name := "give", desc := "(LPeerSearch$Contact;)V" } : Jvm.MethodName)) ∈ lw_all := lw_g (lw_at lw_m3 133 rfl) rfl
theorem q789 : (Jvm.Cond.methodLink "PeerSearch$Table" (70 : Nat) ({ cls := "PeerSearch$Table", name := "open", desc := "()LPeerSearch$Bucket;" } : Jvm.MethodName)) ∈ lw_all := lw_g (lw_at lw_m3 137 rfl) rfl
theorem q790 : (Jvm.Cond.privateMethod ({ cls := "PeerSearch$Table", name := "open", desc := "()LPeerSearch$Bucket;" } : Jvm.MethodName)) ∈ lw_tbl := lw_at lw_m3 138 rfl
theorem q791 : (Jvm.Cond.instanceMethod ({ cls := "PeerSearch$Table", name := "open", desc := "()LPeerSearch$Bucket;" } : Jvm.MethodName)) ∈ lw_all := lw_g (lw_at lw_m3 139 rfl) rfl
theorem q792 : (Jvm.Cond.code ({ cls := "PeerSearch$Table", name := "open", desc := "()LPeerSearch$Bucket;" } : Jvm.MethodName) prog_27_method_2_code (2 : Nat) (Option.some (Jvm.ClassFile.FieldType.object "PeerSearch$Bucket"))) ∈ lw_all := lw_g (lw_at lw_m3 140 rfl) rfl
theorem q794 : (Jvm.Cond.methodLink "PeerSearch$Table" (37 : Nat) ({ cls := "PeerSearch$Bucket", name := "<init>", desc := "(I)V" } : Jvm.MethodName)) ∈ lw_all := lw_g (lw_at lw_m3 142 rfl) rfl
theorem q806 : (Jvm.Cond.fieldLinkNest "PeerSearch$Table" (74 : Nat) "PeerSearch$Row" "contacts" "[LPeerSearch$Contact;" "PeerSearch") ∈ lw_tbl := lw_at lw_m3 154 rfl
theorem q809 : (Jvm.Cond.fieldLinkNest "PeerSearch$Table" (44 : Nat) "PeerSearch$Row" "size" "I" "PeerSearch") ∈ lw_tbl := lw_at lw_m3 157 rfl
theorem q816 : (Jvm.Cond.fieldLinkNest "PeerSearch$Table" (59 : Nat) "PeerSearch$Bucket" "row" "LPeerSearch$Row;" "PeerSearch") ∈ lw_tbl := lw_at lw_m3 164 rfl
theorem q819 : (Jvm.Cond.fieldLinkNest "PeerSearch$Table" (67 : Nat) "PeerSearch$Bucket" "reserve" "LPeerSearch$Row;" "PeerSearch") ∈ lw_tbl := lw_at lw_m3 167 rfl
theorem q820 : (Jvm.Cond.fieldLinkNest "PeerSearch$Table" (40 : Nat) "PeerSearch$Bucket" "probes" "Z" "PeerSearch") ∈ lw_tbl := lw_at lw_m3 168 rfl
theorem q829 : (Jvm.Cond.fieldLink "PeerSearch$Table" (19 : Nat) "PeerSearch$Table" "own" "LPeerSearch$Key;") ∈ lw_all := lw_g (lw_at lw_m3 177 rfl) rfl
theorem q830 : (Jvm.Cond.fieldLink "PeerSearch$Table" (23 : Nat) "PeerSearch$Table" "most" "I") ∈ lw_all := lw_g (lw_at lw_m3 178 rfl) rfl
theorem q831 : (Jvm.Cond.fieldLink "PeerSearch$Table" (27 : Nat) "PeerSearch$Table" "pool" "LPeerSearch$Pool;") ∈ lw_all := lw_g (lw_at lw_m3 179 rfl) rfl
theorem q832 : (Jvm.Cond.fieldLink "PeerSearch$Table" (13 : Nat) "PeerSearch$Table" "buckets" "[LPeerSearch$Bucket;") ∈ lw_all := lw_g (lw_at lw_m3 180 rfl) rfl
theorem q833 : (Jvm.Cond.fieldLink "PeerSearch$Table" (34 : Nat) "PeerSearch$Table" "count" "I") ∈ lw_all := lw_g (lw_at lw_m3 181 rfl) rfl
theorem q834 : (Jvm.Cond.laysFinal "PeerSearch$Table" "PeerSearch$Table" "own" "LPeerSearch$Key;") ∈ lw_all := lw_g (lw_at lw_m3 182 rfl) rfl
theorem q835 : (Jvm.Cond.soleField "PeerSearch$Table" "own") ∈ lw_all := lw_g (lw_at lw_m3 183 rfl) rfl
theorem q836 : (Jvm.Cond.laysFinal "PeerSearch$Table" "PeerSearch$Table" "most" "I") ∈ lw_all := lw_g (lw_at lw_m3 184 rfl) rfl
theorem q837 : (Jvm.Cond.soleField "PeerSearch$Table" "most") ∈ lw_all := lw_g (lw_at lw_m3 185 rfl) rfl
theorem q838 : (Jvm.Cond.laysFinal "PeerSearch$Table" "PeerSearch$Table" "pool" "LPeerSearch$Pool;") ∈ lw_all := lw_g (lw_at lw_m3 186 rfl) rfl
theorem q839 : (Jvm.Cond.soleField "PeerSearch$Table" "pool") ∈ lw_all := lw_g (lw_at lw_m3 187 rfl) rfl
theorem q840 : (Jvm.Cond.laysFinal "PeerSearch$Table" "PeerSearch$Table" "buckets" "[LPeerSearch$Bucket;") ∈ lw_all := lw_g (lw_at lw_m3 188 rfl) rfl
theorem q841 : (Jvm.Cond.soleField "PeerSearch$Table" "buckets") ∈ lw_all := lw_g (lw_at lw_m3 189 rfl) rfl
theorem q842 : (Jvm.Cond.lays "PeerSearch$Table" "PeerSearch$Table" "count" "I") ∈ lw_all := lw_g (lw_at lw_m3 190 rfl) rfl
theorem q843 : (Jvm.Cond.soleField "PeerSearch$Table" "count") ∈ lw_all := lw_g (lw_at lw_m3 191 rfl) rfl
theorem q844 : (Jvm.Cond.superclass "PeerSearch$Table" "java/lang/Object") ∈ lw_all := lw_g (lw_at lw_m3 192 rfl) rfl
theorem q988 : (Jvm.Cond.instanceMethod ({ cls := "PeerSearch$Table", name := "see", desc := "(LPeerSearch$Key;I)LPeerSearch$Bucket;" } : Jvm.MethodName)) ∈ lw_all := lw_g (lw_at lw_m4 96 rfl) rfl
theorem q989 : (Jvm.Cond.selects "PeerSearch$Table" ({ cls := "PeerSearch$Table", name := "see", desc := "(LPeerSearch$Key;I)LPeerSearch$Bucket;" } : Jvm.MethodName) ({ cls := "PeerSearch$Table", name := "see", desc := "(LPeerSearch$Key;I)LPeerSearch$Bucket;" } : Jvm.MethodName)) ∈ lw_all := lw_g (lw_at lw_m4 97 rfl) rfl
theorem q990 : (Jvm.Cond.code ({ cls := "PeerSearch$Table", name := "see", desc := "(LPeerSearch$Key;I)LPeerSearch$Bucket;" } : Jvm.MethodName) prog_27_method_7_code (7 : Nat) (Option.some (Jvm.ClassFile.FieldType.object "PeerSearch$Bucket"))) ∈ lw_all := lw_g (lw_at lw_m4 98 rfl) rfl
theorem q991 : (Jvm.Cond.methodLink "PeerSearch$Table" (83 : Nat) ({ cls := "PeerSearch$Key", name := "common", desc := "(LPeerSearch$Key;)I" } : Jvm.MethodName)) ∈ lw_all := lw_g (lw_at lw_m4 99 rfl) rfl
theorem q992 : (Jvm.Cond.methodLink "PeerSearch$Table" (90 : Nat) ({ cls := "PeerSearch$Table", name := "bucketFor", desc := "(I)LPeerSearch$Bucket;" } : Jvm.MethodName)) ∈ lw_all := lw_g (lw_at lw_m4 100 rfl) rfl
theorem q993 : (Jvm.Cond.privateMethod ({ cls := "PeerSearch$Table", name := "bucketFor", desc := "(I)LPeerSearch$Bucket;" } : Jvm.MethodName)) ∈ lw_tbl := lw_at lw_m4 101 rfl
theorem q994 : (Jvm.Cond.instanceMethod ({ cls := "PeerSearch$Table", name := "bucketFor", desc := "(I)LPeerSearch$Bucket;" } : Jvm.MethodName)) ∈ lw_all := lw_g (lw_at lw_m4 102 rfl) rfl
theorem q995 : (Jvm.Cond.code ({ cls := "PeerSearch$Table", name := "bucketFor", desc := "(I)LPeerSearch$Bucket;" } : Jvm.MethodName) prog_27_method_5_code (2 : Nat) (Option.some (Jvm.ClassFile.FieldType.object "PeerSearch$Bucket"))) ∈ lw_all := lw_g (lw_at lw_m4 103 rfl) rfl
theorem q996 : (Jvm.Cond.methodLink "PeerSearch$Table" (94 : Nat) ({ cls := "PeerSearch$Row", name := "find", desc := "(LPeerSearch$Key;)I" } : Jvm.MethodName)) ∈ lw_all := lw_g (lw_at lw_m4 104 rfl) rfl
theorem q1001 : (Jvm.Cond.methodLink "PeerSearch$Table" (100 : Nat) ({ cls := "PeerSearch$Row", name := "touch", desc := "(I)V" } : Jvm.MethodName)) ∈ lw_all := lw_g (lw_at lw_m4 109 rfl) rfl
theorem q1010 : (Jvm.Cond.methodLink "PeerSearch$Table" (103 : Nat) ({ cls := "PeerSearch$Row", name := "isFull", desc := "()Z" } : Jvm.MethodName)) ∈ lw_all := lw_g (lw_at lw_m4 118 rfl) rfl
theorem q1014 : (Jvm.Cond.methodLink "PeerSearch$Table" (107 : Nat) ({ cls := "PeerSearch$Table", name := "split", desc := "()V" } : Jvm.MethodName)) ∈ lw_all := lw_g (lw_at lw_m4 122 rfl) rfl
theorem q1015 : (Jvm.Cond.privateMethod ({ cls := "PeerSearch$Table", name := "split", desc := "()V" } : Jvm.MethodName)) ∈ lw_tbl := lw_at lw_m4 123 rfl
theorem q1016 : (Jvm.Cond.instanceMethod ({ cls := "PeerSearch$Table", name := "split", desc := "()V" } : Jvm.MethodName)) ∈ lw_all := lw_g (lw_at lw_m4 124 rfl) rfl
theorem q1017 : (Jvm.Cond.code ({ cls := "PeerSearch$Table", name := "split", desc := "()V" } : Jvm.MethodName) prog_27_method_6_code (5 : Nat) (Option.none : Option Jvm.ClassFile.FieldType)) ∈ lw_all := lw_g (lw_at lw_m4 125 rfl) rfl
theorem q1018 : (Jvm.Cond.methodLink "PeerSearch$Table" (87 : Nat) ({ cls := "PeerSearch$Row", name := "add", desc := "(LPeerSearch$Contact;)V" } : Jvm.MethodName)) ∈ lw_all := lw_g (lw_at lw_m4 126 rfl) rfl
theorem q1019 : (Jvm.Cond.methodLink "PeerSearch$Table" (110 : Nat) ({ cls := "PeerSearch$Pool", name := "take", desc := "(LPeerSearch$Key;I)LPeerSearch$Contact;" } : Jvm.MethodName)) ∈ lw_all := lw_g (lw_at lw_m4 127 rfl) rfl
theorem q1033 : (Jvm.Cond.fieldLinkNest "PeerSearch$Table" (78 : Nat) "PeerSearch$Contact" "key" "LPeerSearch$Key;" "PeerSearch") ∈ lw_tbl := lw_at lw_m4 141 rfl
theorem q1039 : (Jvm.Cond.fieldLinkNest "PeerSearch$Table" (97 : Nat) "PeerSearch$Contact" "address" "I" "PeerSearch") ∈ lw_tbl := lw_at lw_m4 147 rfl
theorem q1048 : (Jvm.Cond.methodLink "PeerSearch$Table" (114 : Nat) ({ cls := "PeerSearch$Table", name := "reserve", desc := "(LPeerSearch$Bucket;ILPeerSearch$Key;I)V" } : Jvm.MethodName)) ∈ lw_all := lw_g (lw_at lw_m4 156 rfl) rfl
theorem q1049 : (Jvm.Cond.privateMethod ({ cls := "PeerSearch$Table", name := "reserve", desc := "(LPeerSearch$Bucket;ILPeerSearch$Key;I)V" } : Jvm.MethodName)) ∈ lw_tbl := lw_at lw_m4 157 rfl
theorem q1050 : (Jvm.Cond.instanceMethod ({ cls := "PeerSearch$Table", name := "reserve", desc := "(LPeerSearch$Bucket;ILPeerSearch$Key;I)V" } : Jvm.MethodName)) ∈ lw_all := lw_g (lw_at lw_m4 158 rfl) rfl
theorem q1051 : (Jvm.Cond.code ({ cls := "PeerSearch$Table", name := "reserve", desc := "(LPeerSearch$Bucket;ILPeerSearch$Key;I)V" } : Jvm.MethodName) prog_27_method_8_code (5 : Nat) (Option.none : Option Jvm.ClassFile.FieldType)) ∈ lw_all := lw_g (lw_at lw_m4 159 rfl) rfl
theorem q1307 : (Jvm.Cond.instanceMethod ({ cls := "PeerSearch$Table", name := "nearest", desc := "(LPeerSearch$Key;LPeerSearch$Key;[LPeerSearch$Contact;)I" } : Jvm.MethodName)) ∈ lw_all := lw_g (lw_at lw_m5 175 rfl) rfl
theorem q1308 : (Jvm.Cond.selects "PeerSearch$Table" ({ cls := "PeerSearch$Table", name := "nearest", desc := "(LPeerSearch$Key;LPeerSearch$Key;[LPeerSearch$Contact;)I" } : Jvm.MethodName) ({ cls := "PeerSearch$Table", name := "nearest", desc := "(LPeerSearch$Key;LPeerSearch$Key;[LPeerSearch$Contact;)I" } : Jvm.MethodName)) ∈ lw_all := lw_g (lw_at lw_m5 176 rfl) rfl
theorem q1309 : (Jvm.Cond.code ({ cls := "PeerSearch$Table", name := "nearest", desc := "(LPeerSearch$Key;LPeerSearch$Key;[LPeerSearch$Contact;)I" } : Jvm.MethodName) prog_27_method_14_code (11 : Nat) (Option.some Jvm.ClassFile.FieldType.int)) ∈ lw_all := lw_g (lw_at lw_m5 177 rfl) rfl
theorem q1310 : (Jvm.Cond.methodLink "PeerSearch$Table" (127 : Nat) ({ cls := "PeerSearch$Key", name := "is", desc := "(LPeerSearch$Key;)Z" } : Jvm.MethodName)) ∈ lw_all := lw_g (lw_at lw_m5 178 rfl) rfl
theorem q1311 : (Jvm.Cond.methodLink "PeerSearch$Table" (131 : Nat) ({ cls := "PeerSearch$Key", name := "isNearer", desc := "(LPeerSearch$Key;LPeerSearch$Key;)Z" } : Jvm.MethodName)) ∈ lw_all := lw_g (lw_at lw_m5 179 rfl) rfl
theorem q1321 : (Jvm.Cond.instanceMethod ({ cls := "PeerSearch$Table", name := "closest", desc := "()I" } : Jvm.MethodName)) ∈ lw_all := lw_g (lw_at lw_m5 189 rfl) rfl
theorem q1322 : (Jvm.Cond.selects "PeerSearch$Table" ({ cls := "PeerSearch$Table", name := "closest", desc := "()I" } : Jvm.MethodName) ({ cls := "PeerSearch$Table", name := "closest", desc := "()I" } : Jvm.MethodName)) ∈ lw_all := lw_g (lw_at lw_m5 190 rfl) rfl
theorem q1323 : (Jvm.Cond.code ({ cls := "PeerSearch$Table", name := "closest", desc := "()I" } : Jvm.MethodName) prog_27_method_13_code (5 : Nat) (Option.some Jvm.ClassFile.FieldType.int)) ∈ lw_all := lw_g (lw_at lw_m5 191 rfl) rfl
theorem q1324 : (Jvm.Cond.methodLink "PeerSearch$Table" (121 : Nat) ({ cls := "java/lang/Math", name := "max", desc := "(II)I" } : Jvm.MethodName)) ∈ lw_all := lw_g (lw_at lw_m5 192 rfl) rfl
theorem q1677 : (Jvm.Cond.instanceMethod ({ cls := "PeerSearch$Table", name := "contact", desc := "(ZI)LPeerSearch$Contact;" } : Jvm.MethodName)) ∈ lw_all := lw_g (lw_at lw_m7 65 rfl) rfl
theorem q1678 : (Jvm.Cond.selects "PeerSearch$Table" ({ cls := "PeerSearch$Table", name := "contact", desc := "(ZI)LPeerSearch$Contact;" } : Jvm.MethodName) ({ cls := "PeerSearch$Table", name := "contact", desc := "(ZI)LPeerSearch$Contact;" } : Jvm.MethodName)) ∈ lw_all := lw_g (lw_at lw_m7 66 rfl) rfl
theorem q1679 : (Jvm.Cond.code ({ cls := "PeerSearch$Table", name := "contact", desc := "(ZI)LPeerSearch$Contact;" } : Jvm.MethodName) prog_27_method_11_code (6 : Nat) (Option.some (Jvm.ClassFile.FieldType.object "PeerSearch$Contact"))) ∈ lw_all := lw_g (lw_at lw_m7 67 rfl) rfl
theorem q1680 : (Jvm.Cond.methodLink "PeerSearch$Table" (117 : Nat) ({ cls := "PeerSearch$Table", name := "ranked", desc := "(LPeerSearch$Row;I)LPeerSearch$Contact;" } : Jvm.MethodName)) ∈ lw_all := lw_g (lw_at lw_m7 68 rfl) rfl
theorem q1681 : (Jvm.Cond.privateMethod ({ cls := "PeerSearch$Table", name := "ranked", desc := "(LPeerSearch$Row;I)LPeerSearch$Contact;" } : Jvm.MethodName)) ∈ lw_tbl := lw_at lw_m7 69 rfl
theorem q1682 : (Jvm.Cond.instanceMethod ({ cls := "PeerSearch$Table", name := "ranked", desc := "(LPeerSearch$Row;I)LPeerSearch$Contact;" } : Jvm.MethodName)) ∈ lw_all := lw_g (lw_at lw_m7 70 rfl) rfl
theorem q1683 : (Jvm.Cond.code ({ cls := "PeerSearch$Table", name := "ranked", desc := "(LPeerSearch$Row;I)LPeerSearch$Contact;" } : Jvm.MethodName) prog_27_method_12_code (6 : Nat) (Option.some (Jvm.ClassFile.FieldType.object "PeerSearch$Contact"))) ∈ lw_all := lw_g (lw_at lw_m7 71 rfl) rfl
theorem q1971 : (Jvm.Cond.instanceMethod ({ cls := "PeerSearch$Table", name := "lose", desc := "(LPeerSearch$Key;I)V" } : Jvm.MethodName)) ∈ lw_all := lw_g (lw_at lw_m8 119 rfl) rfl
theorem q1972 : (Jvm.Cond.selects "PeerSearch$Table" ({ cls := "PeerSearch$Table", name := "lose", desc := "(LPeerSearch$Key;I)V" } : Jvm.MethodName) ({ cls := "PeerSearch$Table", name := "lose", desc := "(LPeerSearch$Key;I)V" } : Jvm.MethodName)) ∈ lw_all := lw_g (lw_at lw_m8 120 rfl) rfl
theorem q1973 : (Jvm.Cond.code ({ cls := "PeerSearch$Table", name := "lose", desc := "(LPeerSearch$Key;I)V" } : Jvm.MethodName) prog_27_method_9_code (7 : Nat) (Option.none : Option Jvm.ClassFile.FieldType)) ∈ lw_all := lw_g (lw_at lw_m8 121 rfl) rfl
theorem q2039 : (Jvm.Cond.instanceMethod ({ cls := "PeerSearch$Table", name := "size", desc := "(Z)I" } : Jvm.MethodName)) ∈ lw_all := lw_g (lw_at lw_m8 187 rfl) rfl
theorem q2040 : (Jvm.Cond.selects "PeerSearch$Table" ({ cls := "PeerSearch$Table", name := "size", desc := "(Z)I" } : Jvm.MethodName) ({ cls := "PeerSearch$Table", name := "size", desc := "(Z)I" } : Jvm.MethodName)) ∈ lw_all := lw_g (lw_at lw_m8 188 rfl) rfl
theorem q2041 : (Jvm.Cond.code ({ cls := "PeerSearch$Table", name := "size", desc := "(Z)I" } : Jvm.MethodName) prog_27_method_10_code (4 : Nat) (Option.some Jvm.ClassFile.FieldType.int)) ∈ lw_all := lw_g (lw_at lw_m8 189 rfl) rfl
theorem q2077 : (Jvm.Cond.instanceMethod ({ cls := "PeerSearch$Table", name := "hasAt", desc := "(I)Z" } : Jvm.MethodName)) ∈ lw_all := lw_g (lw_at lw_m8 225 rfl) rfl
theorem q2078 : (Jvm.Cond.selects "PeerSearch$Table" ({ cls := "PeerSearch$Table", name := "hasAt", desc := "(I)Z" } : Jvm.MethodName) ({ cls := "PeerSearch$Table", name := "hasAt", desc := "(I)Z" } : Jvm.MethodName)) ∈ lw_all := lw_g (lw_at lw_m8 226 rfl) rfl
theorem q2079 : (Jvm.Cond.code ({ cls := "PeerSearch$Table", name := "hasAt", desc := "(I)Z" } : Jvm.MethodName) prog_27_method_15_code (4 : Nat) (Option.some Jvm.ClassFile.FieldType.boolean)) ∈ lw_all := lw_g (lw_at lw_m8 227 rfl) rfl
theorem in_X20 : ∀ w ∈ wsX200, w ∈ lw_all := lw_in wsX200 [834, 836, 838, 840, 842] (by decide +kernel) (by decide +kernel)
/-! PeerSearch$Bucket -/
def RX21 : String := "PeerSearch$Bucket"
def TX21 : u_T := fun k => match k with
  | 0 => ("PeerSearch$Bucket", "row", "LPeerSearch$Row;", true)
  | 1 => ("PeerSearch$Bucket", "reserve", "LPeerSearch$Row;", true)
  | _ => ("PeerSearch$Bucket", "probes", "Z", false)
def tyX21 : Nat → FieldType := fun k => match k with
  | 0 => .object "PeerSearch$Row"
  | 1 => .object "PeerSearch$Row"
  | _ => .boolean
abbrev wsX210 : List Cond := u_ws RX21 TX21 3
theorem nmX21 : ∀ a, a < 3 → ∀ b, b < 3 → a ≠ b → (TX21 a).2.1 ≠ (TX21 b).2.1 := by decide +kernel
theorem tyX21_ok : ∀ k, k < 3 → parseFieldDescriptor (TX21 k).2.2.1 = some (tyX21 k) := by decide +kernel
abbrev cX21_init : ByteArray := prog_4_method_1_code
def yX21_init : MethodName := ⟨RX21, "<init>", "(I)V"⟩
theorem q195 : (Jvm.Cond.initialized "PeerSearch$Bucket") ∈ lw_all := lw_g (lw_at lw_m1 23 rfl) rfl
theorem q793 : (Jvm.Cond.instantiable "PeerSearch$Bucket" (3 : Nat)) ∈ lw_all := lw_g (lw_at lw_m3 141 rfl) rfl
theorem q795 : (Jvm.Cond.instanceMethod ({ cls := "PeerSearch$Bucket", name := "<init>", desc := "(I)V" } : Jvm.MethodName)) ∈ lw_all := lw_g (lw_at lw_m3 143 rfl) rfl
theorem q796 : (Jvm.Cond.code ({ cls := "PeerSearch$Bucket", name := "<init>", desc := "(I)V" } : Jvm.MethodName) prog_4_method_1_code (2 : Nat) (Option.none : Option Jvm.ClassFile.FieldType)) ∈ lw_all := lw_g (lw_at lw_m3 144 rfl) rfl
theorem q797 : (Jvm.Cond.methodLink "PeerSearch$Bucket" (1 : Nat) ({ cls := "java/lang/Object", name := "<init>", desc := "()V" } : Jvm.MethodName)) ∈ lw_all := lw_g (lw_at lw_m3 145 rfl) rfl
theorem q798 : (Jvm.Cond.classLink "PeerSearch$Bucket" (7 : Nat) "PeerSearch$Row") ∈ lw_all := lw_g (lw_at lw_m3 146 rfl) rfl
theorem q800 : (Jvm.Cond.methodLink "PeerSearch$Bucket" (9 : Nat) ({ cls := "PeerSearch$Row", name := "<init>", desc := "(I)V" } : Jvm.MethodName)) ∈ lw_all := lw_g (lw_at lw_m3 148 rfl) rfl
theorem q815 : (Jvm.Cond.fieldLink "PeerSearch$Bucket" (12 : Nat) "PeerSearch$Bucket" "row" "LPeerSearch$Row;") ∈ lw_all := lw_g (lw_at lw_m3 163 rfl) rfl
theorem q818 : (Jvm.Cond.fieldLink "PeerSearch$Bucket" (18 : Nat) "PeerSearch$Bucket" "reserve" "LPeerSearch$Row;") ∈ lw_all := lw_g (lw_at lw_m3 166 rfl) rfl
theorem q822 : (Jvm.Cond.laysFinal "PeerSearch$Bucket" "PeerSearch$Bucket" "row" "LPeerSearch$Row;") ∈ lw_all := lw_g (lw_at lw_m3 170 rfl) rfl
theorem q823 : (Jvm.Cond.soleField "PeerSearch$Bucket" "row") ∈ lw_all := lw_g (lw_at lw_m3 171 rfl) rfl
theorem q824 : (Jvm.Cond.laysFinal "PeerSearch$Bucket" "PeerSearch$Bucket" "reserve" "LPeerSearch$Row;") ∈ lw_all := lw_g (lw_at lw_m3 172 rfl) rfl
theorem q825 : (Jvm.Cond.soleField "PeerSearch$Bucket" "reserve") ∈ lw_all := lw_g (lw_at lw_m3 173 rfl) rfl
theorem q826 : (Jvm.Cond.lays "PeerSearch$Bucket" "PeerSearch$Bucket" "probes" "Z") ∈ lw_all := lw_g (lw_at lw_m3 174 rfl) rfl
theorem q827 : (Jvm.Cond.soleField "PeerSearch$Bucket" "probes") ∈ lw_all := lw_g (lw_at lw_m3 175 rfl) rfl
theorem q828 : (Jvm.Cond.superclass "PeerSearch$Bucket" "java/lang/Object") ∈ lw_all := lw_g (lw_at lw_m3 176 rfl) rfl
theorem in_X21 : ∀ w ∈ wsX210, w ∈ lw_all := lw_in wsX210 [822, 824, 826] (by decide +kernel) (by decide +kernel)
/-! PeerSearch$Row -/
def RX22 : String := "PeerSearch$Row"
def TX22 : u_T := fun k => match k with
  | 0 => ("PeerSearch$Row", "contacts", "[LPeerSearch$Contact;", true)
  | _ => ("PeerSearch$Row", "size", "I", false)
def tyX22 : Nat → FieldType := fun k => match k with
  | 0 => .array (.object "PeerSearch$Contact")
  | _ => .int
abbrev wsX220 : List Cond := u_ws RX22 TX22 2
theorem nmX22 : ∀ a, a < 2 → ∀ b, b < 2 → a ≠ b → (TX22 a).2.1 ≠ (TX22 b).2.1 := by decide +kernel
theorem tyX22_ok : ∀ k, k < 2 → parseFieldDescriptor (TX22 k).2.2.1 = some (tyX22 k) := by decide +kernel
abbrev cX22_remove : ByteArray := prog_24_method_5_code
def yX22_remove : MethodName := ⟨RX22, "remove", "(I)LPeerSearch$Contact;"⟩
abbrev cX22_init : ByteArray := prog_24_method_1_code
def yX22_init : MethodName := ⟨RX22, "<init>", "(I)V"⟩
abbrev cX22_find : ByteArray := prog_24_method_2_code
def yX22_find : MethodName := ⟨RX22, "find", "(LPeerSearch$Key;)I"⟩
abbrev cX22_touch : ByteArray := prog_24_method_6_code
def yX22_touch : MethodName := ⟨RX22, "touch", "(I)V"⟩
abbrev cX22_add : ByteArray := prog_24_method_4_code
def yX22_add : MethodName := ⟨RX22, "add", "(LPeerSearch$Contact;)V"⟩
abbrev cX22_isFull : ByteArray := prog_24_method_3_code
def yX22_isFull : MethodName := ⟨RX22, "isFull", "()Z"⟩
theorem q196 : (Jvm.Cond.initialized "PeerSearch$Row") ∈ lw_all := lw_g (lw_at lw_m1 24 rfl) rfl
theorem q782 : (Jvm.Cond.instanceMethod ({ cls := "PeerSearch$Row", name := "remove", desc := "(I)LPeerSearch$Contact;" } : Jvm.MethodName)) ∈ lw_all := lw_g (lw_at lw_m3 130 rfl) rfl
theorem q783 : (Jvm.Cond.selects "PeerSearch$Row" ({ cls := "PeerSearch$Row", name := "remove", desc := "(I)LPeerSearch$Contact;" } : Jvm.MethodName) ({ cls := "PeerSearch$Row", name := "remove", desc := "(I)LPeerSearch$Contact;" } : Jvm.MethodName)) ∈ lw_all := lw_g (lw_at lw_m3 131 rfl) rfl
theorem q784 : (Jvm.Cond.code ({ cls := "PeerSearch$Row", name := "remove", desc := "(I)LPeerSearch$Contact;" } : Jvm.MethodName) prog_24_method_5_code (4 : Nat) (Option.some (Jvm.ClassFile.FieldType.object "PeerSearch$Contact"))) ∈ lw_all := lw_g (lw_at lw_m3 132 rfl) rfl
theorem q799 : (Jvm.Cond.instantiable "PeerSearch$Row" (2 : Nat)) ∈ lw_all := lw_g (lw_at lw_m3 147 rfl) rfl
theorem q801 : (Jvm.Cond.instanceMethod ({ cls := "PeerSearch$Row", name := "<init>", desc := "(I)V" } : Jvm.MethodName)) ∈ lw_all := lw_g (lw_at lw_m3 149 rfl) rfl
theorem q802 : (Jvm.Cond.code ({ cls := "PeerSearch$Row", name := "<init>", desc := "(I)V" } : Jvm.MethodName) prog_24_method_1_code (2 : Nat) (Option.none : Option Jvm.ClassFile.FieldType)) ∈ lw_all := lw_g (lw_at lw_m3 150 rfl) rfl
theorem q803 : (Jvm.Cond.methodLink "PeerSearch$Row" (3 : Nat) ({ cls := "java/lang/Object", name := "<init>", desc := "()V" } : Jvm.MethodName)) ∈ lw_all := lw_g (lw_at lw_m3 151 rfl) rfl
theorem q804 : (Jvm.Cond.classLink "PeerSearch$Row" (9 : Nat) "PeerSearch$Contact") ∈ lw_all := lw_g (lw_at lw_m3 152 rfl) rfl
theorem q805 : (Jvm.Cond.fieldLink "PeerSearch$Row" (11 : Nat) "PeerSearch$Row" "contacts" "[LPeerSearch$Contact;") ∈ lw_all := lw_g (lw_at lw_m3 153 rfl) rfl
theorem q808 : (Jvm.Cond.fieldLink "PeerSearch$Row" (17 : Nat) "PeerSearch$Row" "size" "I") ∈ lw_all := lw_g (lw_at lw_m3 156 rfl) rfl
theorem q810 : (Jvm.Cond.laysFinal "PeerSearch$Row" "PeerSearch$Row" "contacts" "[LPeerSearch$Contact;") ∈ lw_all := lw_g (lw_at lw_m3 158 rfl) rfl
theorem q811 : (Jvm.Cond.soleField "PeerSearch$Row" "contacts") ∈ lw_all := lw_g (lw_at lw_m3 159 rfl) rfl
theorem q812 : (Jvm.Cond.lays "PeerSearch$Row" "PeerSearch$Row" "size" "I") ∈ lw_all := lw_g (lw_at lw_m3 160 rfl) rfl
theorem q813 : (Jvm.Cond.soleField "PeerSearch$Row" "size") ∈ lw_all := lw_g (lw_at lw_m3 161 rfl) rfl
theorem q814 : (Jvm.Cond.superclass "PeerSearch$Row" "java/lang/Object") ∈ lw_all := lw_g (lw_at lw_m3 162 rfl) rfl
theorem q997 : (Jvm.Cond.instanceMethod ({ cls := "PeerSearch$Row", name := "find", desc := "(LPeerSearch$Key;)I" } : Jvm.MethodName)) ∈ lw_all := lw_g (lw_at lw_m4 105 rfl) rfl
theorem q998 : (Jvm.Cond.selects "PeerSearch$Row" ({ cls := "PeerSearch$Row", name := "find", desc := "(LPeerSearch$Key;)I" } : Jvm.MethodName) ({ cls := "PeerSearch$Row", name := "find", desc := "(LPeerSearch$Key;)I" } : Jvm.MethodName)) ∈ lw_all := lw_g (lw_at lw_m4 106 rfl) rfl
theorem q999 : (Jvm.Cond.code ({ cls := "PeerSearch$Row", name := "find", desc := "(LPeerSearch$Key;)I" } : Jvm.MethodName) prog_24_method_2_code (3 : Nat) (Option.some Jvm.ClassFile.FieldType.int)) ∈ lw_all := lw_g (lw_at lw_m4 107 rfl) rfl
theorem q1000 : (Jvm.Cond.methodLink "PeerSearch$Row" (25 : Nat) ({ cls := "PeerSearch$Key", name := "is", desc := "(LPeerSearch$Key;)Z" } : Jvm.MethodName)) ∈ lw_all := lw_g (lw_at lw_m4 108 rfl) rfl
theorem q1002 : (Jvm.Cond.instanceMethod ({ cls := "PeerSearch$Row", name := "touch", desc := "(I)V" } : Jvm.MethodName)) ∈ lw_all := lw_g (lw_at lw_m4 110 rfl) rfl
theorem q1003 : (Jvm.Cond.selects "PeerSearch$Row" ({ cls := "PeerSearch$Row", name := "touch", desc := "(I)V" } : Jvm.MethodName) ({ cls := "PeerSearch$Row", name := "touch", desc := "(I)V" } : Jvm.MethodName)) ∈ lw_all := lw_g (lw_at lw_m4 111 rfl) rfl
theorem q1004 : (Jvm.Cond.code ({ cls := "PeerSearch$Row", name := "touch", desc := "(I)V" } : Jvm.MethodName) prog_24_method_6_code (2 : Nat) (Option.none : Option Jvm.ClassFile.FieldType)) ∈ lw_all := lw_g (lw_at lw_m4 112 rfl) rfl
theorem q1005 : (Jvm.Cond.methodLink "PeerSearch$Row" (31 : Nat) ({ cls := "PeerSearch$Row", name := "remove", desc := "(I)LPeerSearch$Contact;" } : Jvm.MethodName)) ∈ lw_all := lw_g (lw_at lw_m4 113 rfl) rfl
theorem q1006 : (Jvm.Cond.methodLink "PeerSearch$Row" (35 : Nat) ({ cls := "PeerSearch$Row", name := "add", desc := "(LPeerSearch$Contact;)V" } : Jvm.MethodName)) ∈ lw_all := lw_g (lw_at lw_m4 114 rfl) rfl
theorem q1007 : (Jvm.Cond.instanceMethod ({ cls := "PeerSearch$Row", name := "add", desc := "(LPeerSearch$Contact;)V" } : Jvm.MethodName)) ∈ lw_all := lw_g (lw_at lw_m4 115 rfl) rfl
theorem q1008 : (Jvm.Cond.selects "PeerSearch$Row" ({ cls := "PeerSearch$Row", name := "add", desc := "(LPeerSearch$Contact;)V" } : Jvm.MethodName) ({ cls := "PeerSearch$Row", name := "add", desc := "(LPeerSearch$Contact;)V" } : Jvm.MethodName)) ∈ lw_all := lw_g (lw_at lw_m4 116 rfl) rfl
theorem q1009 : (Jvm.Cond.code ({ cls := "PeerSearch$Row", name := "add", desc := "(LPeerSearch$Contact;)V" } : Jvm.MethodName) prog_24_method_4_code (2 : Nat) (Option.none : Option Jvm.ClassFile.FieldType)) ∈ lw_all := lw_g (lw_at lw_m4 117 rfl) rfl
theorem q1011 : (Jvm.Cond.instanceMethod ({ cls := "PeerSearch$Row", name := "isFull", desc := "()Z" } : Jvm.MethodName)) ∈ lw_all := lw_g (lw_at lw_m4 119 rfl) rfl
theorem q1012 : (Jvm.Cond.selects "PeerSearch$Row" ({ cls := "PeerSearch$Row", name := "isFull", desc := "()Z" } : Jvm.MethodName) ({ cls := "PeerSearch$Row", name := "isFull", desc := "()Z" } : Jvm.MethodName)) ∈ lw_all := lw_g (lw_at lw_m4 120 rfl) rfl
theorem q1013 : (Jvm.Cond.code ({ cls := "PeerSearch$Row", name := "isFull", desc := "()Z" } : Jvm.MethodName) prog_24_method_3_code (1 : Nat) (Option.some Jvm.ClassFile.FieldType.boolean)) ∈ lw_all := lw_g (lw_at lw_m4 121 rfl) rfl
theorem q1031 : (Jvm.Cond.fieldLinkNest "PeerSearch$Row" (21 : Nat) "PeerSearch$Contact" "key" "LPeerSearch$Key;" "PeerSearch") ∈ lw_tbl := lw_at lw_m4 139 rfl
theorem in_X22 : ∀ w ∈ wsX220, w ∈ lw_all := lw_in wsX220 [810, 812] (by decide +kernel) (by decide +kernel)
/-! PeerSearch$Contact -/
def RX23 : String := "PeerSearch$Contact"
def TX23 : u_T := fun k => match k with
  | 0 => ("PeerSearch$Contact", "key", "LPeerSearch$Key;", true)
  | _ => ("PeerSearch$Contact", "address", "I", false)
def tyX23 : Nat → FieldType := fun k => match k with
  | 0 => .object "PeerSearch$Key"
  | _ => .int
abbrev wsX230 : List Cond := u_ws RX23 TX23 2
theorem nmX23 : ∀ a, a < 2 → ∀ b, b < 2 → a ≠ b → (TX23 a).2.1 ≠ (TX23 b).2.1 := by decide +kernel
theorem tyX23_ok : ∀ k, k < 2 → parseFieldDescriptor (TX23 k).2.2.1 = some (tyX23 k) := by decide +kernel
abbrev cX23_init : ByteArray := prog_5_method_1_code
def yX23_init : MethodName := ⟨RX23, "<init>", "()V"⟩
theorem q197 : (Jvm.Cond.initialized "PeerSearch$Contact") ∈ lw_all := lw_g (lw_at lw_m1 25 rfl) rfl
theorem q1023 : (Jvm.Cond.instantiable "PeerSearch$Contact" (2 : Nat)) ∈ lw_all := lw_g (lw_at lw_m4 131 rfl) rfl
theorem q1025 : (Jvm.Cond.instanceMethod ({ cls := "PeerSearch$Contact", name := "<init>", desc := "()V" } : Jvm.MethodName)) ∈ lw_all := lw_g (lw_at lw_m4 133 rfl) rfl
theorem q1026 : (Jvm.Cond.code ({ cls := "PeerSearch$Contact", name := "<init>", desc := "()V" } : Jvm.MethodName) prog_5_method_1_code (1 : Nat) (Option.none : Option Jvm.ClassFile.FieldType)) ∈ lw_all := lw_g (lw_at lw_m4 134 rfl) rfl
theorem q1027 : (Jvm.Cond.methodLink "PeerSearch$Contact" (1 : Nat) ({ cls := "java/lang/Object", name := "<init>", desc := "()V" } : Jvm.MethodName)) ∈ lw_all := lw_g (lw_at lw_m4 135 rfl) rfl
theorem q1028 : (Jvm.Cond.classLink "PeerSearch$Contact" (7 : Nat) "PeerSearch$Key") ∈ lw_all := lw_g (lw_at lw_m4 136 rfl) rfl
theorem q1029 : (Jvm.Cond.methodLinkNest "PeerSearch$Contact" (9 : Nat) ({ cls := "PeerSearch$Key", name := "<init>", desc := "()V" } : Jvm.MethodName) "PeerSearch") ∈ lw_tbl := lw_at lw_m4 137 rfl
theorem q1030 : (Jvm.Cond.fieldLink "PeerSearch$Contact" (10 : Nat) "PeerSearch$Contact" "key" "LPeerSearch$Key;") ∈ lw_all := lw_g (lw_at lw_m4 138 rfl) rfl
theorem q1042 : (Jvm.Cond.laysFinal "PeerSearch$Contact" "PeerSearch$Contact" "key" "LPeerSearch$Key;") ∈ lw_all := lw_g (lw_at lw_m4 150 rfl) rfl
theorem q1043 : (Jvm.Cond.soleField "PeerSearch$Contact" "key") ∈ lw_all := lw_g (lw_at lw_m4 151 rfl) rfl
theorem q1044 : (Jvm.Cond.lays "PeerSearch$Contact" "PeerSearch$Contact" "address" "I") ∈ lw_all := lw_g (lw_at lw_m4 152 rfl) rfl
theorem q1045 : (Jvm.Cond.soleField "PeerSearch$Contact" "address") ∈ lw_all := lw_g (lw_at lw_m4 153 rfl) rfl
theorem q1046 : (Jvm.Cond.superclass "PeerSearch$Contact" "java/lang/Object") ∈ lw_all := lw_g (lw_at lw_m4 154 rfl) rfl
theorem in_X23 : ∀ w ∈ wsX230, w ∈ lw_all := lw_in wsX230 [1042, 1044] (by decide +kernel) (by decide +kernel)
/-! PeerSearch$Request -/
def RX24 : String := "PeerSearch$Request"
def TX24 : u_T := fun k => match k with
  | 0 => ("PeerSearch$Request", "number", "I", false)
  | 1 => ("PeerSearch$Request", "address", "I", false)
  | 2 => ("PeerSearch$Request", "type", "I", false)
  | 3 => ("PeerSearch$Request", "deadline", "I", false)
  | 4 => ("PeerSearch$Request", "sent", "I", false)
  | 5 => ("PeerSearch$Request", "life", "I", false)
  | 6 => ("PeerSearch$Request", "tag", "I", false)
  | 7 => ("PeerSearch$Request", "key", "LPeerSearch$Key;", true)
  | 8 => ("PeerSearch$Request", "packet", "LPeerSearch$Packet;", true)
  | 9 => ("PeerSearch$Request", "work", "LPeerSearch$Work;", false)
  | _ => ("PeerSearch$Request", "probed", "LPeerSearch$Bucket;", false)
def tyX24 : Nat → FieldType := fun k => match k with
  | 0 => .int
  | 1 => .int
  | 2 => .int
  | 3 => .int
  | 4 => .int
  | 5 => .int
  | 6 => .int
  | 7 => .object "PeerSearch$Key"
  | 8 => .object "PeerSearch$Packet"
  | 9 => .object "PeerSearch$Work"
  | _ => .object "PeerSearch$Bucket"
abbrev wsX240 : List Cond := u_ws RX24 TX24 11
theorem nmX24 : ∀ a, a < 11 → ∀ b, b < 11 → a ≠ b → (TX24 a).2.1 ≠ (TX24 b).2.1 := by decide +kernel
theorem tyX24_ok : ∀ k, k < 11 → parseFieldDescriptor (TX24 k).2.2.1 = some (tyX24 k) := by decide +kernel
abbrev cX24_init : ByteArray := prog_23_method_1_code
def yX24_init : MethodName := ⟨RX24, "<init>", "()V"⟩
theorem q198 : (Jvm.Cond.initialized "PeerSearch$Request") ∈ lw_all := lw_g (lw_at lw_m1 26 rfl) rfl
theorem q1072 : (Jvm.Cond.instantiable "PeerSearch$Request" (11 : Nat)) ∈ lw_all := lw_g (lw_at lw_m4 180 rfl) rfl
theorem q1074 : (Jvm.Cond.instanceMethod ({ cls := "PeerSearch$Request", name := "<init>", desc := "()V" } : Jvm.MethodName)) ∈ lw_all := lw_g (lw_at lw_m4 182 rfl) rfl
theorem q1075 : (Jvm.Cond.code ({ cls := "PeerSearch$Request", name := "<init>", desc := "()V" } : Jvm.MethodName) prog_23_method_1_code (1 : Nat) (Option.none : Option Jvm.ClassFile.FieldType)) ∈ lw_all := lw_g (lw_at lw_m4 183 rfl) rfl
theorem q1076 : (Jvm.Cond.methodLink "PeerSearch$Request" (1 : Nat) ({ cls := "java/lang/Object", name := "<init>", desc := "()V" } : Jvm.MethodName)) ∈ lw_all := lw_g (lw_at lw_m4 184 rfl) rfl
theorem q1077 : (Jvm.Cond.classLink "PeerSearch$Request" (7 : Nat) "PeerSearch$Key") ∈ lw_all := lw_g (lw_at lw_m4 185 rfl) rfl
theorem q1078 : (Jvm.Cond.methodLinkNest "PeerSearch$Request" (9 : Nat) ({ cls := "PeerSearch$Key", name := "<init>", desc := "()V" } : Jvm.MethodName) "PeerSearch") ∈ lw_tbl := lw_at lw_m4 186 rfl
theorem q1079 : (Jvm.Cond.classLink "PeerSearch$Request" (16 : Nat) "PeerSearch$Packet") ∈ lw_all := lw_g (lw_at lw_m4 187 rfl) rfl
theorem q1080 : (Jvm.Cond.methodLinkNest "PeerSearch$Request" (18 : Nat) ({ cls := "PeerSearch$Packet", name := "<init>", desc := "()V" } : Jvm.MethodName) "PeerSearch") ∈ lw_tbl := lw_at lw_m4 188 rfl
theorem q1088 : (Jvm.Cond.fieldLink "PeerSearch$Request" (10 : Nat) "PeerSearch$Request" "key" "LPeerSearch$Key;") ∈ lw_all := lw_g (lw_at lw_m4 196 rfl) rfl
theorem q1090 : (Jvm.Cond.fieldLink "PeerSearch$Request" (19 : Nat) "PeerSearch$Request" "packet" "LPeerSearch$Packet;") ∈ lw_all := lw_g (lw_at lw_m4 198 rfl) rfl
theorem q1094 : (Jvm.Cond.lays "PeerSearch$Request" "PeerSearch$Request" "number" "I") ∈ lw_all := lw_g (lw_at lw_m4 202 rfl) rfl
theorem q1095 : (Jvm.Cond.soleField "PeerSearch$Request" "number") ∈ lw_all := lw_g (lw_at lw_m4 203 rfl) rfl
theorem q1096 : (Jvm.Cond.lays "PeerSearch$Request" "PeerSearch$Request" "address" "I") ∈ lw_all := lw_g (lw_at lw_m4 204 rfl) rfl
theorem q1097 : (Jvm.Cond.soleField "PeerSearch$Request" "address") ∈ lw_all := lw_g (lw_at lw_m4 205 rfl) rfl
theorem q1098 : (Jvm.Cond.lays "PeerSearch$Request" "PeerSearch$Request" "type" "I") ∈ lw_all := lw_g (lw_at lw_m4 206 rfl) rfl
theorem q1099 : (Jvm.Cond.soleField "PeerSearch$Request" "type") ∈ lw_all := lw_g (lw_at lw_m4 207 rfl) rfl
theorem q1100 : (Jvm.Cond.lays "PeerSearch$Request" "PeerSearch$Request" "deadline" "I") ∈ lw_all := lw_g (lw_at lw_m4 208 rfl) rfl
theorem q1101 : (Jvm.Cond.soleField "PeerSearch$Request" "deadline") ∈ lw_all := lw_g (lw_at lw_m4 209 rfl) rfl
theorem q1102 : (Jvm.Cond.lays "PeerSearch$Request" "PeerSearch$Request" "sent" "I") ∈ lw_all := lw_g (lw_at lw_m4 210 rfl) rfl
theorem q1103 : (Jvm.Cond.soleField "PeerSearch$Request" "sent") ∈ lw_all := lw_g (lw_at lw_m4 211 rfl) rfl
theorem q1104 : (Jvm.Cond.lays "PeerSearch$Request" "PeerSearch$Request" "life" "I") ∈ lw_all := lw_g (lw_at lw_m4 212 rfl) rfl
theorem q1105 : (Jvm.Cond.soleField "PeerSearch$Request" "life") ∈ lw_all := lw_g (lw_at lw_m4 213 rfl) rfl
theorem q1106 : (Jvm.Cond.lays "PeerSearch$Request" "PeerSearch$Request" "tag" "I") ∈ lw_all := lw_g (lw_at lw_m4 214 rfl) rfl
theorem q1107 : (Jvm.Cond.soleField "PeerSearch$Request" "tag") ∈ lw_all := lw_g (lw_at lw_m4 215 rfl) rfl
theorem q1108 : (Jvm.Cond.laysFinal "PeerSearch$Request" "PeerSearch$Request" "key" "LPeerSearch$Key;") ∈ lw_all := lw_g (lw_at lw_m4 216 rfl) rfl
theorem q1109 : (Jvm.Cond.soleField "PeerSearch$Request" "key") ∈ lw_all := lw_g (lw_at lw_m4 217 rfl) rfl
theorem q1110 : (Jvm.Cond.laysFinal "PeerSearch$Request" "PeerSearch$Request" "packet" "LPeerSearch$Packet;") ∈ lw_all := lw_g (lw_at lw_m4 218 rfl) rfl
theorem q1111 : (Jvm.Cond.soleField "PeerSearch$Request" "packet") ∈ lw_all := lw_g (lw_at lw_m4 219 rfl) rfl
theorem q1112 : (Jvm.Cond.lays "PeerSearch$Request" "PeerSearch$Request" "work" "LPeerSearch$Work;") ∈ lw_all := lw_g (lw_at lw_m4 220 rfl) rfl
theorem q1113 : (Jvm.Cond.soleField "PeerSearch$Request" "work") ∈ lw_all := lw_g (lw_at lw_m4 221 rfl) rfl
theorem q1114 : (Jvm.Cond.lays "PeerSearch$Request" "PeerSearch$Request" "probed" "LPeerSearch$Bucket;") ∈ lw_all := lw_g (lw_at lw_m4 222 rfl) rfl
theorem q1115 : (Jvm.Cond.soleField "PeerSearch$Request" "probed") ∈ lw_all := lw_g (lw_at lw_m4 223 rfl) rfl
theorem q1116 : (Jvm.Cond.superclass "PeerSearch$Request" "java/lang/Object") ∈ lw_all := lw_g (lw_at lw_m4 224 rfl) rfl
theorem in_X24 : ∀ w ∈ wsX240, w ∈ lw_all := lw_in wsX240 [1094, 1096, 1098, 1100, 1102, 1104, 1106, 1108, 1110, 1112, 1114] (by decide +kernel) (by decide +kernel)
/-! PeerSearch$Datagram -/
def RX25 : String := "PeerSearch$Datagram"
def TX25 : u_T := fun k => match k with
  | 0 => ("PeerSearch$Datagram", "from", "I", false)
  | 1 => ("PeerSearch$Datagram", "to", "I", false)
  | 2 => ("PeerSearch$Datagram", "due", "I", false)
  | _ => ("PeerSearch$Datagram", "packet", "LPeerSearch$Packet;", true)
def tyX25 : Nat → FieldType := fun k => match k with
  | 0 => .int
  | 1 => .int
  | 2 => .int
  | _ => .object "PeerSearch$Packet"
abbrev wsX250 : List Cond := u_ws RX25 TX25 4
theorem nmX25 : ∀ a, a < 4 → ∀ b, b < 4 → a ≠ b → (TX25 a).2.1 ≠ (TX25 b).2.1 := by decide +kernel
theorem tyX25_ok : ∀ k, k < 4 → parseFieldDescriptor (TX25 k).2.2.1 = some (tyX25 k) := by decide +kernel
abbrev cX25_init : ByteArray := prog_7_method_1_code
def yX25_init : MethodName := ⟨RX25, "<init>", "()V"⟩
theorem q200 : (Jvm.Cond.initialized "PeerSearch$Datagram") ∈ lw_all := lw_g (lw_at lw_m1 28 rfl) rfl
theorem q1171 : (Jvm.Cond.instantiable "PeerSearch$Datagram" (4 : Nat)) ∈ lw_all := lw_g (lw_at lw_m5 39 rfl) rfl
theorem q1173 : (Jvm.Cond.instanceMethod ({ cls := "PeerSearch$Datagram", name := "<init>", desc := "()V" } : Jvm.MethodName)) ∈ lw_all := lw_g (lw_at lw_m5 41 rfl) rfl
theorem q1174 : (Jvm.Cond.code ({ cls := "PeerSearch$Datagram", name := "<init>", desc := "()V" } : Jvm.MethodName) prog_7_method_1_code (1 : Nat) (Option.none : Option Jvm.ClassFile.FieldType)) ∈ lw_all := lw_g (lw_at lw_m5 42 rfl) rfl
theorem q1175 : (Jvm.Cond.methodLink "PeerSearch$Datagram" (1 : Nat) ({ cls := "java/lang/Object", name := "<init>", desc := "()V" } : Jvm.MethodName)) ∈ lw_all := lw_g (lw_at lw_m5 43 rfl) rfl
theorem q1176 : (Jvm.Cond.classLink "PeerSearch$Datagram" (7 : Nat) "PeerSearch$Packet") ∈ lw_all := lw_g (lw_at lw_m5 44 rfl) rfl
theorem q1177 : (Jvm.Cond.methodLinkNest "PeerSearch$Datagram" (9 : Nat) ({ cls := "PeerSearch$Packet", name := "<init>", desc := "()V" } : Jvm.MethodName) "PeerSearch") ∈ lw_tbl := lw_at lw_m5 45 rfl
theorem q1184 : (Jvm.Cond.fieldLink "PeerSearch$Datagram" (10 : Nat) "PeerSearch$Datagram" "packet" "LPeerSearch$Packet;") ∈ lw_all := lw_g (lw_at lw_m5 52 rfl) rfl
theorem q1187 : (Jvm.Cond.lays "PeerSearch$Datagram" "PeerSearch$Datagram" "from" "I") ∈ lw_all := lw_g (lw_at lw_m5 55 rfl) rfl
theorem q1188 : (Jvm.Cond.soleField "PeerSearch$Datagram" "from") ∈ lw_all := lw_g (lw_at lw_m5 56 rfl) rfl
theorem q1189 : (Jvm.Cond.lays "PeerSearch$Datagram" "PeerSearch$Datagram" "to" "I") ∈ lw_all := lw_g (lw_at lw_m5 57 rfl) rfl
theorem q1190 : (Jvm.Cond.soleField "PeerSearch$Datagram" "to") ∈ lw_all := lw_g (lw_at lw_m5 58 rfl) rfl
theorem q1191 : (Jvm.Cond.lays "PeerSearch$Datagram" "PeerSearch$Datagram" "due" "I") ∈ lw_all := lw_g (lw_at lw_m5 59 rfl) rfl
theorem q1192 : (Jvm.Cond.soleField "PeerSearch$Datagram" "due") ∈ lw_all := lw_g (lw_at lw_m5 60 rfl) rfl
theorem q1193 : (Jvm.Cond.laysFinal "PeerSearch$Datagram" "PeerSearch$Datagram" "packet" "LPeerSearch$Packet;") ∈ lw_all := lw_g (lw_at lw_m5 61 rfl) rfl
theorem q1194 : (Jvm.Cond.soleField "PeerSearch$Datagram" "packet") ∈ lw_all := lw_g (lw_at lw_m5 62 rfl) rfl
theorem q1195 : (Jvm.Cond.superclass "PeerSearch$Datagram" "java/lang/Object") ∈ lw_all := lw_g (lw_at lw_m5 63 rfl) rfl
theorem in_X25 : ∀ w ∈ wsX250, w ∈ lw_all := lw_in wsX250 [1187, 1189, 1191, 1193] (by decide +kernel) (by decide +kernel)
/-! PeerSearch$Task -/
def RX26 : String := "PeerSearch$Task"
def TX26 : u_T := fun k => match k with
  | 0 => ("PeerSearch$Task", "kind", "I", true)
  | 1 => ("PeerSearch$Task", "peer", "I", true)
  | 2 => ("PeerSearch$Task", "state", "I", false)
  | 3 => ("PeerSearch$Task", "asked", "I", false)
  | 4 => ("PeerSearch$Task", "many", "I", false)
  | 5 => ("PeerSearch$Task", "width", "I", false)
  | _ => ("PeerSearch$Task", "found", "[I", false)
def tyX26 : Nat → FieldType := fun k => match k with
  | 0 => .int
  | 1 => .int
  | 2 => .int
  | 3 => .int
  | 4 => .int
  | 5 => .int
  | _ => .array .int
abbrev wsX260 : List Cond := u_ws RX26 TX26 7
theorem nmX26 : ∀ a, a < 7 → ∀ b, b < 7 → a ≠ b → (TX26 a).2.1 ≠ (TX26 b).2.1 := by decide +kernel
theorem tyX26_ok : ∀ k, k < 7 → parseFieldDescriptor (TX26 k).2.2.1 = some (tyX26 k) := by decide +kernel
abbrev cX26_init : ByteArray := prog_28_method_1_code
def yX26_init : MethodName := ⟨RX26, "<init>", "(II)V"⟩
abbrev cX26_tell : ByteArray := prog_28_method_2_code
def yX26_tell : MethodName := ⟨RX26, "tell", "(II)V"⟩
abbrev cX26_found : ByteArray := prog_28_method_3_code
def yX26_found : MethodName := ⟨RX26, "found", "(II)I"⟩
theorem q201 : (Jvm.Cond.initialized "PeerSearch$Task") ∈ lw_all := lw_g (lw_at lw_m1 29 rfl) rfl
theorem q1205 : (Jvm.Cond.instantiable "PeerSearch$Task" (7 : Nat)) ∈ lw_all := lw_g (lw_at lw_m5 73 rfl) rfl
theorem q1207 : (Jvm.Cond.instanceMethod ({ cls := "PeerSearch$Task", name := "<init>", desc := "(II)V" } : Jvm.MethodName)) ∈ lw_all := lw_g (lw_at lw_m5 75 rfl) rfl
theorem q1208 : (Jvm.Cond.code ({ cls := "PeerSearch$Task", name := "<init>", desc := "(II)V" } : Jvm.MethodName) prog_28_method_1_code (3 : Nat) (Option.none : Option Jvm.ClassFile.FieldType)) ∈ lw_all := lw_g (lw_at lw_m5 76 rfl) rfl
theorem q1209 : (Jvm.Cond.methodLink "PeerSearch$Task" (1 : Nat) ({ cls := "java/lang/Object", name := "<init>", desc := "()V" } : Jvm.MethodName)) ∈ lw_all := lw_g (lw_at lw_m5 77 rfl) rfl
theorem q1210 : (Jvm.Cond.fieldLink "PeerSearch$Task" (7 : Nat) "PeerSearch$Task" "kind" "I") ∈ lw_all := lw_g (lw_at lw_m5 78 rfl) rfl
theorem q1212 : (Jvm.Cond.fieldLink "PeerSearch$Task" (13 : Nat) "PeerSearch$Task" "peer" "I") ∈ lw_all := lw_g (lw_at lw_m5 80 rfl) rfl
theorem q1214 : (Jvm.Cond.fieldLink "PeerSearch$Task" (26 : Nat) "PeerSearch$Task" "state" "I") ∈ lw_all := lw_g (lw_at lw_m5 82 rfl) rfl
theorem q1219 : (Jvm.Cond.fieldLink "PeerSearch$Task" (16 : Nat) "PeerSearch$Task" "many" "I") ∈ lw_all := lw_g (lw_at lw_m5 87 rfl) rfl
theorem q1222 : (Jvm.Cond.fieldLink "PeerSearch$Task" (19 : Nat) "PeerSearch$Task" "width" "I") ∈ lw_all := lw_g (lw_at lw_m5 90 rfl) rfl
theorem q1223 : (Jvm.Cond.fieldLink "PeerSearch$Task" (22 : Nat) "PeerSearch$Task" "found" "[I") ∈ lw_all := lw_g (lw_at lw_m5 91 rfl) rfl
theorem q1226 : (Jvm.Cond.laysFinal "PeerSearch$Task" "PeerSearch$Task" "kind" "I") ∈ lw_all := lw_g (lw_at lw_m5 94 rfl) rfl
theorem q1227 : (Jvm.Cond.soleField "PeerSearch$Task" "kind") ∈ lw_all := lw_g (lw_at lw_m5 95 rfl) rfl
theorem q1228 : (Jvm.Cond.laysFinal "PeerSearch$Task" "PeerSearch$Task" "peer" "I") ∈ lw_all := lw_g (lw_at lw_m5 96 rfl) rfl
theorem q1229 : (Jvm.Cond.soleField "PeerSearch$Task" "peer") ∈ lw_all := lw_g (lw_at lw_m5 97 rfl) rfl
theorem q1230 : (Jvm.Cond.lays "PeerSearch$Task" "PeerSearch$Task" "state" "I") ∈ lw_all := lw_g (lw_at lw_m5 98 rfl) rfl
theorem q1231 : (Jvm.Cond.soleField "PeerSearch$Task" "state") ∈ lw_all := lw_g (lw_at lw_m5 99 rfl) rfl
theorem q1232 : (Jvm.Cond.lays "PeerSearch$Task" "PeerSearch$Task" "asked" "I") ∈ lw_all := lw_g (lw_at lw_m5 100 rfl) rfl
theorem q1233 : (Jvm.Cond.soleField "PeerSearch$Task" "asked") ∈ lw_all := lw_g (lw_at lw_m5 101 rfl) rfl
theorem q1234 : (Jvm.Cond.lays "PeerSearch$Task" "PeerSearch$Task" "many" "I") ∈ lw_all := lw_g (lw_at lw_m5 102 rfl) rfl
theorem q1235 : (Jvm.Cond.soleField "PeerSearch$Task" "many") ∈ lw_all := lw_g (lw_at lw_m5 103 rfl) rfl
theorem q1236 : (Jvm.Cond.lays "PeerSearch$Task" "PeerSearch$Task" "width" "I") ∈ lw_all := lw_g (lw_at lw_m5 104 rfl) rfl
theorem q1237 : (Jvm.Cond.soleField "PeerSearch$Task" "width") ∈ lw_all := lw_g (lw_at lw_m5 105 rfl) rfl
theorem q1238 : (Jvm.Cond.lays "PeerSearch$Task" "PeerSearch$Task" "found" "[I") ∈ lw_all := lw_g (lw_at lw_m5 106 rfl) rfl
theorem q1239 : (Jvm.Cond.soleField "PeerSearch$Task" "found") ∈ lw_all := lw_g (lw_at lw_m5 107 rfl) rfl
theorem q1240 : (Jvm.Cond.superclass "PeerSearch$Task" "java/lang/Object") ∈ lw_all := lw_g (lw_at lw_m5 108 rfl) rfl
theorem q1430 : (Jvm.Cond.instanceMethod ({ cls := "PeerSearch$Task", name := "tell", desc := "(II)V" } : Jvm.MethodName)) ∈ lw_all := lw_g (lw_at lw_m6 58 rfl) rfl
theorem q1431 : (Jvm.Cond.selects "PeerSearch$Task" ({ cls := "PeerSearch$Task", name := "tell", desc := "(II)V" } : Jvm.MethodName) ({ cls := "PeerSearch$Task", name := "tell", desc := "(II)V" } : Jvm.MethodName)) ∈ lw_all := lw_g (lw_at lw_m6 59 rfl) rfl
theorem q1432 : (Jvm.Cond.code ({ cls := "PeerSearch$Task", name := "tell", desc := "(II)V" } : Jvm.MethodName) prog_28_method_2_code (3 : Nat) (Option.none : Option Jvm.ClassFile.FieldType)) ∈ lw_all := lw_g (lw_at lw_m6 60 rfl) rfl
theorem q2031 : (Jvm.Cond.instanceMethod ({ cls := "PeerSearch$Task", name := "found", desc := "(II)I" } : Jvm.MethodName)) ∈ lw_all := lw_g (lw_at lw_m8 179 rfl) rfl
theorem q2032 : (Jvm.Cond.selects "PeerSearch$Task" ({ cls := "PeerSearch$Task", name := "found", desc := "(II)I" } : Jvm.MethodName) ({ cls := "PeerSearch$Task", name := "found", desc := "(II)I" } : Jvm.MethodName)) ∈ lw_all := lw_g (lw_at lw_m8 180 rfl) rfl
theorem q2033 : (Jvm.Cond.code ({ cls := "PeerSearch$Task", name := "found", desc := "(II)I" } : Jvm.MethodName) prog_28_method_3_code (3 : Nat) (Option.some Jvm.ClassFile.FieldType.int)) ∈ lw_all := lw_g (lw_at lw_m8 181 rfl) rfl
theorem in_X26 : ∀ w ∈ wsX260, w ∈ lw_all := lw_in wsX260 [1226, 1228, 1230, 1232, 1234, 1236, 1238] (by decide +kernel) (by decide +kernel)
/-! PeerSearch$Entry -/
def RX27 : String := "PeerSearch$Entry"
def TX27 : u_T := fun k => match k with
  | 0 => ("PeerSearch$Entry", "key", "LPeerSearch$Key;", true)
  | 1 => ("PeerSearch$Entry", "address", "I", false)
  | 2 => ("PeerSearch$Entry", "state", "I", false)
  | _ => ("PeerSearch$Entry", "count", "I", false)
def tyX27 : Nat → FieldType := fun k => match k with
  | 0 => .object "PeerSearch$Key"
  | 1 => .int
  | 2 => .int
  | _ => .int
abbrev wsX270 : List Cond := u_ws RX27 TX27 4
theorem nmX27 : ∀ a, a < 4 → ∀ b, b < 4 → a ≠ b → (TX27 a).2.1 ≠ (TX27 b).2.1 := by decide +kernel
theorem tyX27_ok : ∀ k, k < 4 → parseFieldDescriptor (TX27 k).2.2.1 = some (tyX27 k) := by decide +kernel
abbrev cX27_init : ByteArray := prog_8_method_1_code
def yX27_init : MethodName := ⟨RX27, "<init>", "()V"⟩
theorem q202 : (Jvm.Cond.initialized "PeerSearch$Entry") ∈ lw_all := lw_g (lw_at lw_m1 30 rfl) rfl
theorem q1269 : (Jvm.Cond.instantiable "PeerSearch$Entry" (4 : Nat)) ∈ lw_all := lw_g (lw_at lw_m5 137 rfl) rfl
theorem q1271 : (Jvm.Cond.instanceMethod ({ cls := "PeerSearch$Entry", name := "<init>", desc := "()V" } : Jvm.MethodName)) ∈ lw_all := lw_g (lw_at lw_m5 139 rfl) rfl
theorem q1272 : (Jvm.Cond.code ({ cls := "PeerSearch$Entry", name := "<init>", desc := "()V" } : Jvm.MethodName) prog_8_method_1_code (1 : Nat) (Option.none : Option Jvm.ClassFile.FieldType)) ∈ lw_all := lw_g (lw_at lw_m5 140 rfl) rfl
theorem q1273 : (Jvm.Cond.methodLink "PeerSearch$Entry" (1 : Nat) ({ cls := "java/lang/Object", name := "<init>", desc := "()V" } : Jvm.MethodName)) ∈ lw_all := lw_g (lw_at lw_m5 141 rfl) rfl
theorem q1274 : (Jvm.Cond.classLink "PeerSearch$Entry" (7 : Nat) "PeerSearch$Key") ∈ lw_all := lw_g (lw_at lw_m5 142 rfl) rfl
theorem q1275 : (Jvm.Cond.methodLinkNest "PeerSearch$Entry" (9 : Nat) ({ cls := "PeerSearch$Key", name := "<init>", desc := "()V" } : Jvm.MethodName) "PeerSearch") ∈ lw_tbl := lw_at lw_m5 143 rfl
theorem q1276 : (Jvm.Cond.fieldLink "PeerSearch$Entry" (10 : Nat) "PeerSearch$Entry" "key" "LPeerSearch$Key;") ∈ lw_all := lw_g (lw_at lw_m5 144 rfl) rfl
theorem q1292 : (Jvm.Cond.laysFinal "PeerSearch$Entry" "PeerSearch$Entry" "key" "LPeerSearch$Key;") ∈ lw_all := lw_g (lw_at lw_m5 160 rfl) rfl
theorem q1293 : (Jvm.Cond.soleField "PeerSearch$Entry" "key") ∈ lw_all := lw_g (lw_at lw_m5 161 rfl) rfl
theorem q1294 : (Jvm.Cond.lays "PeerSearch$Entry" "PeerSearch$Entry" "address" "I") ∈ lw_all := lw_g (lw_at lw_m5 162 rfl) rfl
theorem q1295 : (Jvm.Cond.soleField "PeerSearch$Entry" "address") ∈ lw_all := lw_g (lw_at lw_m5 163 rfl) rfl
theorem q1296 : (Jvm.Cond.lays "PeerSearch$Entry" "PeerSearch$Entry" "state" "I") ∈ lw_all := lw_g (lw_at lw_m5 164 rfl) rfl
theorem q1297 : (Jvm.Cond.soleField "PeerSearch$Entry" "state") ∈ lw_all := lw_g (lw_at lw_m5 165 rfl) rfl
theorem q1298 : (Jvm.Cond.lays "PeerSearch$Entry" "PeerSearch$Entry" "count" "I") ∈ lw_all := lw_g (lw_at lw_m5 166 rfl) rfl
theorem q1299 : (Jvm.Cond.soleField "PeerSearch$Entry" "count") ∈ lw_all := lw_g (lw_at lw_m5 167 rfl) rfl
theorem q1300 : (Jvm.Cond.superclass "PeerSearch$Entry" "java/lang/Object") ∈ lw_all := lw_g (lw_at lw_m5 168 rfl) rfl
theorem in_X27 : ∀ w ∈ wsX270, w ∈ lw_all := lw_in wsX270 [1292, 1294, 1296, 1298] (by decide +kernel) (by decide +kernel)
/-! PeerSearch$Posting -/
def RX28 : String := "PeerSearch$Posting"
def TX28 : u_T := fun k => match k with
  | 0 => ("PeerSearch$Posting", "key", "LPeerSearch$Key;", true)
  | 1 => ("PeerSearch$Posting", "owner", "I", false)
  | 2 => ("PeerSearch$Posting", "document", "I", false)
  | 3 => ("PeerSearch$Posting", "weight", "I", false)
  | _ => ("PeerSearch$Posting", "end", "I", false)
def tyX28 : Nat → FieldType := fun k => match k with
  | 0 => .object "PeerSearch$Key"
  | 1 => .int
  | 2 => .int
  | 3 => .int
  | _ => .int
abbrev wsX280 : List Cond := u_ws RX28 TX28 5
theorem nmX28 : ∀ a, a < 5 → ∀ b, b < 5 → a ≠ b → (TX28 a).2.1 ≠ (TX28 b).2.1 := by decide +kernel
theorem tyX28_ok : ∀ k, k < 5 → parseFieldDescriptor (TX28 k).2.2.1 = some (tyX28 k) := by decide +kernel
abbrev cX28_init : ByteArray := prog_20_method_1_code
def yX28_init : MethodName := ⟨RX28, "<init>", "()V"⟩
theorem q203 : (Jvm.Cond.initialized "PeerSearch$Posting") ∈ lw_all := lw_g (lw_at lw_m1 31 rfl) rfl
theorem q1500 : (Jvm.Cond.instantiable "PeerSearch$Posting" (5 : Nat)) ∈ lw_all := lw_g (lw_at lw_m6 128 rfl) rfl
theorem q1502 : (Jvm.Cond.instanceMethod ({ cls := "PeerSearch$Posting", name := "<init>", desc := "()V" } : Jvm.MethodName)) ∈ lw_all := lw_g (lw_at lw_m6 130 rfl) rfl
theorem q1503 : (Jvm.Cond.code ({ cls := "PeerSearch$Posting", name := "<init>", desc := "()V" } : Jvm.MethodName) prog_20_method_1_code (1 : Nat) (Option.none : Option Jvm.ClassFile.FieldType)) ∈ lw_all := lw_g (lw_at lw_m6 131 rfl) rfl
theorem q1504 : (Jvm.Cond.methodLink "PeerSearch$Posting" (1 : Nat) ({ cls := "java/lang/Object", name := "<init>", desc := "()V" } : Jvm.MethodName)) ∈ lw_all := lw_g (lw_at lw_m6 132 rfl) rfl
theorem q1505 : (Jvm.Cond.classLink "PeerSearch$Posting" (7 : Nat) "PeerSearch$Key") ∈ lw_all := lw_g (lw_at lw_m6 133 rfl) rfl
theorem q1506 : (Jvm.Cond.methodLinkNest "PeerSearch$Posting" (9 : Nat) ({ cls := "PeerSearch$Key", name := "<init>", desc := "()V" } : Jvm.MethodName) "PeerSearch") ∈ lw_tbl := lw_at lw_m6 134 rfl
theorem q1507 : (Jvm.Cond.fieldLink "PeerSearch$Posting" (10 : Nat) "PeerSearch$Posting" "key" "LPeerSearch$Key;") ∈ lw_all := lw_g (lw_at lw_m6 135 rfl) rfl
theorem q1521 : (Jvm.Cond.laysFinal "PeerSearch$Posting" "PeerSearch$Posting" "key" "LPeerSearch$Key;") ∈ lw_all := lw_g (lw_at lw_m6 149 rfl) rfl
theorem q1522 : (Jvm.Cond.soleField "PeerSearch$Posting" "key") ∈ lw_all := lw_g (lw_at lw_m6 150 rfl) rfl
theorem q1523 : (Jvm.Cond.lays "PeerSearch$Posting" "PeerSearch$Posting" "owner" "I") ∈ lw_all := lw_g (lw_at lw_m6 151 rfl) rfl
theorem q1524 : (Jvm.Cond.soleField "PeerSearch$Posting" "owner") ∈ lw_all := lw_g (lw_at lw_m6 152 rfl) rfl
theorem q1525 : (Jvm.Cond.lays "PeerSearch$Posting" "PeerSearch$Posting" "document" "I") ∈ lw_all := lw_g (lw_at lw_m6 153 rfl) rfl
theorem q1526 : (Jvm.Cond.soleField "PeerSearch$Posting" "document") ∈ lw_all := lw_g (lw_at lw_m6 154 rfl) rfl
theorem q1527 : (Jvm.Cond.lays "PeerSearch$Posting" "PeerSearch$Posting" "weight" "I") ∈ lw_all := lw_g (lw_at lw_m6 155 rfl) rfl
theorem q1528 : (Jvm.Cond.soleField "PeerSearch$Posting" "weight") ∈ lw_all := lw_g (lw_at lw_m6 156 rfl) rfl
theorem q1529 : (Jvm.Cond.lays "PeerSearch$Posting" "PeerSearch$Posting" "end" "I") ∈ lw_all := lw_g (lw_at lw_m6 157 rfl) rfl
theorem q1530 : (Jvm.Cond.soleField "PeerSearch$Posting" "end") ∈ lw_all := lw_g (lw_at lw_m6 158 rfl) rfl
theorem q1531 : (Jvm.Cond.superclass "PeerSearch$Posting" "java/lang/Object") ∈ lw_all := lw_g (lw_at lw_m6 159 rfl) rfl
theorem in_X28 : ∀ w ∈ wsX280, w ∈ lw_all := lw_in wsX280 [1521, 1523, 1525, 1527, 1529] (by decide +kernel) (by decide +kernel)
/-! PeerSearch$Term -/
def RX29 : String := "PeerSearch$Term"
def TX29 : u_T := fun k => match k with
  | 0 => ("PeerSearch$Term", "letters", "[B", true)
  | 1 => ("PeerSearch$Term", "size", "I", false)
  | 2 => ("PeerSearch$Term", "key", "LPeerSearch$Key;", true)
  | _ => ("PeerSearch$Term", "weights", "[I", true)
def tyX29 : Nat → FieldType := fun k => match k with
  | 0 => .array .byte
  | 1 => .int
  | 2 => .object "PeerSearch$Key"
  | _ => .array .int
abbrev wsX290 : List Cond := u_ws RX29 TX29 4
theorem nmX29 : ∀ a, a < 4 → ∀ b, b < 4 → a ≠ b → (TX29 a).2.1 ≠ (TX29 b).2.1 := by decide +kernel
theorem tyX29_ok : ∀ k, k < 4 → parseFieldDescriptor (TX29 k).2.2.1 = some (tyX29 k) := by decide +kernel
abbrev cX29_isIn : ByteArray := prog_29_method_3_code
def yX29_isIn : MethodName := ⟨RX29, "isIn", "(I)Z"⟩
abbrev cX29_compare : ByteArray := prog_29_method_2_code
def yX29_compare : MethodName := ⟨RX29, "compare", "(LPeerSearch$Cutter;I)I"⟩
abbrev cX29_init : ByteArray := prog_29_method_1_code
def yX29_init : MethodName := ⟨RX29, "<init>", "()V"⟩
theorem q204 : (Jvm.Cond.initialized "PeerSearch$Term") ∈ lw_all := lw_g (lw_at lw_m1 32 rfl) rfl
theorem q226 : (Jvm.Cond.fieldLinkNest "PeerSearch$Term" (41 : Nat) "PeerSearch$Cutter" "letters" "[B" "PeerSearch") ∈ lw_tbl := lw_at lw_m1 54 rfl
theorem q230 : (Jvm.Cond.fieldLinkNest "PeerSearch$Term" (30 : Nat) "PeerSearch$Cutter" "sizes" "[I" "PeerSearch") ∈ lw_tbl := lw_at lw_m1 58 rfl
theorem q1346 : (Jvm.Cond.instanceMethod ({ cls := "PeerSearch$Term", name := "isIn", desc := "(I)Z" } : Jvm.MethodName)) ∈ lw_all := lw_g (lw_at lw_m5 214 rfl) rfl
theorem q1347 : (Jvm.Cond.selects "PeerSearch$Term" ({ cls := "PeerSearch$Term", name := "isIn", desc := "(I)Z" } : Jvm.MethodName) ({ cls := "PeerSearch$Term", name := "isIn", desc := "(I)Z" } : Jvm.MethodName)) ∈ lw_all := lw_g (lw_at lw_m5 215 rfl) rfl
theorem q1348 : (Jvm.Cond.code ({ cls := "PeerSearch$Term", name := "isIn", desc := "(I)Z" } : Jvm.MethodName) prog_29_method_3_code (3 : Nat) (Option.some Jvm.ClassFile.FieldType.boolean)) ∈ lw_all := lw_g (lw_at lw_m5 216 rfl) rfl
theorem q1715 : (Jvm.Cond.instanceMethod ({ cls := "PeerSearch$Term", name := "compare", desc := "(LPeerSearch$Cutter;I)I" } : Jvm.MethodName)) ∈ lw_all := lw_g (lw_at lw_m7 103 rfl) rfl
theorem q1716 : (Jvm.Cond.selects "PeerSearch$Term" ({ cls := "PeerSearch$Term", name := "compare", desc := "(LPeerSearch$Cutter;I)I" } : Jvm.MethodName) ({ cls := "PeerSearch$Term", name := "compare", desc := "(LPeerSearch$Cutter;I)I" } : Jvm.MethodName)) ∈ lw_all := lw_g (lw_at lw_m7 104 rfl) rfl
theorem q1717 : (Jvm.Cond.code ({ cls := "PeerSearch$Term", name := "compare", desc := "(LPeerSearch$Cutter;I)I" } : Jvm.MethodName) prog_29_method_2_code (5 : Nat) (Option.some Jvm.ClassFile.FieldType.int)) ∈ lw_all := lw_g (lw_at lw_m7 105 rfl) rfl
theorem q1718 : (Jvm.Cond.methodLink "PeerSearch$Term" (35 : Nat) ({ cls := "java/lang/Math", name := "min", desc := "(II)I" } : Jvm.MethodName)) ∈ lw_all := lw_g (lw_at lw_m7 106 rfl) rfl
theorem q1723 : (Jvm.Cond.instantiable "PeerSearch$Term" (4 : Nat)) ∈ lw_all := lw_g (lw_at lw_m7 111 rfl) rfl
theorem q1725 : (Jvm.Cond.instanceMethod ({ cls := "PeerSearch$Term", name := "<init>", desc := "()V" } : Jvm.MethodName)) ∈ lw_all := lw_g (lw_at lw_m7 113 rfl) rfl
theorem q1726 : (Jvm.Cond.code ({ cls := "PeerSearch$Term", name := "<init>", desc := "()V" } : Jvm.MethodName) prog_29_method_1_code (1 : Nat) (Option.none : Option Jvm.ClassFile.FieldType)) ∈ lw_all := lw_g (lw_at lw_m7 114 rfl) rfl
theorem q1727 : (Jvm.Cond.methodLink "PeerSearch$Term" (3 : Nat) ({ cls := "java/lang/Object", name := "<init>", desc := "()V" } : Jvm.MethodName)) ∈ lw_all := lw_g (lw_at lw_m7 115 rfl) rfl
theorem q1728 : (Jvm.Cond.classLink "PeerSearch$Term" (15 : Nat) "PeerSearch$Key") ∈ lw_all := lw_g (lw_at lw_m7 116 rfl) rfl
theorem q1729 : (Jvm.Cond.methodLinkNest "PeerSearch$Term" (17 : Nat) ({ cls := "PeerSearch$Key", name := "<init>", desc := "()V" } : Jvm.MethodName) "PeerSearch") ∈ lw_tbl := lw_at lw_m7 117 rfl
theorem q1730 : (Jvm.Cond.fieldLink "PeerSearch$Term" (9 : Nat) "PeerSearch$Term" "letters" "[B") ∈ lw_all := lw_g (lw_at lw_m7 118 rfl) rfl
theorem q1732 : (Jvm.Cond.fieldLink "PeerSearch$Term" (26 : Nat) "PeerSearch$Term" "size" "I") ∈ lw_all := lw_g (lw_at lw_m7 120 rfl) rfl
theorem q1734 : (Jvm.Cond.fieldLink "PeerSearch$Term" (18 : Nat) "PeerSearch$Term" "key" "LPeerSearch$Key;") ∈ lw_all := lw_g (lw_at lw_m7 122 rfl) rfl
theorem q1737 : (Jvm.Cond.fieldLink "PeerSearch$Term" (22 : Nat) "PeerSearch$Term" "weights" "[I") ∈ lw_all := lw_g (lw_at lw_m7 125 rfl) rfl
theorem q1740 : (Jvm.Cond.laysFinal "PeerSearch$Term" "PeerSearch$Term" "letters" "[B") ∈ lw_all := lw_g (lw_at lw_m7 128 rfl) rfl
theorem q1741 : (Jvm.Cond.soleField "PeerSearch$Term" "letters") ∈ lw_all := lw_g (lw_at lw_m7 129 rfl) rfl
theorem q1742 : (Jvm.Cond.lays "PeerSearch$Term" "PeerSearch$Term" "size" "I") ∈ lw_all := lw_g (lw_at lw_m7 130 rfl) rfl
theorem q1743 : (Jvm.Cond.soleField "PeerSearch$Term" "size") ∈ lw_all := lw_g (lw_at lw_m7 131 rfl) rfl
theorem q1744 : (Jvm.Cond.laysFinal "PeerSearch$Term" "PeerSearch$Term" "key" "LPeerSearch$Key;") ∈ lw_all := lw_g (lw_at lw_m7 132 rfl) rfl
theorem q1745 : (Jvm.Cond.soleField "PeerSearch$Term" "key") ∈ lw_all := lw_g (lw_at lw_m7 133 rfl) rfl
theorem q1746 : (Jvm.Cond.laysFinal "PeerSearch$Term" "PeerSearch$Term" "weights" "[I") ∈ lw_all := lw_g (lw_at lw_m7 134 rfl) rfl
theorem q1747 : (Jvm.Cond.soleField "PeerSearch$Term" "weights") ∈ lw_all := lw_g (lw_at lw_m7 135 rfl) rfl
theorem q1748 : (Jvm.Cond.superclass "PeerSearch$Term" "java/lang/Object") ∈ lw_all := lw_g (lw_at lw_m7 136 rfl) rfl
theorem in_X29 : ∀ w ∈ wsX290, w ∈ lw_all := lw_in wsX290 [1740, 1742, 1744, 1746] (by decide +kernel) (by decide +kernel)
/-! PeerSearch$Publishing -/
def RX30 : String := "PeerSearch$Publishing"
def TX30 : u_T := fun k => match k with
  | 0 => ("PeerSearch$Publishing", "terms", "[LPeerSearch$Term;", true)
  | 1 => ("PeerSearch$Publishing", "size", "I", false)
  | 2 => ("PeerSearch$Publishing", "at", "I", false)
  | 3 => ("PeerSearch$Publishing", "documents", "I", false)
  | 4 => ("PeerSearch$Publishing", "waits", "I", false)
  | 5 => ("PeerSearch$Publishing", "stored", "I", false)
  | _ => ("PeerSearch$Publishing", "hasFailed", "Z", false)
def tyX30 : Nat → FieldType := fun k => match k with
  | 0 => .array (.object "PeerSearch$Term")
  | 1 => .int
  | 2 => .int
  | 3 => .int
  | 4 => .int
  | 5 => .int
  | _ => .boolean
abbrev wsX300 : List Cond := u_ws RX30 TX30 7
theorem nmX30 : ∀ a, a < 7 → ∀ b, b < 7 → a ≠ b → (TX30 a).2.1 ≠ (TX30 b).2.1 := by decide +kernel
theorem tyX30_ok : ∀ k, k < 7 → parseFieldDescriptor (TX30 k).2.2.1 = some (tyX30 k) := by decide +kernel
abbrev cX30_begin : ByteArray := prog_21_method_2_code
def yX30_begin : MethodName := ⟨RX30, "begin", "(LPeerSearch$Work;)Z"⟩
abbrev cX30_goes : ByteArray := prog_21_method_3_code
def yX30_goes : MethodName := ⟨RX30, "goes", "(LPeerSearch$Work;)Z"⟩
abbrev cX30_looked : ByteArray := prog_21_method_5_code
def yX30_looked : MethodName := ⟨RX30, "looked", "(LPeerSearch$Work;)Z"⟩
abbrev cX30_write : ByteArray := prog_21_method_4_code
def yX30_write : MethodName := ⟨RX30, "write", "(LPeerSearch$Work;)LPeerSearch$Packet;"⟩
abbrev cX30_next : ByteArray := prog_21_method_6_code
def yX30_next : MethodName := ⟨RX30, "next", "(LPeerSearch$Work;)Z"⟩
abbrev cX30_init : ByteArray := prog_21_method_1_code
def yX30_init : MethodName := ⟨RX30, "<init>", "()V"⟩
abbrev cX30_answered : ByteArray := prog_21_method_8_code
def yX30_answered : MethodName := ⟨RX30, "answered", "(LPeerSearch$Work;LPeerSearch$Packet;)V"⟩
abbrev cX30_over : ByteArray := prog_21_method_7_code
def yX30_over : MethodName := ⟨RX30, "over", "(LPeerSearch$Work;)V"⟩
abbrev cX30_failed : ByteArray := prog_21_method_9_code
def yX30_failed : MethodName := ⟨RX30, "failed", "(LPeerSearch$Work;)V"⟩
theorem q205 : (Jvm.Cond.initialized "PeerSearch$Publishing") ∈ lw_all := lw_g (lw_at lw_m1 33 rfl) rfl
theorem q271 : (Jvm.Cond.fieldLinkNest "PeerSearch$Publishing" (123 : Nat) "PeerSearch$Packet" "bytes" "[B" "PeerSearch") ∈ lw_tbl := lw_at lw_m1 99 rfl
theorem q275 : (Jvm.Cond.fieldLinkNest "PeerSearch$Publishing" (111 : Nat) "PeerSearch$Packet" "size" "I" "PeerSearch") ∈ lw_tbl := lw_at lw_m1 103 rfl
theorem q334 : (Jvm.Cond.fieldLinkNest "PeerSearch$Publishing" (68 : Nat) "PeerSearch$Net" "time" "I" "PeerSearch") ∈ lw_tbl := lw_at lw_m1 162 rfl
theorem q427 : (Jvm.Cond.fieldLinkNest "PeerSearch$Publishing" (62 : Nat) "PeerSearch$Board" "net" "LPeerSearch$Net;" "PeerSearch") ∈ lw_tbl := lw_at lw_m2 15 rfl
theorem q555 : (Jvm.Cond.fieldLinkNest "PeerSearch$Publishing" (58 : Nat) "PeerSearch$Work" "board" "LPeerSearch$Board;" "PeerSearch") ∈ lw_tbl := lw_at lw_m2 143 rfl
theorem q559 : (Jvm.Cond.fieldLinkNest "PeerSearch$Publishing" (127 : Nat) "PeerSearch$Work" "lookup" "LPeerSearch$Lookup;" "PeerSearch") ∈ lw_tbl := lw_at lw_m2 147 rfl
theorem q561 : (Jvm.Cond.fieldLinkNest "PeerSearch$Publishing" (17 : Nat) "PeerSearch$Work" "peer" "LPeerSearch$Peer;" "PeerSearch") ∈ lw_tbl := lw_at lw_m2 149 rfl
theorem q567 : (Jvm.Cond.fieldLinkNest "PeerSearch$Publishing" (80 : Nat) "PeerSearch$Work" "task" "LPeerSearch$Task;" "PeerSearch") ∈ lw_tbl := lw_at lw_m2 155 rfl
theorem q745 : (Jvm.Cond.fieldLinkNest "PeerSearch$Publishing" (40 : Nat) "PeerSearch$Library" "terms" "[LPeerSearch$Term;" "PeerSearch") ∈ lw_tbl := lw_at lw_m3 93 rfl
theorem q747 : (Jvm.Cond.fieldLinkNest "PeerSearch$Publishing" (39 : Nat) "PeerSearch$Library" "size" "I" "PeerSearch") ∈ lw_tbl := lw_at lw_m3 95 rfl
theorem q749 : (Jvm.Cond.fieldLinkNest "PeerSearch$Publishing" (29 : Nat) "PeerSearch$Library" "documents" "I" "PeerSearch") ∈ lw_tbl := lw_at lw_m3 97 rfl
theorem q849 : (Jvm.Cond.fieldLinkNest "PeerSearch$Publishing" (120 : Nat) "PeerSearch$Peer" "number" "I" "PeerSearch") ∈ lw_tbl := lw_at lw_m3 197 rfl
theorem q854 : (Jvm.Cond.fieldLinkNest "PeerSearch$Publishing" (144 : Nat) "PeerSearch$Peer" "key" "LPeerSearch$Key;" "PeerSearch") ∈ lw_tbl := lw_at lw_m3 202 rfl
theorem q870 : (Jvm.Cond.fieldLinkNest "PeerSearch$Publishing" (23 : Nat) "PeerSearch$Peer" "library" "LPeerSearch$Library;" "PeerSearch") ∈ lw_tbl := lw_at lw_m3 218 rfl
theorem q888 : (Jvm.Cond.fieldLinkNest "PeerSearch$Publishing" (73 : Nat) "PeerSearch$Peer" "published" "I" "PeerSearch") ∈ lw_tbl := lw_at lw_m3 236 rfl
theorem q1220 : (Jvm.Cond.fieldLinkNest "PeerSearch$Publishing" (84 : Nat) "PeerSearch$Task" "many" "I" "PeerSearch") ∈ lw_tbl := lw_at lw_m5 88 rfl
theorem q1279 : (Jvm.Cond.fieldLinkNest "PeerSearch$Publishing" (141 : Nat) "PeerSearch$Entry" "key" "LPeerSearch$Key;" "PeerSearch") ∈ lw_tbl := lw_at lw_m5 147 rfl
theorem q1284 : (Jvm.Cond.fieldLinkNest "PeerSearch$Publishing" (155 : Nat) "PeerSearch$Entry" "address" "I" "PeerSearch") ∈ lw_tbl := lw_at lw_m5 152 rfl
theorem q1342 : (Jvm.Cond.selects "PeerSearch$Publishing" ({ cls := "PeerSearch$Plan", name := "begin", desc := "(LPeerSearch$Work;)Z" } : Jvm.MethodName) ({ cls := "PeerSearch$Publishing", name := "begin", desc := "(LPeerSearch$Work;)Z" } : Jvm.MethodName)) ∈ lw_all := lw_g (lw_at lw_m5 210 rfl) rfl
theorem q1343 : (Jvm.Cond.instanceMethod ({ cls := "PeerSearch$Publishing", name := "begin", desc := "(LPeerSearch$Work;)Z" } : Jvm.MethodName)) ∈ lw_all := lw_g (lw_at lw_m5 211 rfl) rfl
theorem q1344 : (Jvm.Cond.code ({ cls := "PeerSearch$Publishing", name := "begin", desc := "(LPeerSearch$Work;)Z" } : Jvm.MethodName) prog_21_method_2_code (4 : Nat) (Option.some Jvm.ClassFile.FieldType.boolean)) ∈ lw_all := lw_g (lw_at lw_m5 212 rfl) rfl
theorem q1345 : (Jvm.Cond.methodLink "PeerSearch$Publishing" (41 : Nat) ({ cls := "PeerSearch$Term", name := "isIn", desc := "(I)Z" } : Jvm.MethodName)) ∈ lw_all := lw_g (lw_at lw_m5 213 rfl) rfl
theorem q1349 : (Jvm.Cond.methodLink "PeerSearch$Publishing" (76 : Nat) ({ cls := "PeerSearch$Publishing", name := "goes", desc := "(LPeerSearch$Work;)Z" } : Jvm.MethodName)) ∈ lw_all := lw_g (lw_at lw_m5 217 rfl) rfl
theorem q1350 : (Jvm.Cond.privateMethod ({ cls := "PeerSearch$Publishing", name := "goes", desc := "(LPeerSearch$Work;)Z" } : Jvm.MethodName)) ∈ lw_tbl := lw_at lw_m5 218 rfl
theorem q1351 : (Jvm.Cond.instanceMethod ({ cls := "PeerSearch$Publishing", name := "goes", desc := "(LPeerSearch$Work;)Z" } : Jvm.MethodName)) ∈ lw_all := lw_g (lw_at lw_m5 219 rfl) rfl
theorem q1352 : (Jvm.Cond.instantiable "PeerSearch$Publishing" (7 : Nat)) ∈ lw_all := lw_g (lw_at lw_m5 220 rfl) rfl
theorem q1353 : (Jvm.Cond.code ({ cls := "PeerSearch$Publishing", name := "goes", desc := "(LPeerSearch$Work;)Z" } : Jvm.MethodName) prog_21_method_3_code (2 : Nat) (Option.some Jvm.ClassFile.FieldType.boolean)) ∈ lw_all := lw_g (lw_at lw_m5 221 rfl) rfl
theorem q1354 : (Jvm.Cond.methodLink "PeerSearch$Publishing" (93 : Nat) ({ cls := "PeerSearch$Work", name := "look", desc := "(LPeerSearch$Key;Z)Z" } : Jvm.MethodName)) ∈ lw_all := lw_g (lw_at lw_m5 222 rfl) rfl
theorem q1355 : (Jvm.Cond.methodLink "PeerSearch$Publishing" (97 : Nat) ({ cls := "PeerSearch$Work", name := "end", desc := "(I)V" } : Jvm.MethodName)) ∈ lw_all := lw_g (lw_at lw_m5 223 rfl) rfl
theorem q1626 : (Jvm.Cond.selects "PeerSearch$Publishing" ({ cls := "PeerSearch$Plan", name := "looked", desc := "(LPeerSearch$Work;)Z" } : Jvm.MethodName) ({ cls := "PeerSearch$Publishing", name := "looked", desc := "(LPeerSearch$Work;)Z" } : Jvm.MethodName)) ∈ lw_all := lw_g (lw_at lw_m7 14 rfl) rfl
theorem q1627 : (Jvm.Cond.instanceMethod ({ cls := "PeerSearch$Publishing", name := "looked", desc := "(LPeerSearch$Work;)Z" } : Jvm.MethodName)) ∈ lw_all := lw_g (lw_at lw_m7 15 rfl) rfl
theorem q1628 : (Jvm.Cond.code ({ cls := "PeerSearch$Publishing", name := "looked", desc := "(LPeerSearch$Work;)Z" } : Jvm.MethodName) prog_21_method_5_code (5 : Nat) (Option.some Jvm.ClassFile.FieldType.boolean)) ∈ lw_all := lw_g (lw_at lw_m7 16 rfl) rfl
theorem q1629 : (Jvm.Cond.methodLink "PeerSearch$Publishing" (131 : Nat) ({ cls := "PeerSearch$Lookup", name := "front", desc := "(I)LPeerSearch$Entry;" } : Jvm.MethodName)) ∈ lw_all := lw_g (lw_at lw_m7 17 rfl) rfl
theorem q1630 : (Jvm.Cond.methodLink "PeerSearch$Publishing" (137 : Nat) ({ cls := "PeerSearch$Publishing", name := "write", desc := "(LPeerSearch$Work;)LPeerSearch$Packet;" } : Jvm.MethodName)) ∈ lw_all := lw_g (lw_at lw_m7 18 rfl) rfl
theorem q1631 : (Jvm.Cond.privateMethod ({ cls := "PeerSearch$Publishing", name := "write", desc := "(LPeerSearch$Work;)LPeerSearch$Packet;" } : Jvm.MethodName)) ∈ lw_tbl := lw_at lw_m7 19 rfl
theorem q1632 : (Jvm.Cond.instanceMethod ({ cls := "PeerSearch$Publishing", name := "write", desc := "(LPeerSearch$Work;)LPeerSearch$Packet;" } : Jvm.MethodName)) ∈ lw_all := lw_g (lw_at lw_m7 20 rfl) rfl
theorem q1633 : (Jvm.Cond.code ({ cls := "PeerSearch$Publishing", name := "write", desc := "(LPeerSearch$Work;)LPeerSearch$Packet;" } : Jvm.MethodName) prog_21_method_4_code (7 : Nat) (Option.some (Jvm.ClassFile.FieldType.object "PeerSearch$Packet"))) ∈ lw_all := lw_g (lw_at lw_m7 21 rfl) rfl
theorem q1634 : (Jvm.Cond.methodLink "PeerSearch$Publishing" (101 : Nat) ({ cls := "PeerSearch$Peer", name := "begin", desc := "(I)LPeerSearch$Packet;" } : Jvm.MethodName)) ∈ lw_all := lw_g (lw_at lw_m7 22 rfl) rfl
theorem q1635 : (Jvm.Cond.methodLink "PeerSearch$Publishing" (105 : Nat) ({ cls := "PeerSearch$Packet", name := "putKey", desc := "(LPeerSearch$Key;)V" } : Jvm.MethodName)) ∈ lw_all := lw_g (lw_at lw_m7 23 rfl) rfl
theorem q1636 : (Jvm.Cond.methodLink "PeerSearch$Publishing" (112 : Nat) ({ cls := "PeerSearch$Packet", name := "put", desc := "(II)V" } : Jvm.MethodName)) ∈ lw_all := lw_g (lw_at lw_m7 24 rfl) rfl
theorem q1637 : (Jvm.Cond.methodLink "PeerSearch$Publishing" (145 : Nat) ({ cls := "PeerSearch$Key", name := "is", desc := "(LPeerSearch$Key;)Z" } : Jvm.MethodName)) ∈ lw_all := lw_g (lw_at lw_m7 25 rfl) rfl
theorem q1638 : (Jvm.Cond.methodLink "PeerSearch$Publishing" (151 : Nat) ({ cls := "PeerSearch$Peer", name := "answers", desc := "(LPeerSearch$Packet;LPeerSearch$Key;)Z" } : Jvm.MethodName)) ∈ lw_all := lw_g (lw_at lw_m7 26 rfl) rfl
theorem q1639 : (Jvm.Cond.methodLink "PeerSearch$Publishing" (158 : Nat) ({ cls := "PeerSearch$Work", name := "ask", desc := "(LPeerSearch$Key;I)Z" } : Jvm.MethodName)) ∈ lw_all := lw_g (lw_at lw_m7 27 rfl) rfl
theorem q1640 : (Jvm.Cond.methodLink "PeerSearch$Publishing" (162 : Nat) ({ cls := "PeerSearch$Publishing", name := "next", desc := "(LPeerSearch$Work;)Z" } : Jvm.MethodName)) ∈ lw_all := lw_g (lw_at lw_m7 28 rfl) rfl
theorem q1641 : (Jvm.Cond.privateMethod ({ cls := "PeerSearch$Publishing", name := "next", desc := "(LPeerSearch$Work;)Z" } : Jvm.MethodName)) ∈ lw_tbl := lw_at lw_m7 29 rfl
theorem q1642 : (Jvm.Cond.instanceMethod ({ cls := "PeerSearch$Publishing", name := "next", desc := "(LPeerSearch$Work;)Z" } : Jvm.MethodName)) ∈ lw_all := lw_g (lw_at lw_m7 30 rfl) rfl
theorem q1643 : (Jvm.Cond.code ({ cls := "PeerSearch$Publishing", name := "next", desc := "(LPeerSearch$Work;)Z" } : Jvm.MethodName) prog_21_method_6_code (2 : Nat) (Option.some Jvm.ClassFile.FieldType.boolean)) ∈ lw_all := lw_g (lw_at lw_m7 31 rfl) rfl
theorem q1735 : (Jvm.Cond.fieldLinkNest "PeerSearch$Publishing" (89 : Nat) "PeerSearch$Term" "key" "LPeerSearch$Key;" "PeerSearch") ∈ lw_tbl := lw_at lw_m7 123 rfl
theorem q1739 : (Jvm.Cond.fieldLinkNest "PeerSearch$Publishing" (116 : Nat) "PeerSearch$Term" "weights" "[I" "PeerSearch") ∈ lw_tbl := lw_at lw_m7 127 rfl
theorem q1760 : (Jvm.Cond.instanceMethod ({ cls := "PeerSearch$Publishing", name := "<init>", desc := "()V" } : Jvm.MethodName)) ∈ lw_all := lw_g (lw_at lw_m7 148 rfl) rfl
theorem q1761 : (Jvm.Cond.code ({ cls := "PeerSearch$Publishing", name := "<init>", desc := "()V" } : Jvm.MethodName) prog_21_method_1_code (1 : Nat) (Option.none : Option Jvm.ClassFile.FieldType)) ∈ lw_all := lw_g (lw_at lw_m7 149 rfl) rfl
theorem q1762 : (Jvm.Cond.methodLinkNest "PeerSearch$Publishing" (3 : Nat) ({ cls := "PeerSearch$Plan", name := "<init>", desc := "()V" } : Jvm.MethodName) "PeerSearch") ∈ lw_tbl := lw_at lw_m7 150 rfl
theorem q1763 : (Jvm.Cond.classLink "PeerSearch$Publishing" (9 : Nat) "PeerSearch$Term") ∈ lw_all := lw_g (lw_at lw_m7 151 rfl) rfl
theorem q1764 : (Jvm.Cond.fieldLink "PeerSearch$Publishing" (11 : Nat) "PeerSearch$Publishing" "terms" "[LPeerSearch$Term;") ∈ lw_all := lw_g (lw_at lw_m7 152 rfl) rfl
theorem q1765 : (Jvm.Cond.fieldLink "PeerSearch$Publishing" (36 : Nat) "PeerSearch$Publishing" "size" "I") ∈ lw_all := lw_g (lw_at lw_m7 153 rfl) rfl
theorem q1766 : (Jvm.Cond.fieldLink "PeerSearch$Publishing" (45 : Nat) "PeerSearch$Publishing" "at" "I") ∈ lw_all := lw_g (lw_at lw_m7 154 rfl) rfl
theorem q1767 : (Jvm.Cond.fieldLink "PeerSearch$Publishing" (35 : Nat) "PeerSearch$Publishing" "documents" "I") ∈ lw_all := lw_g (lw_at lw_m7 155 rfl) rfl
theorem q1768 : (Jvm.Cond.fieldLink "PeerSearch$Publishing" (48 : Nat) "PeerSearch$Publishing" "waits" "I") ∈ lw_all := lw_g (lw_at lw_m7 156 rfl) rfl
theorem q1769 : (Jvm.Cond.fieldLink "PeerSearch$Publishing" (51 : Nat) "PeerSearch$Publishing" "stored" "I") ∈ lw_all := lw_g (lw_at lw_m7 157 rfl) rfl
theorem q1770 : (Jvm.Cond.fieldLink "PeerSearch$Publishing" (54 : Nat) "PeerSearch$Publishing" "hasFailed" "Z") ∈ lw_all := lw_g (lw_at lw_m7 158 rfl) rfl
theorem q1771 : (Jvm.Cond.laysFinal "PeerSearch$Publishing" "PeerSearch$Publishing" "terms" "[LPeerSearch$Term;") ∈ lw_all := lw_g (lw_at lw_m7 159 rfl) rfl
theorem q1772 : (Jvm.Cond.soleField "PeerSearch$Publishing" "terms") ∈ lw_all := lw_g (lw_at lw_m7 160 rfl) rfl
theorem q1773 : (Jvm.Cond.lays "PeerSearch$Publishing" "PeerSearch$Publishing" "size" "I") ∈ lw_all := lw_g (lw_at lw_m7 161 rfl) rfl
theorem q1774 : (Jvm.Cond.soleField "PeerSearch$Publishing" "size") ∈ lw_all := lw_g (lw_at lw_m7 162 rfl) rfl
theorem q1775 : (Jvm.Cond.lays "PeerSearch$Publishing" "PeerSearch$Publishing" "at" "I") ∈ lw_all := lw_g (lw_at lw_m7 163 rfl) rfl
theorem q1776 : (Jvm.Cond.soleField "PeerSearch$Publishing" "at") ∈ lw_all := lw_g (lw_at lw_m7 164 rfl) rfl
theorem q1777 : (Jvm.Cond.lays "PeerSearch$Publishing" "PeerSearch$Publishing" "documents" "I") ∈ lw_all := lw_g (lw_at lw_m7 165 rfl) rfl
theorem q1778 : (Jvm.Cond.soleField "PeerSearch$Publishing" "documents") ∈ lw_all := lw_g (lw_at lw_m7 166 rfl) rfl
theorem q1779 : (Jvm.Cond.lays "PeerSearch$Publishing" "PeerSearch$Publishing" "waits" "I") ∈ lw_all := lw_g (lw_at lw_m7 167 rfl) rfl
theorem q1780 : (Jvm.Cond.soleField "PeerSearch$Publishing" "waits") ∈ lw_all := lw_g (lw_at lw_m7 168 rfl) rfl
theorem q1781 : (Jvm.Cond.lays "PeerSearch$Publishing" "PeerSearch$Publishing" "stored" "I") ∈ lw_all := lw_g (lw_at lw_m7 169 rfl) rfl
theorem q1782 : (Jvm.Cond.soleField "PeerSearch$Publishing" "stored") ∈ lw_all := lw_g (lw_at lw_m7 170 rfl) rfl
theorem q1783 : (Jvm.Cond.lays "PeerSearch$Publishing" "PeerSearch$Publishing" "hasFailed" "Z") ∈ lw_all := lw_g (lw_at lw_m7 171 rfl) rfl
theorem q1784 : (Jvm.Cond.soleField "PeerSearch$Publishing" "hasFailed") ∈ lw_all := lw_g (lw_at lw_m7 172 rfl) rfl
theorem q1785 : (Jvm.Cond.superclass "PeerSearch$Publishing" "PeerSearch$Plan") ∈ lw_all := lw_g (lw_at lw_m7 173 rfl) rfl
theorem q1958 : (Jvm.Cond.selects "PeerSearch$Publishing" ({ cls := "PeerSearch$Plan", name := "answered", desc := "(LPeerSearch$Work;LPeerSearch$Packet;)V" } : Jvm.MethodName) ({ cls := "PeerSearch$Publishing", name := "answered", desc := "(LPeerSearch$Work;LPeerSearch$Packet;)V" } : Jvm.MethodName)) ∈ lw_all := lw_g (lw_at lw_m8 106 rfl) rfl
theorem q1959 : (Jvm.Cond.instanceMethod ({ cls := "PeerSearch$Publishing", name := "answered", desc := "(LPeerSearch$Work;LPeerSearch$Packet;)V" } : Jvm.MethodName)) ∈ lw_all := lw_g (lw_at lw_m8 107 rfl) rfl
theorem q1960 : (Jvm.Cond.code ({ cls := "PeerSearch$Publishing", name := "answered", desc := "(LPeerSearch$Work;LPeerSearch$Packet;)V" } : Jvm.MethodName) prog_21_method_8_code (3 : Nat) (Option.none : Option Jvm.ClassFile.FieldType)) ∈ lw_all := lw_g (lw_at lw_m8 108 rfl) rfl
theorem q1961 : (Jvm.Cond.methodLink "PeerSearch$Publishing" (168 : Nat) ({ cls := "PeerSearch$Publishing", name := "over", desc := "(LPeerSearch$Work;)V" } : Jvm.MethodName)) ∈ lw_all := lw_g (lw_at lw_m8 109 rfl) rfl
theorem q1962 : (Jvm.Cond.privateMethod ({ cls := "PeerSearch$Publishing", name := "over", desc := "(LPeerSearch$Work;)V" } : Jvm.MethodName)) ∈ lw_tbl := lw_at lw_m8 110 rfl
theorem q1963 : (Jvm.Cond.instanceMethod ({ cls := "PeerSearch$Publishing", name := "over", desc := "(LPeerSearch$Work;)V" } : Jvm.MethodName)) ∈ lw_all := lw_g (lw_at lw_m8 111 rfl) rfl
theorem q1964 : (Jvm.Cond.code ({ cls := "PeerSearch$Publishing", name := "over", desc := "(LPeerSearch$Work;)V" } : Jvm.MethodName) prog_21_method_7_code (2 : Nat) (Option.none : Option Jvm.ClassFile.FieldType)) ∈ lw_all := lw_g (lw_at lw_m8 112 rfl) rfl
theorem q1965 : (Jvm.Cond.methodLink "PeerSearch$Publishing" (165 : Nat) ({ cls := "PeerSearch$Work", name := "goOn", desc := "()V" } : Jvm.MethodName)) ∈ lw_all := lw_g (lw_at lw_m8 113 rfl) rfl
theorem q1997 : (Jvm.Cond.selects "PeerSearch$Publishing" ({ cls := "PeerSearch$Plan", name := "failed", desc := "(LPeerSearch$Work;)V" } : Jvm.MethodName) ({ cls := "PeerSearch$Publishing", name := "failed", desc := "(LPeerSearch$Work;)V" } : Jvm.MethodName)) ∈ lw_all := lw_g (lw_at lw_m8 145 rfl) rfl
theorem q1998 : (Jvm.Cond.instanceMethod ({ cls := "PeerSearch$Publishing", name := "failed", desc := "(LPeerSearch$Work;)V" } : Jvm.MethodName)) ∈ lw_all := lw_g (lw_at lw_m8 146 rfl) rfl
theorem q1999 : (Jvm.Cond.code ({ cls := "PeerSearch$Publishing", name := "failed", desc := "(LPeerSearch$Work;)V" } : Jvm.MethodName) prog_21_method_9_code (2 : Nat) (Option.none : Option Jvm.ClassFile.FieldType)) ∈ lw_all := lw_g (lw_at lw_m8 147 rfl) rfl
theorem in_X30 : ∀ w ∈ wsX300, w ∈ lw_all := lw_in wsX300 [1771, 1773, 1775, 1777, 1779, 1781, 1783] (by decide +kernel) (by decide +kernel)
/-! PeerSearch$Asking -/
def RX31 : String := "PeerSearch$Asking"
def TX31 : u_T := fun k => match k with
  | 0 => ("PeerSearch$Asking", "terms", "[LPeerSearch$Key;", true)
  | 1 => ("PeerSearch$Asking", "holders", "[LPeerSearch$Key;", true)
  | 2 => ("PeerSearch$Asking", "counts", "[I", true)
  | 3 => ("PeerSearch$Asking", "addresses", "[I", true)
  | 4 => ("PeerSearch$Asking", "order", "[I", true)
  | 5 => ("PeerSearch$Asking", "size", "I", false)
  | 6 => ("PeerSearch$Asking", "at", "I", false)
  | 7 => ("PeerSearch$Asking", "stage", "I", false)
  | 8 => ("PeerSearch$Asking", "filter", "LPeerSearch$Filter;", true)
  | 9 => ("PeerSearch$Asking", "owners", "[I", true)
  | 10 => ("PeerSearch$Asking", "documents", "[I", true)
  | 11 => ("PeerSearch$Asking", "scores", "[I", true)
  | 12 => ("PeerSearch$Asking", "stays", "[Z", true)
  | 13 => ("PeerSearch$Asking", "many", "I", false)
  | 14 => ("PeerSearch$Asking", "skip", "I", false)
  | 15 => ("PeerSearch$Asking", "checks", "I", false)
  | 16 => ("PeerSearch$Asking", "chunk", "I", false)
  | _ => ("PeerSearch$Asking", "ranking", "LPeerSearch$Ranking;", true)
def tyX31 : Nat → FieldType := fun k => match k with
  | 0 => .array (.object "PeerSearch$Key")
  | 1 => .array (.object "PeerSearch$Key")
  | 2 => .array .int
  | 3 => .array .int
  | 4 => .array .int
  | 5 => .int
  | 6 => .int
  | 7 => .int
  | 8 => .object "PeerSearch$Filter"
  | 9 => .array .int
  | 10 => .array .int
  | 11 => .array .int
  | 12 => .array .boolean
  | 13 => .int
  | 14 => .int
  | 15 => .int
  | 16 => .int
  | _ => .object "PeerSearch$Ranking"
abbrev wsX310 : List Cond := u_ws RX31 TX31 18
theorem nmX31 : ∀ a, a < 18 → ∀ b, b < 18 → a ≠ b → (TX31 a).2.1 ≠ (TX31 b).2.1 := by decide +kernel
theorem tyX31_ok : ∀ k, k < 18 → parseFieldDescriptor (TX31 k).2.2.1 = some (tyX31 k) := by decide +kernel
abbrev cX31_begin : ByteArray := prog_2_method_4_code
def yX31_begin : MethodName := ⟨RX31, "begin", "(LPeerSearch$Work;)Z"⟩
abbrev cX31_looked : ByteArray := prog_2_method_5_code
def yX31_looked : MethodName := ⟨RX31, "looked", "(LPeerSearch$Work;)Z"⟩
abbrev cX31_isHeld : ByteArray := prog_2_method_6_code
def yX31_isHeld : MethodName := ⟨RX31, "isHeld", "(LPeerSearch$Work;)Z"⟩
abbrev cX31_finish : ByteArray := prog_2_method_16_code
def yX31_finish : MethodName := ⟨RX31, "finish", "(LPeerSearch$Work;)V"⟩
abbrev cX31_arrange : ByteArray := prog_2_method_7_code
def yX31_arrange : MethodName := ⟨RX31, "arrange", "()V"⟩
abbrev cX31_list : ByteArray := prog_2_method_9_code
def yX31_list : MethodName := ⟨RX31, "list", "(LPeerSearch$Work;)V"⟩
abbrev cX31_consult : ByteArray := prog_2_method_8_code
def yX31_consult : MethodName := ⟨RX31, "consult", "(LPeerSearch$Work;I)V"⟩
abbrev cX31_answered : ByteArray := prog_2_method_11_code
def yX31_answered : MethodName := ⟨RX31, "answered", "(LPeerSearch$Work;LPeerSearch$Packet;)V"⟩
abbrev cX31_listed : ByteArray := prog_2_method_13_code
def yX31_listed : MethodName := ⟨RX31, "listed", "(LPeerSearch$Work;LPeerSearch$Packet;)V"⟩
abbrev cX31_place : ByteArray := prog_2_method_12_code
def yX31_place : MethodName := ⟨RX31, "place", "(IIII)I"⟩
abbrev cX31_check : ByteArray := prog_2_method_10_code
def yX31_check : MethodName := ⟨RX31, "check", "(LPeerSearch$Work;)V"⟩
abbrev cX31_checked : ByteArray := prog_2_method_14_code
def yX31_checked : MethodName := ⟨RX31, "checked", "(LPeerSearch$Work;LPeerSearch$Packet;)V"⟩
abbrev cX31_sift : ByteArray := prog_2_method_15_code
def yX31_sift : MethodName := ⟨RX31, "sift", "()V"⟩
abbrev cX31_failed : ByteArray := prog_2_method_17_code
def yX31_failed : MethodName := ⟨RX31, "failed", "(LPeerSearch$Work;)V"⟩
abbrev cX31_init : ByteArray := prog_2_method_1_code
def yX31_init : MethodName := ⟨RX31, "<init>", "(LPeerSearch$Board;)V"⟩
abbrev cX31_clear : ByteArray := prog_2_method_2_code
def yX31_clear : MethodName := ⟨RX31, "clear", "()V"⟩
abbrev cX31_add : ByteArray := prog_2_method_3_code
def yX31_add : MethodName := ⟨RX31, "add", "(LPeerSearch$Key;)V"⟩
theorem q206 : (Jvm.Cond.initialized "PeerSearch$Asking") ∈ lw_all := lw_g (lw_at lw_m1 34 rfl) rfl
theorem q292 : (Jvm.Cond.fieldLinkNest "PeerSearch$Asking" (254 : Nat) "PeerSearch$Ranking" "size" "I" "PeerSearch") ∈ lw_tbl := lw_at lw_m1 120 rfl
theorem q428 : (Jvm.Cond.fieldLinkNest "PeerSearch$Asking" (192 : Nat) "PeerSearch$Board" "net" "LPeerSearch$Net;" "PeerSearch") ∈ lw_tbl := lw_at lw_m2 16 rfl
theorem q430 : (Jvm.Cond.fieldLinkNest "PeerSearch$Asking" (54 : Nat) "PeerSearch$Board" "sha" "LPeerSearch$Sha;" "PeerSearch") ∈ lw_tbl := lw_at lw_m2 18 rfl
theorem q443 : (Jvm.Cond.fieldLinkNest "PeerSearch$Asking" (170 : Nat) "PeerSearch$Board" "out" "LPeerSearch$Packet;" "PeerSearch") ∈ lw_tbl := lw_at lw_m2 31 rfl
theorem q445 : (Jvm.Cond.fieldLinkNest "PeerSearch$Asking" (178 : Nat) "PeerSearch$Board" "answer" "LPeerSearch$Packet;" "PeerSearch") ∈ lw_tbl := lw_at lw_m2 33 rfl
theorem q556 : (Jvm.Cond.fieldLinkNest "PeerSearch$Asking" (166 : Nat) "PeerSearch$Work" "board" "LPeerSearch$Board;" "PeerSearch") ∈ lw_tbl := lw_at lw_m2 144 rfl
theorem q560 : (Jvm.Cond.fieldLinkNest "PeerSearch$Asking" (130 : Nat) "PeerSearch$Work" "lookup" "LPeerSearch$Lookup;" "PeerSearch") ∈ lw_tbl := lw_at lw_m2 148 rfl
theorem q564 : (Jvm.Cond.fieldLinkNest "PeerSearch$Asking" (111 : Nat) "PeerSearch$Work" "peer" "LPeerSearch$Peer;" "PeerSearch") ∈ lw_tbl := lw_at lw_m2 152 rfl
theorem q570 : (Jvm.Cond.fieldLinkNest "PeerSearch$Asking" (250 : Nat) "PeerSearch$Work" "task" "LPeerSearch$Task;" "PeerSearch") ∈ lw_tbl := lw_at lw_m2 158 rfl
theorem q856 : (Jvm.Cond.fieldLinkNest "PeerSearch$Asking" (146 : Nat) "PeerSearch$Peer" "key" "LPeerSearch$Key;" "PeerSearch") ∈ lw_tbl := lw_at lw_m3 204 rfl
theorem q867 : (Jvm.Cond.fieldLinkNest "PeerSearch$Asking" (151 : Nat) "PeerSearch$Peer" "store" "LPeerSearch$Store;" "PeerSearch") ∈ lw_tbl := lw_at lw_m3 215 rfl
theorem q1225 : (Jvm.Cond.fieldLinkNest "PeerSearch$Asking" (260 : Nat) "PeerSearch$Task" "found" "[I" "PeerSearch") ∈ lw_tbl := lw_at lw_m5 93 rfl
theorem q1248 : (Jvm.Cond.selects "PeerSearch$Asking" ({ cls := "PeerSearch$Plan", name := "begin", desc := "(LPeerSearch$Work;)Z" } : Jvm.MethodName) ({ cls := "PeerSearch$Asking", name := "begin", desc := "(LPeerSearch$Work;)Z" } : Jvm.MethodName)) ∈ lw_all := lw_g (lw_at lw_m5 116 rfl) rfl
theorem q1249 : (Jvm.Cond.instanceMethod ({ cls := "PeerSearch$Asking", name := "begin", desc := "(LPeerSearch$Work;)Z" } : Jvm.MethodName)) ∈ lw_all := lw_g (lw_at lw_m5 117 rfl) rfl
theorem q1250 : (Jvm.Cond.code ({ cls := "PeerSearch$Asking", name := "begin", desc := "(LPeerSearch$Work;)Z" } : Jvm.MethodName) prog_2_method_4_code (2 : Nat) (Option.some Jvm.ClassFile.FieldType.boolean)) ∈ lw_all := lw_g (lw_at lw_m5 118 rfl) rfl
theorem q1251 : (Jvm.Cond.methodLink "PeerSearch$Asking" (88 : Nat) ({ cls := "PeerSearch$Work", name := "look", desc := "(LPeerSearch$Key;Z)Z" } : Jvm.MethodName)) ∈ lw_all := lw_g (lw_at lw_m5 119 rfl) rfl
theorem q1280 : (Jvm.Cond.fieldLinkNest "PeerSearch$Asking" (140 : Nat) "PeerSearch$Entry" "key" "LPeerSearch$Key;" "PeerSearch") ∈ lw_tbl := lw_at lw_m5 148 rfl
theorem q1285 : (Jvm.Cond.fieldLinkNest "PeerSearch$Asking" (163 : Nat) "PeerSearch$Entry" "address" "I" "PeerSearch") ∈ lw_tbl := lw_at lw_m5 153 rfl
theorem q1290 : (Jvm.Cond.fieldLinkNest "PeerSearch$Asking" (161 : Nat) "PeerSearch$Entry" "count" "I" "PeerSearch") ∈ lw_tbl := lw_at lw_m5 158 rfl
theorem q1375 : (Jvm.Cond.selects "PeerSearch$Asking" ({ cls := "PeerSearch$Plan", name := "looked", desc := "(LPeerSearch$Work;)Z" } : Jvm.MethodName) ({ cls := "PeerSearch$Asking", name := "looked", desc := "(LPeerSearch$Work;)Z" } : Jvm.MethodName)) ∈ lw_all := lw_g (lw_at lw_m6 3 rfl) rfl
theorem q1376 : (Jvm.Cond.instanceMethod ({ cls := "PeerSearch$Asking", name := "looked", desc := "(LPeerSearch$Work;)Z" } : Jvm.MethodName)) ∈ lw_all := lw_g (lw_at lw_m6 4 rfl) rfl
theorem q1377 : (Jvm.Cond.code ({ cls := "PeerSearch$Asking", name := "looked", desc := "(LPeerSearch$Work;)Z" } : Jvm.MethodName) prog_2_method_5_code (3 : Nat) (Option.some Jvm.ClassFile.FieldType.boolean)) ∈ lw_all := lw_g (lw_at lw_m6 5 rfl) rfl
theorem q1378 : (Jvm.Cond.methodLink "PeerSearch$Asking" (94 : Nat) ({ cls := "PeerSearch$Asking", name := "isHeld", desc := "(LPeerSearch$Work;)Z" } : Jvm.MethodName)) ∈ lw_all := lw_g (lw_at lw_m6 6 rfl) rfl
theorem q1379 : (Jvm.Cond.privateMethod ({ cls := "PeerSearch$Asking", name := "isHeld", desc := "(LPeerSearch$Work;)Z" } : Jvm.MethodName)) ∈ lw_tbl := lw_at lw_m6 7 rfl
theorem q1380 : (Jvm.Cond.instanceMethod ({ cls := "PeerSearch$Asking", name := "isHeld", desc := "(LPeerSearch$Work;)Z" } : Jvm.MethodName)) ∈ lw_all := lw_g (lw_at lw_m6 8 rfl) rfl
theorem q1381 : (Jvm.Cond.instantiable "PeerSearch$Asking" (18 : Nat)) ∈ lw_all := lw_g (lw_at lw_m6 9 rfl) rfl
theorem q1382 : (Jvm.Cond.code ({ cls := "PeerSearch$Asking", name := "isHeld", desc := "(LPeerSearch$Work;)Z" } : Jvm.MethodName) prog_2_method_6_code (5 : Nat) (Option.some Jvm.ClassFile.FieldType.boolean)) ∈ lw_all := lw_g (lw_at lw_m6 10 rfl) rfl
theorem q1383 : (Jvm.Cond.methodLink "PeerSearch$Asking" (134 : Nat) ({ cls := "PeerSearch$Lookup", name := "front", desc := "(I)LPeerSearch$Entry;" } : Jvm.MethodName)) ∈ lw_all := lw_g (lw_at lw_m6 11 rfl) rfl
theorem q1384 : (Jvm.Cond.methodLink "PeerSearch$Asking" (147 : Nat) ({ cls := "PeerSearch$Key", name := "is", desc := "(LPeerSearch$Key;)Z" } : Jvm.MethodName)) ∈ lw_all := lw_g (lw_at lw_m6 12 rfl) rfl
theorem q1385 : (Jvm.Cond.methodLink "PeerSearch$Asking" (155 : Nat) ({ cls := "PeerSearch$Store", name := "count", desc := "(LPeerSearch$Key;)I" } : Jvm.MethodName)) ∈ lw_all := lw_g (lw_at lw_m6 13 rfl) rfl
theorem q1411 : (Jvm.Cond.methodLink "PeerSearch$Asking" (72 : Nat) ({ cls := "PeerSearch$Key", name := "set", desc := "(LPeerSearch$Key;)V" } : Jvm.MethodName)) ∈ lw_all := lw_g (lw_at lw_m6 39 rfl) rfl
theorem q1412 : (Jvm.Cond.methodLink "PeerSearch$Asking" (98 : Nat) ({ cls := "PeerSearch$Asking", name := "finish", desc := "(LPeerSearch$Work;)V" } : Jvm.MethodName)) ∈ lw_all := lw_g (lw_at lw_m6 40 rfl) rfl
theorem q1413 : (Jvm.Cond.privateMethod ({ cls := "PeerSearch$Asking", name := "finish", desc := "(LPeerSearch$Work;)V" } : Jvm.MethodName)) ∈ lw_tbl := lw_at lw_m6 41 rfl
theorem q1414 : (Jvm.Cond.instanceMethod ({ cls := "PeerSearch$Asking", name := "finish", desc := "(LPeerSearch$Work;)V" } : Jvm.MethodName)) ∈ lw_all := lw_g (lw_at lw_m6 42 rfl) rfl
theorem q1415 : (Jvm.Cond.code ({ cls := "PeerSearch$Asking", name := "finish", desc := "(LPeerSearch$Work;)V" } : Jvm.MethodName) prog_2_method_16_code (4 : Nat) (Option.none : Option Jvm.ClassFile.FieldType)) ∈ lw_all := lw_g (lw_at lw_m6 43 rfl) rfl
theorem q1416 : (Jvm.Cond.methodLink "PeerSearch$Asking" (244 : Nat) ({ cls := "PeerSearch$Ranking", name := "begin", desc := "()V" } : Jvm.MethodName)) ∈ lw_all := lw_g (lw_at lw_m6 44 rfl) rfl
theorem q1420 : (Jvm.Cond.methodLink "PeerSearch$Asking" (246 : Nat) ({ cls := "PeerSearch$Ranking", name := "add", desc := "(III)V" } : Jvm.MethodName)) ∈ lw_all := lw_g (lw_at lw_m6 48 rfl) rfl
theorem q1429 : (Jvm.Cond.methodLink "PeerSearch$Asking" (255 : Nat) ({ cls := "PeerSearch$Task", name := "tell", desc := "(II)V" } : Jvm.MethodName)) ∈ lw_all := lw_g (lw_at lw_m6 57 rfl) rfl
theorem q1433 : (Jvm.Cond.methodLink "PeerSearch$Asking" (263 : Nat) ({ cls := "PeerSearch$Ranking", name := "told", desc := "(II)I" } : Jvm.MethodName)) ∈ lw_all := lw_g (lw_at lw_m6 61 rfl) rfl
theorem q1437 : (Jvm.Cond.methodLink "PeerSearch$Asking" (266 : Nat) ({ cls := "PeerSearch$Work", name := "end", desc := "(I)V" } : Jvm.MethodName)) ∈ lw_all := lw_g (lw_at lw_m6 65 rfl) rfl
theorem q1438 : (Jvm.Cond.methodLink "PeerSearch$Asking" (102 : Nat) ({ cls := "PeerSearch$Asking", name := "arrange", desc := "()V" } : Jvm.MethodName)) ∈ lw_all := lw_g (lw_at lw_m6 66 rfl) rfl
theorem q1439 : (Jvm.Cond.privateMethod ({ cls := "PeerSearch$Asking", name := "arrange", desc := "()V" } : Jvm.MethodName)) ∈ lw_tbl := lw_at lw_m6 67 rfl
theorem q1440 : (Jvm.Cond.instanceMethod ({ cls := "PeerSearch$Asking", name := "arrange", desc := "()V" } : Jvm.MethodName)) ∈ lw_all := lw_g (lw_at lw_m6 68 rfl) rfl
theorem q1441 : (Jvm.Cond.code ({ cls := "PeerSearch$Asking", name := "arrange", desc := "()V" } : Jvm.MethodName) prog_2_method_7_code (3 : Nat) (Option.none : Option Jvm.ClassFile.FieldType)) ∈ lw_all := lw_g (lw_at lw_m6 69 rfl) rfl
theorem q1442 : (Jvm.Cond.methodLink "PeerSearch$Asking" (105 : Nat) ({ cls := "PeerSearch$Asking", name := "list", desc := "(LPeerSearch$Work;)V" } : Jvm.MethodName)) ∈ lw_all := lw_g (lw_at lw_m6 70 rfl) rfl
theorem q1443 : (Jvm.Cond.privateMethod ({ cls := "PeerSearch$Asking", name := "list", desc := "(LPeerSearch$Work;)V" } : Jvm.MethodName)) ∈ lw_tbl := lw_at lw_m6 71 rfl
theorem q1444 : (Jvm.Cond.instanceMethod ({ cls := "PeerSearch$Asking", name := "list", desc := "(LPeerSearch$Work;)V" } : Jvm.MethodName)) ∈ lw_all := lw_g (lw_at lw_m6 72 rfl) rfl
theorem q1445 : (Jvm.Cond.code ({ cls := "PeerSearch$Asking", name := "list", desc := "(LPeerSearch$Work;)V" } : Jvm.MethodName) prog_2_method_9_code (4 : Nat) (Option.none : Option Jvm.ClassFile.FieldType)) ∈ lw_all := lw_g (lw_at lw_m6 73 rfl) rfl
theorem q1446 : (Jvm.Cond.methodLink "PeerSearch$Asking" (196 : Nat) ({ cls := "PeerSearch$Net", name := "setting", desc := "(I)I" } : Jvm.MethodName)) ∈ lw_all := lw_g (lw_at lw_m6 74 rfl) rfl
theorem q1447 : (Jvm.Cond.methodLink "PeerSearch$Asking" (202 : Nat) ({ cls := "PeerSearch$Filter", name := "begin", desc := "(II)V" } : Jvm.MethodName)) ∈ lw_all := lw_g (lw_at lw_m6 75 rfl) rfl
theorem q1451 : (Jvm.Cond.methodLink "PeerSearch$Asking" (115 : Nat) ({ cls := "PeerSearch$Peer", name := "begin", desc := "(I)LPeerSearch$Packet;" } : Jvm.MethodName)) ∈ lw_all := lw_g (lw_at lw_m6 79 rfl) rfl
theorem q1452 : (Jvm.Cond.methodLink "PeerSearch$Asking" (121 : Nat) ({ cls := "PeerSearch$Packet", name := "putKey", desc := "(LPeerSearch$Key;)V" } : Jvm.MethodName)) ∈ lw_all := lw_g (lw_at lw_m6 80 rfl) rfl
theorem q1453 : (Jvm.Cond.methodLink "PeerSearch$Asking" (205 : Nat) ({ cls := "PeerSearch$Packet", name := "put", desc := "(II)V" } : Jvm.MethodName)) ∈ lw_all := lw_g (lw_at lw_m6 81 rfl) rfl
theorem q1454 : (Jvm.Cond.methodLink "PeerSearch$Asking" (208 : Nat) ({ cls := "PeerSearch$Filter", name := "write", desc := "(LPeerSearch$Packet;)V" } : Jvm.MethodName)) ∈ lw_all := lw_g (lw_at lw_m6 82 rfl) rfl
theorem q1459 : (Jvm.Cond.methodLink "PeerSearch$Asking" (126 : Nat) ({ cls := "PeerSearch$Asking", name := "consult", desc := "(LPeerSearch$Work;I)V" } : Jvm.MethodName)) ∈ lw_all := lw_g (lw_at lw_m6 87 rfl) rfl
theorem q1460 : (Jvm.Cond.privateMethod ({ cls := "PeerSearch$Asking", name := "consult", desc := "(LPeerSearch$Work;I)V" } : Jvm.MethodName)) ∈ lw_tbl := lw_at lw_m6 88 rfl
theorem q1461 : (Jvm.Cond.instanceMethod ({ cls := "PeerSearch$Asking", name := "consult", desc := "(LPeerSearch$Work;I)V" } : Jvm.MethodName)) ∈ lw_all := lw_g (lw_at lw_m6 89 rfl) rfl
theorem q1462 : (Jvm.Cond.code ({ cls := "PeerSearch$Asking", name := "consult", desc := "(LPeerSearch$Work;I)V" } : Jvm.MethodName) prog_2_method_8_code (4 : Nat) (Option.none : Option Jvm.ClassFile.FieldType)) ∈ lw_all := lw_g (lw_at lw_m6 90 rfl) rfl
theorem q1463 : (Jvm.Cond.methodLink "PeerSearch$Asking" (174 : Nat) ({ cls := "PeerSearch$Peer", name := "answers", desc := "(LPeerSearch$Packet;LPeerSearch$Key;)Z" } : Jvm.MethodName)) ∈ lw_all := lw_g (lw_at lw_m6 91 rfl) rfl
theorem q1577 : (Jvm.Cond.methodLink "PeerSearch$Asking" (181 : Nat) ({ cls := "PeerSearch$Asking", name := "answered", desc := "(LPeerSearch$Work;LPeerSearch$Packet;)V" } : Jvm.MethodName)) ∈ lw_all := lw_g (lw_at lw_m6 205 rfl) rfl
theorem q1578 : (Jvm.Cond.instanceMethod ({ cls := "PeerSearch$Asking", name := "answered", desc := "(LPeerSearch$Work;LPeerSearch$Packet;)V" } : Jvm.MethodName)) ∈ lw_all := lw_g (lw_at lw_m6 206 rfl) rfl
theorem q1579 : (Jvm.Cond.selects "PeerSearch$Asking" ({ cls := "PeerSearch$Asking", name := "answered", desc := "(LPeerSearch$Work;LPeerSearch$Packet;)V" } : Jvm.MethodName) ({ cls := "PeerSearch$Asking", name := "answered", desc := "(LPeerSearch$Work;LPeerSearch$Packet;)V" } : Jvm.MethodName)) ∈ lw_all := lw_g (lw_at lw_m6 207 rfl) rfl
theorem q1580 : (Jvm.Cond.code ({ cls := "PeerSearch$Asking", name := "answered", desc := "(LPeerSearch$Work;LPeerSearch$Packet;)V" } : Jvm.MethodName) prog_2_method_11_code (3 : Nat) (Option.none : Option Jvm.ClassFile.FieldType)) ∈ lw_all := lw_g (lw_at lw_m6 208 rfl) rfl
theorem q1581 : (Jvm.Cond.methodLink "PeerSearch$Asking" (221 : Nat) ({ cls := "PeerSearch$Filter", name := "read", desc := "(LPeerSearch$Packet;I)V" } : Jvm.MethodName)) ∈ lw_all := lw_g (lw_at lw_m6 209 rfl) rfl
theorem q1582 : (Jvm.Cond.methodLink "PeerSearch$Asking" (225 : Nat) ({ cls := "PeerSearch$Asking", name := "listed", desc := "(LPeerSearch$Work;LPeerSearch$Packet;)V" } : Jvm.MethodName)) ∈ lw_all := lw_g (lw_at lw_m6 210 rfl) rfl
theorem q1583 : (Jvm.Cond.privateMethod ({ cls := "PeerSearch$Asking", name := "listed", desc := "(LPeerSearch$Work;LPeerSearch$Packet;)V" } : Jvm.MethodName)) ∈ lw_tbl := lw_at lw_m6 211 rfl
theorem q1584 : (Jvm.Cond.instanceMethod ({ cls := "PeerSearch$Asking", name := "listed", desc := "(LPeerSearch$Work;LPeerSearch$Packet;)V" } : Jvm.MethodName)) ∈ lw_all := lw_g (lw_at lw_m6 212 rfl) rfl
theorem q1585 : (Jvm.Cond.code ({ cls := "PeerSearch$Asking", name := "listed", desc := "(LPeerSearch$Work;LPeerSearch$Packet;)V" } : Jvm.MethodName) prog_2_method_13_code (6 : Nat) (Option.none : Option Jvm.ClassFile.FieldType)) ∈ lw_all := lw_g (lw_at lw_m6 213 rfl) rfl
theorem q1586 : (Jvm.Cond.methodLink "PeerSearch$Asking" (231 : Nat) ({ cls := "PeerSearch$Packet", name := "get", desc := "(II)I" } : Jvm.MethodName)) ∈ lw_all := lw_g (lw_at lw_m6 214 rfl) rfl
theorem q1587 : (Jvm.Cond.methodLink "PeerSearch$Asking" (234 : Nat) ({ cls := "PeerSearch$Asking", name := "place", desc := "(IIII)I" } : Jvm.MethodName)) ∈ lw_all := lw_g (lw_at lw_m6 215 rfl) rfl
theorem q1588 : (Jvm.Cond.privateMethod ({ cls := "PeerSearch$Asking", name := "place", desc := "(IIII)I" } : Jvm.MethodName)) ∈ lw_tbl := lw_at lw_m6 216 rfl
theorem q1589 : (Jvm.Cond.instanceMethod ({ cls := "PeerSearch$Asking", name := "place", desc := "(IIII)I" } : Jvm.MethodName)) ∈ lw_all := lw_g (lw_at lw_m6 217 rfl) rfl
theorem q1590 : (Jvm.Cond.code ({ cls := "PeerSearch$Asking", name := "place", desc := "(IIII)I" } : Jvm.MethodName) prog_2_method_12_code (6 : Nat) (Option.some Jvm.ClassFile.FieldType.int)) ∈ lw_all := lw_g (lw_at lw_m6 218 rfl) rfl
theorem q1591 : (Jvm.Cond.methodLink "PeerSearch$Asking" (238 : Nat) ({ cls := "PeerSearch$Asking", name := "check", desc := "(LPeerSearch$Work;)V" } : Jvm.MethodName)) ∈ lw_all := lw_g (lw_at lw_m6 219 rfl) rfl
theorem q1592 : (Jvm.Cond.privateMethod ({ cls := "PeerSearch$Asking", name := "check", desc := "(LPeerSearch$Work;)V" } : Jvm.MethodName)) ∈ lw_tbl := lw_at lw_m6 220 rfl
theorem q1593 : (Jvm.Cond.instanceMethod ({ cls := "PeerSearch$Asking", name := "check", desc := "(LPeerSearch$Work;)V" } : Jvm.MethodName)) ∈ lw_all := lw_g (lw_at lw_m6 221 rfl) rfl
theorem q1594 : (Jvm.Cond.code ({ cls := "PeerSearch$Asking", name := "check", desc := "(LPeerSearch$Work;)V" } : Jvm.MethodName) prog_2_method_10_code (6 : Nat) (Option.none : Option Jvm.ClassFile.FieldType)) ∈ lw_all := lw_g (lw_at lw_m6 222 rfl) rfl
theorem q1595 : (Jvm.Cond.methodLink "PeerSearch$Asking" (215 : Nat) ({ cls := "java/lang/Math", name := "min", desc := "(II)I" } : Jvm.MethodName)) ∈ lw_all := lw_g (lw_at lw_m6 223 rfl) rfl
theorem q1596 : (Jvm.Cond.methodLink "PeerSearch$Asking" (228 : Nat) ({ cls := "PeerSearch$Asking", name := "checked", desc := "(LPeerSearch$Work;LPeerSearch$Packet;)V" } : Jvm.MethodName)) ∈ lw_all := lw_g (lw_at lw_m6 224 rfl) rfl
theorem q1597 : (Jvm.Cond.privateMethod ({ cls := "PeerSearch$Asking", name := "checked", desc := "(LPeerSearch$Work;LPeerSearch$Packet;)V" } : Jvm.MethodName)) ∈ lw_tbl := lw_at lw_m6 225 rfl
theorem q1598 : (Jvm.Cond.instanceMethod ({ cls := "PeerSearch$Asking", name := "checked", desc := "(LPeerSearch$Work;LPeerSearch$Packet;)V" } : Jvm.MethodName)) ∈ lw_all := lw_g (lw_at lw_m6 226 rfl) rfl
theorem q1599 : (Jvm.Cond.code ({ cls := "PeerSearch$Asking", name := "checked", desc := "(LPeerSearch$Work;LPeerSearch$Packet;)V" } : Jvm.MethodName) prog_2_method_14_code (8 : Nat) (Option.none : Option Jvm.ClassFile.FieldType)) ∈ lw_all := lw_g (lw_at lw_m6 227 rfl) rfl
theorem q1600 : (Jvm.Cond.methodLink "PeerSearch$Asking" (241 : Nat) ({ cls := "PeerSearch$Asking", name := "sift", desc := "()V" } : Jvm.MethodName)) ∈ lw_all := lw_g (lw_at lw_m6 228 rfl) rfl
theorem q1601 : (Jvm.Cond.privateMethod ({ cls := "PeerSearch$Asking", name := "sift", desc := "()V" } : Jvm.MethodName)) ∈ lw_tbl := lw_at lw_m6 229 rfl
theorem q1602 : (Jvm.Cond.instanceMethod ({ cls := "PeerSearch$Asking", name := "sift", desc := "()V" } : Jvm.MethodName)) ∈ lw_all := lw_g (lw_at lw_m6 230 rfl) rfl
theorem q1603 : (Jvm.Cond.code ({ cls := "PeerSearch$Asking", name := "sift", desc := "()V" } : Jvm.MethodName) prog_2_method_15_code (3 : Nat) (Option.none : Option Jvm.ClassFile.FieldType)) ∈ lw_all := lw_g (lw_at lw_m6 231 rfl) rfl
theorem q1604 : (Jvm.Cond.methodLink "PeerSearch$Asking" (185 : Nat) ({ cls := "PeerSearch$Work", name := "ask", desc := "(LPeerSearch$Key;I)Z" } : Jvm.MethodName)) ∈ lw_all := lw_g (lw_at lw_m6 232 rfl) rfl
theorem q1613 : (Jvm.Cond.methodLink "PeerSearch$Asking" (189 : Nat) ({ cls := "PeerSearch$Asking", name := "failed", desc := "(LPeerSearch$Work;)V" } : Jvm.MethodName)) ∈ lw_all := lw_g (lw_at lw_m7 1 rfl) rfl
theorem q1614 : (Jvm.Cond.instanceMethod ({ cls := "PeerSearch$Asking", name := "failed", desc := "(LPeerSearch$Work;)V" } : Jvm.MethodName)) ∈ lw_all := lw_g (lw_at lw_m7 2 rfl) rfl
theorem q1615 : (Jvm.Cond.selects "PeerSearch$Asking" ({ cls := "PeerSearch$Asking", name := "failed", desc := "(LPeerSearch$Work;)V" } : Jvm.MethodName) ({ cls := "PeerSearch$Asking", name := "failed", desc := "(LPeerSearch$Work;)V" } : Jvm.MethodName)) ∈ lw_all := lw_g (lw_at lw_m7 3 rfl) rfl
theorem q1616 : (Jvm.Cond.code ({ cls := "PeerSearch$Asking", name := "failed", desc := "(LPeerSearch$Work;)V" } : Jvm.MethodName) prog_2_method_17_code (2 : Nat) (Option.none : Option Jvm.ClassFile.FieldType)) ∈ lw_all := lw_g (lw_at lw_m7 4 rfl) rfl
theorem q1804 : (Jvm.Cond.instanceMethod ({ cls := "PeerSearch$Asking", name := "<init>", desc := "(LPeerSearch$Board;)V" } : Jvm.MethodName)) ∈ lw_all := lw_g (lw_at lw_m7 192 rfl) rfl
theorem q1805 : (Jvm.Cond.code ({ cls := "PeerSearch$Asking", name := "<init>", desc := "(LPeerSearch$Board;)V" } : Jvm.MethodName) prog_2_method_1_code (3 : Nat) (Option.none : Option Jvm.ClassFile.FieldType)) ∈ lw_all := lw_g (lw_at lw_m7 193 rfl) rfl
theorem q1806 : (Jvm.Cond.methodLinkNest "PeerSearch$Asking" (3 : Nat) ({ cls := "PeerSearch$Plan", name := "<init>", desc := "()V" } : Jvm.MethodName) "PeerSearch") ∈ lw_tbl := lw_at lw_m7 194 rfl
theorem q1807 : (Jvm.Cond.classLink "PeerSearch$Asking" (9 : Nat) "PeerSearch$Key") ∈ lw_all := lw_g (lw_at lw_m7 195 rfl) rfl
theorem q1809 : (Jvm.Cond.classLink "PeerSearch$Asking" (43 : Nat) "PeerSearch$Ranking") ∈ lw_all := lw_g (lw_at lw_m7 197 rfl) rfl
theorem q1810 : (Jvm.Cond.methodLink "PeerSearch$Asking" (45 : Nat) ({ cls := "PeerSearch$Ranking", name := "<init>", desc := "(I)V" } : Jvm.MethodName)) ∈ lw_all := lw_g (lw_at lw_m7 198 rfl) rfl
theorem q1811 : (Jvm.Cond.classLink "PeerSearch$Asking" (52 : Nat) "PeerSearch$Filter") ∈ lw_all := lw_g (lw_at lw_m7 199 rfl) rfl
theorem q1812 : (Jvm.Cond.methodLink "PeerSearch$Asking" (60 : Nat) ({ cls := "PeerSearch$Filter", name := "<init>", desc := "(LPeerSearch$Sha;)V" } : Jvm.MethodName)) ∈ lw_all := lw_g (lw_at lw_m7 200 rfl) rfl
theorem q1813 : (Jvm.Cond.methodLinkNest "PeerSearch$Asking" (67 : Nat) ({ cls := "PeerSearch$Key", name := "<init>", desc := "()V" } : Jvm.MethodName) "PeerSearch") ∈ lw_tbl := lw_at lw_m7 201 rfl
theorem q1814 : (Jvm.Cond.fieldLink "PeerSearch$Asking" (11 : Nat) "PeerSearch$Asking" "terms" "[LPeerSearch$Key;") ∈ lw_all := lw_g (lw_at lw_m7 202 rfl) rfl
theorem q1815 : (Jvm.Cond.fieldLink "PeerSearch$Asking" (17 : Nat) "PeerSearch$Asking" "holders" "[LPeerSearch$Key;") ∈ lw_all := lw_g (lw_at lw_m7 203 rfl) rfl
theorem q1816 : (Jvm.Cond.fieldLink "PeerSearch$Asking" (20 : Nat) "PeerSearch$Asking" "counts" "[I") ∈ lw_all := lw_g (lw_at lw_m7 204 rfl) rfl
theorem q1817 : (Jvm.Cond.fieldLink "PeerSearch$Asking" (24 : Nat) "PeerSearch$Asking" "addresses" "[I") ∈ lw_all := lw_g (lw_at lw_m7 205 rfl) rfl
theorem q1818 : (Jvm.Cond.fieldLink "PeerSearch$Asking" (27 : Nat) "PeerSearch$Asking" "order" "[I") ∈ lw_all := lw_g (lw_at lw_m7 206 rfl) rfl
theorem q1819 : (Jvm.Cond.fieldLink "PeerSearch$Asking" (68 : Nat) "PeerSearch$Asking" "size" "I") ∈ lw_all := lw_g (lw_at lw_m7 207 rfl) rfl
theorem q1820 : (Jvm.Cond.fieldLink "PeerSearch$Asking" (76 : Nat) "PeerSearch$Asking" "at" "I") ∈ lw_all := lw_g (lw_at lw_m7 208 rfl) rfl
theorem q1821 : (Jvm.Cond.fieldLink "PeerSearch$Asking" (108 : Nat) "PeerSearch$Asking" "stage" "I") ∈ lw_all := lw_g (lw_at lw_m7 209 rfl) rfl
theorem q1822 : (Jvm.Cond.fieldLink "PeerSearch$Asking" (63 : Nat) "PeerSearch$Asking" "filter" "LPeerSearch$Filter;") ∈ lw_all := lw_g (lw_at lw_m7 210 rfl) rfl
theorem q1823 : (Jvm.Cond.fieldLink "PeerSearch$Asking" (30 : Nat) "PeerSearch$Asking" "owners" "[I") ∈ lw_all := lw_g (lw_at lw_m7 211 rfl) rfl
theorem q1824 : (Jvm.Cond.fieldLink "PeerSearch$Asking" (33 : Nat) "PeerSearch$Asking" "documents" "[I") ∈ lw_all := lw_g (lw_at lw_m7 212 rfl) rfl
theorem q1825 : (Jvm.Cond.fieldLink "PeerSearch$Asking" (36 : Nat) "PeerSearch$Asking" "scores" "[I") ∈ lw_all := lw_g (lw_at lw_m7 213 rfl) rfl
theorem q1826 : (Jvm.Cond.fieldLink "PeerSearch$Asking" (39 : Nat) "PeerSearch$Asking" "stays" "[Z") ∈ lw_all := lw_g (lw_at lw_m7 214 rfl) rfl
theorem q1827 : (Jvm.Cond.fieldLink "PeerSearch$Asking" (79 : Nat) "PeerSearch$Asking" "many" "I") ∈ lw_all := lw_g (lw_at lw_m7 215 rfl) rfl
theorem q1828 : (Jvm.Cond.fieldLink "PeerSearch$Asking" (82 : Nat) "PeerSearch$Asking" "skip" "I") ∈ lw_all := lw_g (lw_at lw_m7 216 rfl) rfl
theorem q1829 : (Jvm.Cond.fieldLink "PeerSearch$Asking" (85 : Nat) "PeerSearch$Asking" "checks" "I") ∈ lw_all := lw_g (lw_at lw_m7 217 rfl) rfl
theorem q1830 : (Jvm.Cond.fieldLink "PeerSearch$Asking" (212 : Nat) "PeerSearch$Asking" "chunk" "I") ∈ lw_all := lw_g (lw_at lw_m7 218 rfl) rfl
theorem q1831 : (Jvm.Cond.fieldLink "PeerSearch$Asking" (48 : Nat) "PeerSearch$Asking" "ranking" "LPeerSearch$Ranking;") ∈ lw_all := lw_g (lw_at lw_m7 219 rfl) rfl
theorem q1832 : (Jvm.Cond.laysFinal "PeerSearch$Asking" "PeerSearch$Asking" "terms" "[LPeerSearch$Key;") ∈ lw_all := lw_g (lw_at lw_m7 220 rfl) rfl
theorem q1833 : (Jvm.Cond.soleField "PeerSearch$Asking" "terms") ∈ lw_all := lw_g (lw_at lw_m7 221 rfl) rfl
theorem q1834 : (Jvm.Cond.laysFinal "PeerSearch$Asking" "PeerSearch$Asking" "holders" "[LPeerSearch$Key;") ∈ lw_all := lw_g (lw_at lw_m7 222 rfl) rfl
theorem q1835 : (Jvm.Cond.soleField "PeerSearch$Asking" "holders") ∈ lw_all := lw_g (lw_at lw_m7 223 rfl) rfl
theorem q1836 : (Jvm.Cond.laysFinal "PeerSearch$Asking" "PeerSearch$Asking" "counts" "[I") ∈ lw_all := lw_g (lw_at lw_m7 224 rfl) rfl
theorem q1837 : (Jvm.Cond.soleField "PeerSearch$Asking" "counts") ∈ lw_all := lw_g (lw_at lw_m7 225 rfl) rfl
theorem q1838 : (Jvm.Cond.laysFinal "PeerSearch$Asking" "PeerSearch$Asking" "addresses" "[I") ∈ lw_all := lw_g (lw_at lw_m7 226 rfl) rfl
theorem q1839 : (Jvm.Cond.soleField "PeerSearch$Asking" "addresses") ∈ lw_all := lw_g (lw_at lw_m7 227 rfl) rfl
theorem q1840 : (Jvm.Cond.laysFinal "PeerSearch$Asking" "PeerSearch$Asking" "order" "[I") ∈ lw_all := lw_g (lw_at lw_m7 228 rfl) rfl
theorem q1841 : (Jvm.Cond.soleField "PeerSearch$Asking" "order") ∈ lw_all := lw_g (lw_at lw_m7 229 rfl) rfl
theorem q1842 : (Jvm.Cond.lays "PeerSearch$Asking" "PeerSearch$Asking" "size" "I") ∈ lw_all := lw_g (lw_at lw_m7 230 rfl) rfl
theorem q1843 : (Jvm.Cond.soleField "PeerSearch$Asking" "size") ∈ lw_all := lw_g (lw_at lw_m7 231 rfl) rfl
theorem q1844 : (Jvm.Cond.lays "PeerSearch$Asking" "PeerSearch$Asking" "at" "I") ∈ lw_all := lw_g (lw_at lw_m7 232 rfl) rfl
theorem q1845 : (Jvm.Cond.soleField "PeerSearch$Asking" "at") ∈ lw_all := lw_g (lw_at lw_m7 233 rfl) rfl
theorem q1846 : (Jvm.Cond.lays "PeerSearch$Asking" "PeerSearch$Asking" "stage" "I") ∈ lw_all := lw_g (lw_at lw_m7 234 rfl) rfl
theorem q1847 : (Jvm.Cond.soleField "PeerSearch$Asking" "stage") ∈ lw_all := lw_g (lw_at lw_m7 235 rfl) rfl
theorem q1848 : (Jvm.Cond.laysFinal "PeerSearch$Asking" "PeerSearch$Asking" "filter" "LPeerSearch$Filter;") ∈ lw_all := lw_g (lw_at lw_m7 236 rfl) rfl
theorem q1849 : (Jvm.Cond.soleField "PeerSearch$Asking" "filter") ∈ lw_all := lw_g (lw_at lw_m7 237 rfl) rfl
theorem q1850 : (Jvm.Cond.laysFinal "PeerSearch$Asking" "PeerSearch$Asking" "owners" "[I") ∈ lw_all := lw_g (lw_at lw_m7 238 rfl) rfl
theorem q1851 : (Jvm.Cond.soleField "PeerSearch$Asking" "owners") ∈ lw_all := lw_g (lw_at lw_m7 239 rfl) rfl
theorem q1852 : (Jvm.Cond.laysFinal "PeerSearch$Asking" "PeerSearch$Asking" "documents" "[I") ∈ lw_all := lw_g (lw_at lw_m8 0 rfl) rfl
theorem q1853 : (Jvm.Cond.soleField "PeerSearch$Asking" "documents") ∈ lw_all := lw_g (lw_at lw_m8 1 rfl) rfl
theorem q1854 : (Jvm.Cond.laysFinal "PeerSearch$Asking" "PeerSearch$Asking" "scores" "[I") ∈ lw_all := lw_g (lw_at lw_m8 2 rfl) rfl
theorem q1855 : (Jvm.Cond.soleField "PeerSearch$Asking" "scores") ∈ lw_all := lw_g (lw_at lw_m8 3 rfl) rfl
theorem q1856 : (Jvm.Cond.laysFinal "PeerSearch$Asking" "PeerSearch$Asking" "stays" "[Z") ∈ lw_all := lw_g (lw_at lw_m8 4 rfl) rfl
theorem q1857 : (Jvm.Cond.soleField "PeerSearch$Asking" "stays") ∈ lw_all := lw_g (lw_at lw_m8 5 rfl) rfl
theorem q1858 : (Jvm.Cond.lays "PeerSearch$Asking" "PeerSearch$Asking" "many" "I") ∈ lw_all := lw_g (lw_at lw_m8 6 rfl) rfl
theorem q1859 : (Jvm.Cond.soleField "PeerSearch$Asking" "many") ∈ lw_all := lw_g (lw_at lw_m8 7 rfl) rfl
theorem q1860 : (Jvm.Cond.lays "PeerSearch$Asking" "PeerSearch$Asking" "skip" "I") ∈ lw_all := lw_g (lw_at lw_m8 8 rfl) rfl
theorem q1861 : (Jvm.Cond.soleField "PeerSearch$Asking" "skip") ∈ lw_all := lw_g (lw_at lw_m8 9 rfl) rfl
theorem q1862 : (Jvm.Cond.lays "PeerSearch$Asking" "PeerSearch$Asking" "checks" "I") ∈ lw_all := lw_g (lw_at lw_m8 10 rfl) rfl
theorem q1863 : (Jvm.Cond.soleField "PeerSearch$Asking" "checks") ∈ lw_all := lw_g (lw_at lw_m8 11 rfl) rfl
theorem q1864 : (Jvm.Cond.lays "PeerSearch$Asking" "PeerSearch$Asking" "chunk" "I") ∈ lw_all := lw_g (lw_at lw_m8 12 rfl) rfl
theorem q1865 : (Jvm.Cond.soleField "PeerSearch$Asking" "chunk") ∈ lw_all := lw_g (lw_at lw_m8 13 rfl) rfl
theorem q1866 : (Jvm.Cond.laysFinal "PeerSearch$Asking" "PeerSearch$Asking" "ranking" "LPeerSearch$Ranking;") ∈ lw_all := lw_g (lw_at lw_m8 14 rfl) rfl
theorem q1867 : (Jvm.Cond.soleField "PeerSearch$Asking" "ranking") ∈ lw_all := lw_g (lw_at lw_m8 15 rfl) rfl
theorem q1868 : (Jvm.Cond.superclass "PeerSearch$Asking" "PeerSearch$Plan") ∈ lw_all := lw_g (lw_at lw_m8 16 rfl) rfl
theorem q1871 : (Jvm.Cond.instanceMethod ({ cls := "PeerSearch$Asking", name := "clear", desc := "()V" } : Jvm.MethodName)) ∈ lw_all := lw_g (lw_at lw_m8 19 rfl) rfl
theorem q1872 : (Jvm.Cond.selects "PeerSearch$Asking" ({ cls := "PeerSearch$Asking", name := "clear", desc := "()V" } : Jvm.MethodName) ({ cls := "PeerSearch$Asking", name := "clear", desc := "()V" } : Jvm.MethodName)) ∈ lw_all := lw_g (lw_at lw_m8 20 rfl) rfl
theorem q1873 : (Jvm.Cond.code ({ cls := "PeerSearch$Asking", name := "clear", desc := "()V" } : Jvm.MethodName) prog_2_method_2_code (1 : Nat) (Option.none : Option Jvm.ClassFile.FieldType)) ∈ lw_all := lw_g (lw_at lw_m8 21 rfl) rfl
theorem q1875 : (Jvm.Cond.instanceMethod ({ cls := "PeerSearch$Asking", name := "add", desc := "(LPeerSearch$Key;)V" } : Jvm.MethodName)) ∈ lw_all := lw_g (lw_at lw_m8 23 rfl) rfl
theorem q1876 : (Jvm.Cond.selects "PeerSearch$Asking" ({ cls := "PeerSearch$Asking", name := "add", desc := "(LPeerSearch$Key;)V" } : Jvm.MethodName) ({ cls := "PeerSearch$Asking", name := "add", desc := "(LPeerSearch$Key;)V" } : Jvm.MethodName)) ∈ lw_all := lw_g (lw_at lw_m8 24 rfl) rfl
theorem q1877 : (Jvm.Cond.code ({ cls := "PeerSearch$Asking", name := "add", desc := "(LPeerSearch$Key;)V" } : Jvm.MethodName) prog_2_method_3_code (2 : Nat) (Option.none : Option Jvm.ClassFile.FieldType)) ∈ lw_all := lw_g (lw_at lw_m8 25 rfl) rfl
theorem q1955 : (Jvm.Cond.selects "PeerSearch$Asking" ({ cls := "PeerSearch$Plan", name := "answered", desc := "(LPeerSearch$Work;LPeerSearch$Packet;)V" } : Jvm.MethodName) ({ cls := "PeerSearch$Asking", name := "answered", desc := "(LPeerSearch$Work;LPeerSearch$Packet;)V" } : Jvm.MethodName)) ∈ lw_all := lw_g (lw_at lw_m8 103 rfl) rfl
theorem q1994 : (Jvm.Cond.selects "PeerSearch$Asking" ({ cls := "PeerSearch$Plan", name := "failed", desc := "(LPeerSearch$Work;)V" } : Jvm.MethodName) ({ cls := "PeerSearch$Asking", name := "failed", desc := "(LPeerSearch$Work;)V" } : Jvm.MethodName)) ∈ lw_all := lw_g (lw_at lw_m8 142 rfl) rfl
theorem in_X31 : ∀ w ∈ wsX310, w ∈ lw_all := lw_in wsX310 [1832, 1834, 1836, 1838, 1840, 1842, 1844, 1846, 1848, 1850, 1852, 1854, 1856, 1858, 1860, 1862, 1864, 1866] (by decide +kernel) (by decide +kernel)
/-! java/lang/Object -/
def RJ2 : String := "java/lang/Object"
abbrev cJ2_init : ByteArray := object_method_1_code
def yJ2_init : MethodName := ⟨RJ2, "<init>", "()V"⟩
theorem q213 : (Jvm.Cond.instanceMethod ({ cls := "java/lang/Object", name := "<init>", desc := "()V" } : Jvm.MethodName)) ∈ lw_all := lw_g (lw_at lw_m1 41 rfl) rfl
theorem q214 : (Jvm.Cond.code ({ cls := "java/lang/Object", name := "<init>", desc := "()V" } : Jvm.MethodName) object_method_1_code (1 : Nat) (Option.none : Option Jvm.ClassFile.FieldType)) ∈ lw_all := lw_g (lw_at lw_m1 42 rfl) rfl
theorem q216 : (Jvm.Cond.arrayOver (Jvm.ClassFile.FieldType.object "PeerSearch$Work")) ∈ lw_tbl := lw_at lw_m1 44 rfl
theorem q218 : (Jvm.Cond.arrayOver (Jvm.ClassFile.FieldType.object "PeerSearch$Task")) ∈ lw_tbl := lw_at lw_m1 46 rfl
theorem q247 : (Jvm.Cond.arrayClass Jvm.ClassFile.FieldType.byte) ∈ lw_all := lw_g (lw_at lw_m1 75 rfl) rfl
theorem q248 : (Jvm.Cond.arrayClass Jvm.ClassFile.FieldType.int) ∈ lw_all := lw_g (lw_at lw_m1 76 rfl) rfl
theorem q325 : (Jvm.Cond.arrayOver (Jvm.ClassFile.FieldType.object "PeerSearch$Datagram")) ∈ lw_tbl := lw_at lw_m1 153 rfl
theorem q377 : (Jvm.Cond.arrayOver (Jvm.ClassFile.FieldType.object "PeerSearch$Contact")) ∈ lw_tbl := lw_at lw_m1 205 rfl
theorem q386 : (Jvm.Cond.arrayOver (Jvm.ClassFile.FieldType.object "PeerSearch$Peer")) ∈ lw_tbl := lw_at lw_m1 214 rfl
theorem q529 : (Jvm.Cond.arrayOver (Jvm.ClassFile.FieldType.object "PeerSearch$Entry")) ∈ lw_tbl := lw_at lw_m2 117 rfl
theorem q720 : (Jvm.Cond.arrayOver (Jvm.ClassFile.FieldType.object "PeerSearch$Posting")) ∈ lw_tbl := lw_at lw_m3 68 rfl
theorem q743 : (Jvm.Cond.arrayOver (Jvm.ClassFile.FieldType.object "PeerSearch$Term")) ∈ lw_tbl := lw_at lw_m3 91 rfl
theorem q760 : (Jvm.Cond.arrayOver (Jvm.ClassFile.FieldType.object "PeerSearch$Request")) ∈ lw_tbl := lw_at lw_m3 108 rfl
theorem q772 : (Jvm.Cond.arrayOver (Jvm.ClassFile.FieldType.object "PeerSearch$Bucket")) ∈ lw_tbl := lw_at lw_m3 120 rfl
theorem q1808 : (Jvm.Cond.arrayOver (Jvm.ClassFile.FieldType.object "PeerSearch$Key")) ∈ lw_tbl := lw_at lw_m7 196 rfl
theorem q1869 : (Jvm.Cond.arrayClass Jvm.ClassFile.FieldType.boolean) ∈ lw_all := lw_g (lw_at lw_m8 17 rfl) rfl
theorem q199 : (Jvm.Cond.initialized "java/lang/System") ∈ lw_all := lw_g (lw_at lw_m1 27 rfl) rfl
theorem q1122 : (Jvm.Cond.static ({ cls := "java/lang/System", name := "arraycopy", desc := "(Ljava/lang/Object;ILjava/lang/Object;II)V" } : Jvm.MethodName)) ∈ lw_all := lw_g (lw_at lw_m4 230 rfl) rfl
theorem q1123 : (Jvm.Cond.native ({ cls := "java/lang/System", name := "arraycopy", desc := "(Ljava/lang/Object;ILjava/lang/Object;II)V" } : Jvm.MethodName)) ∈ lw_all := lw_g (lw_at lw_m4 231 rfl) rfl
abbrev cL_law : ByteArray := code
