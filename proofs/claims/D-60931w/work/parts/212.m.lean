set_option maxRecDepth 100000
/-! PeerSearchModel.tookMatches(I)V -/
theorem dX16_tookMatches_0 : decode cX16_tookMatches 0 = .ok (.aload_n 0, 1) := by decide +kernel
theorem dX16_tookMatches_1 : decode cX16_tookMatches 1 = .ok (.getfield 309, 3) := by decide +kernel
theorem dX16_tookMatches_4 : decode cX16_tookMatches 4 = .ok (.iload_n 1, 1) := by decide +kernel
theorem dX16_tookMatches_5 : decode cX16_tookMatches 5 = .ok (.dup2, 1) := by decide +kernel
theorem dX16_tookMatches_6 : decode cX16_tookMatches 6 = .ok (.iaload, 1) := by decide +kernel
theorem dX16_tookMatches_7 : decode cX16_tookMatches 7 = .ok (.aload_n 0, 1) := by decide +kernel
theorem dX16_tookMatches_8 : decode cX16_tookMatches 8 = .ok (.getfield 595, 3) := by decide +kernel
theorem dX16_tookMatches_11 : decode cX16_tookMatches 11 = .ok (.iadd, 1) := by decide +kernel
theorem dX16_tookMatches_12 : decode cX16_tookMatches 12 = .ok (.iastore, 1) := by decide +kernel
theorem dX16_tookMatches_13 : decode cX16_tookMatches 13 = .ok (.iconst 0, 1) := by decide +kernel
theorem dX16_tookMatches_14 : decode cX16_tookMatches 14 = .ok (.istore_n 2, 1) := by decide +kernel
theorem dX16_tookMatches_15 : decode cX16_tookMatches 15 = .ok (.iload_n 2, 1) := by decide +kernel
theorem dX16_tookMatches_16 : decode cX16_tookMatches 16 = .ok (.aload_n 0, 1) := by decide +kernel
theorem dX16_tookMatches_17 : decode cX16_tookMatches 17 = .ok (.getfield 595, 3) := by decide +kernel
theorem dX16_tookMatches_20 : decode cX16_tookMatches 20 = .ok (.if_icmp .ge 166, 3) := by decide +kernel
theorem dX16_tookMatches_23 : decode cX16_tookMatches 23 = .ok (.aload_n 0, 1) := by decide +kernel
theorem dX16_tookMatches_24 : decode cX16_tookMatches 24 = .ok (.getfield 321, 3) := by decide +kernel
theorem dX16_tookMatches_27 : decode cX16_tookMatches 27 = .ok (.iload_n 1, 1) := by decide +kernel
theorem dX16_tookMatches_28 : decode cX16_tookMatches 28 = .ok (.iaload, 1) := by decide +kernel
theorem dX16_tookMatches_29 : decode cX16_tookMatches 29 = .ok (.sipush 200, 3) := by decide +kernel
theorem dX16_tookMatches_32 : decode cX16_tookMatches 32 = .ok (.if_icmp .ne 7, 3) := by decide +kernel
theorem dX16_tookMatches_35 : decode cX16_tookMatches 35 = .ok (.iconst 1, 1) := by decide +kernel
theorem dX16_tookMatches_36 : decode cX16_tookMatches 36 = .ok (.goto 4, 3) := by decide +kernel
theorem dX16_tookMatches_39 : decode cX16_tookMatches 39 = .ok (.iconst 0, 1) := by decide +kernel
theorem dX16_tookMatches_40 : decode cX16_tookMatches 40 = .ok (.istore_n 3, 1) := by decide +kernel
theorem dX16_tookMatches_41 : decode cX16_tookMatches 41 = .ok (.sipush 200, 3) := by decide +kernel
theorem dX16_tookMatches_44 : decode cX16_tookMatches 44 = .ok (.iload_n 1, 1) := by decide +kernel
theorem dX16_tookMatches_45 : decode cX16_tookMatches 45 = .ok (.imul, 1) := by decide +kernel
theorem dX16_tookMatches_46 : decode cX16_tookMatches 46 = .ok (.istore 4, 2) := by decide +kernel
theorem dX16_tookMatches_48 : decode cX16_tookMatches 48 = .ok (.iload 4, 2) := by decide +kernel
theorem dX16_tookMatches_50 : decode cX16_tookMatches 50 = .ok (.sipush 200, 3) := by decide +kernel
theorem dX16_tookMatches_53 : decode cX16_tookMatches 53 = .ok (.iload_n 1, 1) := by decide +kernel
theorem dX16_tookMatches_54 : decode cX16_tookMatches 54 = .ok (.imul, 1) := by decide +kernel
theorem dX16_tookMatches_55 : decode cX16_tookMatches 55 = .ok (.aload_n 0, 1) := by decide +kernel
theorem dX16_tookMatches_56 : decode cX16_tookMatches 56 = .ok (.getfield 321, 3) := by decide +kernel
theorem dX16_tookMatches_59 : decode cX16_tookMatches 59 = .ok (.iload_n 1, 1) := by decide +kernel
theorem dX16_tookMatches_60 : decode cX16_tookMatches 60 = .ok (.iaload, 1) := by decide +kernel
theorem dX16_tookMatches_61 : decode cX16_tookMatches 61 = .ok (.iadd, 1) := by decide +kernel
theorem dX16_tookMatches_62 : decode cX16_tookMatches 62 = .ok (.if_icmp .ge 51, 3) := by decide +kernel
theorem dX16_tookMatches_65 : decode cX16_tookMatches 65 = .ok (.iload_n 3, 1) := by decide +kernel
theorem dX16_tookMatches_66 : decode cX16_tookMatches 66 = .ok (.ifCond .ne 35, 3) := by decide +kernel
theorem dX16_tookMatches_69 : decode cX16_tookMatches 69 = .ok (.aload_n 0, 1) := by decide +kernel
theorem dX16_tookMatches_70 : decode cX16_tookMatches 70 = .ok (.getfield 324, 3) := by decide +kernel
theorem dX16_tookMatches_73 : decode cX16_tookMatches 73 = .ok (.iload 4, 2) := by decide +kernel
theorem dX16_tookMatches_75 : decode cX16_tookMatches 75 = .ok (.iaload, 1) := by decide +kernel
theorem dX16_tookMatches_76 : decode cX16_tookMatches 76 = .ok (.aload_n 0, 1) := by decide +kernel
theorem dX16_tookMatches_77 : decode cX16_tookMatches 77 = .ok (.getfield 210, 3) := by decide +kernel
theorem dX16_tookMatches_80 : decode cX16_tookMatches 80 = .ok (.iload_n 2, 1) := by decide +kernel
theorem dX16_tookMatches_81 : decode cX16_tookMatches 81 = .ok (.iaload, 1) := by decide +kernel
theorem dX16_tookMatches_82 : decode cX16_tookMatches 82 = .ok (.if_icmp .ne 23, 3) := by decide +kernel
theorem dX16_tookMatches_85 : decode cX16_tookMatches 85 = .ok (.aload_n 0, 1) := by decide +kernel
theorem dX16_tookMatches_86 : decode cX16_tookMatches 86 = .ok (.getfield 327, 3) := by decide +kernel
theorem dX16_tookMatches_89 : decode cX16_tookMatches 89 = .ok (.iload 4, 2) := by decide +kernel
theorem dX16_tookMatches_91 : decode cX16_tookMatches 91 = .ok (.iaload, 1) := by decide +kernel
theorem dX16_tookMatches_92 : decode cX16_tookMatches 92 = .ok (.aload_n 0, 1) := by decide +kernel
theorem dX16_tookMatches_93 : decode cX16_tookMatches 93 = .ok (.getfield 213, 3) := by decide +kernel
theorem dX16_tookMatches_96 : decode cX16_tookMatches 96 = .ok (.iload_n 2, 1) := by decide +kernel
theorem dX16_tookMatches_97 : decode cX16_tookMatches 97 = .ok (.iaload, 1) := by decide +kernel
theorem dX16_tookMatches_98 : decode cX16_tookMatches 98 = .ok (.if_icmp .ne 7, 3) := by decide +kernel
theorem dX16_tookMatches_101 : decode cX16_tookMatches 101 = .ok (.iconst 1, 1) := by decide +kernel
theorem dX16_tookMatches_102 : decode cX16_tookMatches 102 = .ok (.goto 4, 3) := by decide +kernel
theorem dX16_tookMatches_105 : decode cX16_tookMatches 105 = .ok (.iconst 0, 1) := by decide +kernel
theorem dX16_tookMatches_106 : decode cX16_tookMatches 106 = .ok (.istore_n 3, 1) := by decide +kernel
theorem dX16_tookMatches_107 : decode cX16_tookMatches 107 = .ok (.iinc 4 1, 3) := by decide +kernel
theorem dX16_tookMatches_110 : decode cX16_tookMatches 110 = .ok (.goto (-62), 3) := by decide +kernel
theorem dX16_tookMatches_113 : decode cX16_tookMatches 113 = .ok (.iload_n 3, 1) := by decide +kernel
theorem dX16_tookMatches_114 : decode cX16_tookMatches 114 = .ok (.ifCond .ne 66, 3) := by decide +kernel
theorem dX16_tookMatches_117 : decode cX16_tookMatches 117 = .ok (.sipush 200, 3) := by decide +kernel
theorem dX16_tookMatches_120 : decode cX16_tookMatches 120 = .ok (.iload_n 1, 1) := by decide +kernel
theorem dX16_tookMatches_121 : decode cX16_tookMatches 121 = .ok (.imul, 1) := by decide +kernel
theorem dX16_tookMatches_122 : decode cX16_tookMatches 122 = .ok (.aload_n 0, 1) := by decide +kernel
theorem dX16_tookMatches_123 : decode cX16_tookMatches 123 = .ok (.getfield 321, 3) := by decide +kernel
theorem dX16_tookMatches_126 : decode cX16_tookMatches 126 = .ok (.iload_n 1, 1) := by decide +kernel
theorem dX16_tookMatches_127 : decode cX16_tookMatches 127 = .ok (.iaload, 1) := by decide +kernel
theorem dX16_tookMatches_128 : decode cX16_tookMatches 128 = .ok (.iadd, 1) := by decide +kernel
theorem dX16_tookMatches_129 : decode cX16_tookMatches 129 = .ok (.istore 4, 2) := by decide +kernel
theorem dX16_tookMatches_131 : decode cX16_tookMatches 131 = .ok (.aload_n 0, 1) := by decide +kernel
theorem dX16_tookMatches_132 : decode cX16_tookMatches 132 = .ok (.getfield 321, 3) := by decide +kernel
theorem dX16_tookMatches_135 : decode cX16_tookMatches 135 = .ok (.iload_n 1, 1) := by decide +kernel
theorem dX16_tookMatches_136 : decode cX16_tookMatches 136 = .ok (.dup2, 1) := by decide +kernel
theorem dX16_tookMatches_137 : decode cX16_tookMatches 137 = .ok (.iaload, 1) := by decide +kernel
theorem dX16_tookMatches_138 : decode cX16_tookMatches 138 = .ok (.iconst 1, 1) := by decide +kernel
theorem dX16_tookMatches_139 : decode cX16_tookMatches 139 = .ok (.iadd, 1) := by decide +kernel
theorem dX16_tookMatches_140 : decode cX16_tookMatches 140 = .ok (.iastore, 1) := by decide +kernel
theorem dX16_tookMatches_141 : decode cX16_tookMatches 141 = .ok (.aload_n 0, 1) := by decide +kernel
theorem dX16_tookMatches_142 : decode cX16_tookMatches 142 = .ok (.getfield 324, 3) := by decide +kernel
theorem dX16_tookMatches_145 : decode cX16_tookMatches 145 = .ok (.iload 4, 2) := by decide +kernel
theorem dX16_tookMatches_147 : decode cX16_tookMatches 147 = .ok (.aload_n 0, 1) := by decide +kernel
theorem dX16_tookMatches_148 : decode cX16_tookMatches 148 = .ok (.getfield 210, 3) := by decide +kernel
theorem dX16_tookMatches_151 : decode cX16_tookMatches 151 = .ok (.iload_n 2, 1) := by decide +kernel
theorem dX16_tookMatches_152 : decode cX16_tookMatches 152 = .ok (.iaload, 1) := by decide +kernel
theorem dX16_tookMatches_153 : decode cX16_tookMatches 153 = .ok (.iastore, 1) := by decide +kernel
theorem dX16_tookMatches_154 : decode cX16_tookMatches 154 = .ok (.aload_n 0, 1) := by decide +kernel
theorem dX16_tookMatches_155 : decode cX16_tookMatches 155 = .ok (.getfield 327, 3) := by decide +kernel
theorem dX16_tookMatches_158 : decode cX16_tookMatches 158 = .ok (.iload 4, 2) := by decide +kernel
theorem dX16_tookMatches_160 : decode cX16_tookMatches 160 = .ok (.aload_n 0, 1) := by decide +kernel
theorem dX16_tookMatches_161 : decode cX16_tookMatches 161 = .ok (.getfield 213, 3) := by decide +kernel
theorem dX16_tookMatches_164 : decode cX16_tookMatches 164 = .ok (.iload_n 2, 1) := by decide +kernel
theorem dX16_tookMatches_165 : decode cX16_tookMatches 165 = .ok (.iaload, 1) := by decide +kernel
theorem dX16_tookMatches_166 : decode cX16_tookMatches 166 = .ok (.iastore, 1) := by decide +kernel
theorem dX16_tookMatches_167 : decode cX16_tookMatches 167 = .ok (.aload_n 0, 1) := by decide +kernel
theorem dX16_tookMatches_168 : decode cX16_tookMatches 168 = .ok (.getfield 330, 3) := by decide +kernel
theorem dX16_tookMatches_171 : decode cX16_tookMatches 171 = .ok (.iload 4, 2) := by decide +kernel
theorem dX16_tookMatches_173 : decode cX16_tookMatches 173 = .ok (.aload_n 0, 1) := by decide +kernel
theorem dX16_tookMatches_174 : decode cX16_tookMatches 174 = .ok (.getfield 216, 3) := by decide +kernel
theorem dX16_tookMatches_177 : decode cX16_tookMatches 177 = .ok (.iload_n 2, 1) := by decide +kernel
theorem dX16_tookMatches_178 : decode cX16_tookMatches 178 = .ok (.iaload, 1) := by decide +kernel
theorem dX16_tookMatches_179 : decode cX16_tookMatches 179 = .ok (.iastore, 1) := by decide +kernel
theorem dX16_tookMatches_180 : decode cX16_tookMatches 180 = .ok (.iinc 2 1, 3) := by decide +kernel
theorem dX16_tookMatches_183 : decode cX16_tookMatches 183 = .ok (.goto (-168), 3) := by decide +kernel
theorem dX16_tookMatches_186 : decode cX16_tookMatches 186 = .ok (.aload_n 0, 1) := by decide +kernel
theorem dX16_tookMatches_187 : decode cX16_tookMatches 187 = .ok (.getfield 602, 3) := by decide +kernel
theorem dX16_tookMatches_190 : decode cX16_tookMatches 190 = .ok (.ifCond .eq 16, 3) := by decide +kernel
theorem dX16_tookMatches_193 : decode cX16_tookMatches 193 = .ok (.aload_n 0, 1) := by decide +kernel
theorem dX16_tookMatches_194 : decode cX16_tookMatches 194 = .ok (.getfield 321, 3) := by decide +kernel
theorem dX16_tookMatches_197 : decode cX16_tookMatches 197 = .ok (.iload_n 1, 1) := by decide +kernel
theorem dX16_tookMatches_198 : decode cX16_tookMatches 198 = .ok (.iaload, 1) := by decide +kernel
theorem dX16_tookMatches_199 : decode cX16_tookMatches 199 = .ok (.sipush 200, 3) := by decide +kernel
theorem dX16_tookMatches_202 : decode cX16_tookMatches 202 = .ok (.if_icmp .ge 4, 3) := by decide +kernel
theorem dX16_tookMatches_205 : decode cX16_tookMatches 205 = .ok (.return_, 1) := by decide +kernel
theorem dX16_tookMatches_206 : decode cX16_tookMatches 206 = .ok (.aload_n 0, 1) := by decide +kernel
theorem dX16_tookMatches_207 : decode cX16_tookMatches 207 = .ok (.getfield 321, 3) := by decide +kernel
theorem dX16_tookMatches_210 : decode cX16_tookMatches 210 = .ok (.iload_n 1, 1) := by decide +kernel
theorem dX16_tookMatches_211 : decode cX16_tookMatches 211 = .ok (.iaload, 1) := by decide +kernel
theorem dX16_tookMatches_212 : decode cX16_tookMatches 212 = .ok (.ifCond .eq 13, 3) := by decide +kernel
theorem dX16_tookMatches_215 : decode cX16_tookMatches 215 = .ok (.aload_n 0, 1) := by decide +kernel
theorem dX16_tookMatches_216 : decode cX16_tookMatches 216 = .ok (.getfield 288, 3) := by decide +kernel
theorem dX16_tookMatches_219 : decode cX16_tookMatches 219 = .ok (.iload_n 1, 1) := by decide +kernel
theorem dX16_tookMatches_220 : decode cX16_tookMatches 220 = .ok (.iaload, 1) := by decide +kernel
theorem dX16_tookMatches_221 : decode cX16_tookMatches 221 = .ok (.iconst 1, 1) := by decide +kernel
theorem dX16_tookMatches_222 : decode cX16_tookMatches 222 = .ok (.if_icmp .ne 9, 3) := by decide +kernel
theorem dX16_tookMatches_225 : decode cX16_tookMatches 225 = .ok (.aload_n 0, 1) := by decide +kernel
theorem dX16_tookMatches_226 : decode cX16_tookMatches 226 = .ok (.iload_n 1, 1) := by decide +kernel
theorem dX16_tookMatches_227 : decode cX16_tookMatches 227 = .ok (.invokevirtual 708, 3) := by decide +kernel
theorem dX16_tookMatches_230 : decode cX16_tookMatches 230 = .ok (.return_, 1) := by decide +kernel
theorem dX16_tookMatches_231 : decode cX16_tookMatches 231 = .ok (.aload_n 0, 1) := by decide +kernel
theorem dX16_tookMatches_232 : decode cX16_tookMatches 232 = .ok (.getfield 336, 3) := by decide +kernel
theorem dX16_tookMatches_235 : decode cX16_tookMatches 235 = .ok (.iload_n 1, 1) := by decide +kernel
theorem dX16_tookMatches_236 : decode cX16_tookMatches 236 = .ok (.iconst 0, 1) := by decide +kernel
theorem dX16_tookMatches_237 : decode cX16_tookMatches 237 = .ok (.iastore, 1) := by decide +kernel
theorem dX16_tookMatches_238 : decode cX16_tookMatches 238 = .ok (.aload_n 0, 1) := by decide +kernel
theorem dX16_tookMatches_239 : decode cX16_tookMatches 239 = .ok (.getfield 339, 3) := by decide +kernel
theorem dX16_tookMatches_242 : decode cX16_tookMatches 242 = .ok (.iload_n 1, 1) := by decide +kernel
theorem dX16_tookMatches_243 : decode cX16_tookMatches 243 = .ok (.iconst 0, 1) := by decide +kernel
theorem dX16_tookMatches_244 : decode cX16_tookMatches 244 = .ok (.iastore, 1) := by decide +kernel
theorem dX16_tookMatches_245 : decode cX16_tookMatches 245 = .ok (.aload_n 0, 1) := by decide +kernel
theorem dX16_tookMatches_246 : decode cX16_tookMatches 246 = .ok (.getfield 237, 3) := by decide +kernel
theorem dX16_tookMatches_249 : decode cX16_tookMatches 249 = .ok (.iload_n 1, 1) := by decide +kernel
theorem dX16_tookMatches_250 : decode cX16_tookMatches 250 = .ok (.iconst 5, 1) := by decide +kernel
theorem dX16_tookMatches_251 : decode cX16_tookMatches 251 = .ok (.iastore, 1) := by decide +kernel
theorem dX16_tookMatches_252 : decode cX16_tookMatches 252 = .ok (.return_, 1) := by decide +kernel
def j_X16_tookMatches_225 (x1 : Int) (V : VV) : Option (VV) :=
  (f_X16_ranked x1 V).bind fun V1 =>
  some V1
def j_X16_tookMatches_206 (x1 : Int) (V : VV) : Option (VV) :=
  (l2 258 44 x1 V).bind fun v1 =>
  if w32 v1 = 0 then
    j_X16_tookMatches_225 x1 V
  else
    (l2 247 44 x1 V).bind fun v2 =>
    if w32 v2 = w32 1 then
      j_X16_tookMatches_225 x1 V
    else
      (s2 263 44 x1 0 V).bind fun V1 =>
      (s2 264 44 x1 0 V1).bind fun V2 =>
      (s2 230 44 x1 5 V2).bind fun V3 =>
      some V3
def j_X16_tookMatches_186 (x1 : Int) (V : VV) : Option (VV) :=
  if w32 (w32 (V 156 84)) = 0 then
    j_X16_tookMatches_206 x1 V
  else
    (l2 258 44 x1 V).bind fun v1 =>
    if w32 v1 < w32 200 then
      some V
    else
      j_X16_tookMatches_206 x1 V
def j_X16_tookMatches_180 (x1 x2 : Int) (V : VV) : Option ((Int × VV) ⊕ (VV)) :=
  cnt (x2 + 1, V)
def j_X16_tookMatches_113 (x1 x2 x3 : Int) (V : VV) : Option ((Int × VV) ⊕ (VV)) :=
  if w32 x3 = 0 then
    (l2 258 44 x1 V).bind fun v1 =>
    (l2 258 44 x1 V).bind fun v2 =>
    (s2 258 44 x1 (v2 + 1) V).bind fun V1 =>
    (l2 221 30 x2 V1).bind fun v3 =>
    (s2 259 8800 ((200 * x1) + v1) v3 V1).bind fun V2 =>
    (l2 222 30 x2 V2).bind fun v4 =>
    (s2 260 8800 ((200 * x1) + v1) v4 V2).bind fun V3 =>
    (l2 223 30 x2 V3).bind fun v5 =>
    (s2 261 8800 ((200 * x1) + v1) v5 V3).bind fun V4 =>
    j_X16_tookMatches_180 x1 x2 V4
  else
    j_X16_tookMatches_180 x1 x2 V
def j_X16_tookMatches_106 (x1 x2 x4 y0 : Int) (V : VV) : Option ((Int × Int) ⊕ ((Int × VV) ⊕ (VV))) :=
  cnt (y0, x4 + 1)
def j_X16_tookMatches_105 (x1 x2 x4 : Int) (V : VV) : Option ((Int × Int) ⊕ ((Int × VV) ⊕ (VV))) :=
  j_X16_tookMatches_106 x1 x2 x4 0 V
def j_X16_tookMatches_101 (x1 x2 x4 : Int) (V : VV) : Option ((Int × Int) ⊕ ((Int × VV) ⊕ (VV))) :=
  j_X16_tookMatches_106 x1 x2 x4 1 V
def b_X16_tookMatches_48 (x1 x2 x3 x4 : Int) (V : VV) : Option ((Int × Int) ⊕ ((Int × VV) ⊕ (VV))) :=
  (l2 258 44 x1 V).bind fun v1 =>
  if w32 x4 < w32 ((200 * x1) + v1) then
    if w32 x3 = 0 then
      (l2 259 8800 x4 V).bind fun v2 =>
      (l2 221 30 x2 V).bind fun v3 =>
      if w32 v2 = w32 v3 then
        (l2 260 8800 x4 V).bind fun v4 =>
        (l2 222 30 x2 V).bind fun v5 =>
        if w32 v4 = w32 v5 then
          j_X16_tookMatches_101 x1 x2 x4 V
        else
          j_X16_tookMatches_105 x1 x2 x4 V
      else
        j_X16_tookMatches_105 x1 x2 x4 V
    else
      j_X16_tookMatches_101 x1 x2 x4 V
  else
    xit (j_X16_tookMatches_113 x1 x2 x3 V)
def l_X16_tookMatches_48 (x1 x2 x3 x4 : Int) (V : VV) : Option ((Int × VV) ⊕ (VV)) := lpN (fun s : Int × Int => b_X16_tookMatches_48 x1 x2 s.1 s.2 V) FU (x3, x4)
def j_X16_tookMatches_40 (x1 x2 y0 : Int) (V : VV) : Option ((Int × VV) ⊕ (VV)) :=
  l_X16_tookMatches_48 x1 x2 y0 (200 * x1) V
def b_X16_tookMatches_15 (x1 x2 : Int) (V : VV) : Option ((Int × VV) ⊕ (VV)) :=
  if w32 x2 < w32 (w32 (V 156 83)) then
    (l2 258 44 x1 V).bind fun v1 =>
    if w32 v1 = w32 200 then
      j_X16_tookMatches_40 x1 x2 1 V
    else
      j_X16_tookMatches_40 x1 x2 0 V
  else
    xit (j_X16_tookMatches_186 x1 V)
def l_X16_tookMatches_15 (x1 x2 : Int) (V : VV) : Option (VV) := lpN (fun s : Int × VV => b_X16_tookMatches_15 x1 s.1 s.2) FU (x2, V)
def f_X16_tookMatches (x1 : Int) (V : VV) : Option (VV) :=
  (l2 254 44 x1 V).bind fun v1 =>
  (s2 254 44 x1 (v1 + (w32 (V 156 83))) V).bind fun V1 =>
  l_X16_tookMatches_15 x1 0 V1
theorem s_X16_tookMatches_225 {g : GG} {d : Nat} (hD : 2 ≤ d) {x1 : Int} {M : MM} (hM : LM M) {V : VV} {o : AV × MM} {P : (VV) → Prop} (r0 : ∀ r : VV, P r → o = ((9, 0), (wr M r))) {z : VV} (h : j_X16_tookMatches_225 x1 V = some z) (hz : P z) : Sem g d YX16_tookMatches 225 [(1, 156), (0, x1), (9, 0), (9, 0), (9, 0)] [] (wr M V) o := by
  delta j_X16_tookMatches_225 at h
  refine S_aload_n (i := 0) dX16_tookMatches_225 rfl rfl ?_
  refine S_iload_n (i := 1) dX16_tookMatches_226 rfl rfl ?_
  refine P2_invVm hM [(0, x1)] [] CVX16_ranked MLX16_708 dX16_tookMatches_227 rfl rfl rfl rfl (by omega) h (fun r h => F_X16_ranked (by omega) hM h) (fun V1 h => ?_)
  obtain rfl := r0 _ (some_P (P := fun r => P r) h hz)
  exact S_return dX16_tookMatches_230 rfl
theorem s_X16_tookMatches_206 {g : GG} {d : Nat} (hD : 2 ≤ d) {x1 : Int} {M : MM} (hM : LM M) {V : VV} {o : AV × MM} {P : (VV) → Prop} (r0 : ∀ r : VV, P r → o = ((9, 0), (wr M r))) {z : VV} (h : j_X16_tookMatches_206 x1 V = some z) (hz : P z) : Sem g d YX16_tookMatches 206 [(1, 156), (0, x1), (9, 0), (9, 0), (9, 0)] [] (wr M V) o := by
  delta j_X16_tookMatches_206 at h
  refine S_aload_n (i := 0) dX16_tookMatches_206 rfl rfl ?_
  refine P2_gfr hM (a := 258) FLX16_321 rfl ⟨rfl, rfl⟩ dX16_tookMatches_207 ?_
  refine S_iload_n (i := 1) dX16_tookMatches_210 rfl rfl ?_
  refine P2_lai hM (a := 258) (n := 44) rfl dX16_tookMatches_211 h (fun v1 h => ?_)
  refine P_if_eq (tgt := 225) dX16_tookMatches_212 rfl h (fun h => ?_) (fun h => ?_)
  · exact s_X16_tookMatches_225 hD hM r0 h hz
  · refine S_aload_n (i := 0) dX16_tookMatches_215 rfl rfl ?_
    refine P2_gfr hM (a := 247) FLX16_288 rfl ⟨rfl, rfl⟩ dX16_tookMatches_216 ?_
    refine S_iload_n (i := 1) dX16_tookMatches_219 rfl rfl ?_
    refine P2_lai hM (a := 247) (n := 44) rfl dX16_tookMatches_220 h (fun v2 h => ?_)
    refine S_iconst dX16_tookMatches_221 rfl ?_
    refine P_icmp_ne (tgt := 231) dX16_tookMatches_222 rfl h (fun h => ?_) (fun h => ?_)
    · refine S_aload_n (i := 0) dX16_tookMatches_231 rfl rfl ?_
      refine P2_gfr hM (a := 263) FLX16_336 rfl ⟨rfl, rfl⟩ dX16_tookMatches_232 ?_
      refine S_iload_n (i := 1) dX16_tookMatches_235 rfl rfl ?_
      refine S_iconst dX16_tookMatches_236 rfl ?_
      refine P2_sai hM (a := 263) (n := 44) rfl dX16_tookMatches_237 h (fun V1 h => ?_)
      refine S_aload_n (i := 0) dX16_tookMatches_238 rfl rfl ?_
      refine P2_gfr hM (a := 264) FLX16_339 rfl ⟨rfl, rfl⟩ dX16_tookMatches_239 ?_
      refine S_iload_n (i := 1) dX16_tookMatches_242 rfl rfl ?_
      refine S_iconst dX16_tookMatches_243 rfl ?_
      refine P2_sai hM (a := 264) (n := 44) rfl dX16_tookMatches_244 h (fun V2 h => ?_)
      refine S_aload_n (i := 0) dX16_tookMatches_245 rfl rfl ?_
      refine P2_gfr hM (a := 230) FLX16_237 rfl ⟨rfl, rfl⟩ dX16_tookMatches_246 ?_
      refine S_iload_n (i := 1) dX16_tookMatches_249 rfl rfl ?_
      refine S_iconst dX16_tookMatches_250 rfl ?_
      refine P2_sai hM (a := 230) (n := 44) rfl dX16_tookMatches_251 h (fun V3 h => ?_)
      obtain rfl := r0 _ (some_P (P := fun r => P r) h hz)
      exact S_return dX16_tookMatches_252 rfl
    · exact s_X16_tookMatches_225 hD hM r0 h hz
theorem s_X16_tookMatches_186 {g : GG} {d : Nat} (hD : 2 ≤ d) {x1 : Int} {M : MM} (hM : LM M) {V : VV} {o : AV × MM} {P : (VV) → Prop} (r0 : ∀ r : VV, P r → o = ((9, 0), (wr M r))) {z : VV} (h : j_X16_tookMatches_186 x1 V = some z) (hz : P z) : Sem g d YX16_tookMatches 186 [(1, 156), (0, x1), (9, 0), (9, 0), (9, 0)] [] (wr M V) o := by
  delta j_X16_tookMatches_186 at h
  refine S_aload_n (i := 0) dX16_tookMatches_186 rfl rfl ?_
  refine P2_gfi hM FLX16_602 rfl dX16_tookMatches_187 ?_
  refine P_if_eq (tgt := 206) dX16_tookMatches_190 rfl h (fun h => ?_) (fun h => ?_)
  · exact s_X16_tookMatches_206 hD hM r0 h hz
  · refine S_aload_n (i := 0) dX16_tookMatches_193 rfl rfl ?_
    refine P2_gfr hM (a := 258) FLX16_321 rfl ⟨rfl, rfl⟩ dX16_tookMatches_194 ?_
    refine S_iload_n (i := 1) dX16_tookMatches_197 rfl rfl ?_
    refine P2_lai hM (a := 258) (n := 44) rfl dX16_tookMatches_198 h (fun v1 h => ?_)
    refine S_sipush (z := 200) dX16_tookMatches_199 rfl ?_
    refine P_icmp_ge (tgt := 206) dX16_tookMatches_202 rfl h (fun h => ?_) (fun h => ?_)
    · exact s_X16_tookMatches_206 hD hM r0 h hz
    · obtain rfl := r0 _ (some_P (P := fun r => P r) h hz)
      exact S_return dX16_tookMatches_205 rfl
theorem s_X16_tookMatches_180 {g : GG} {d : Nat} (hD : 2 ≤ d) {x1 x2 : Int} {M : MM} (hM : LM M) {V : VV} {o : AV × MM} {P : ((Int × VV) ⊕ (VV)) → Prop} (c0 : ∀ s : Int × VV, P (.inl s) → Sem g d YX16_tookMatches 15 [(1, 156), (0, x1), (0, s.1), (9, 0), (9, 0)] [] (wr M s.2) o) (r0 : ∀ r : VV, P (.inr r) → o = ((9, 0), (wr M r))) {z : (Int × VV) ⊕ (VV)} (h : j_X16_tookMatches_180 x1 x2 V = some z) (hz : P z) : Sem g d YX16_tookMatches 180 [(1, 156), (0, x1), (0, x2), (9, 0), (9, 0)] [] (wr M V) o := by
  delta j_X16_tookMatches_180 at h
  refine S_iinc dX16_tookMatches_180 rfl rfl rfl ?_
  change Sem g d YX16_tookMatches 183 [(1, 156), (0, x1), (0, x2 + 1), (9, 0), (9, 0)] [] (wr M V) o
  refine S_goto (tgt := 15) dX16_tookMatches_183 rfl ?_
  exact c0 (x2 + 1, V) (some_P (P := fun r => P r) h hz)
theorem s_X16_tookMatches_113 {g : GG} {d : Nat} (hD : 2 ≤ d) {x1 x2 x3 : Int} {M : MM} (hM : LM M) {V : VV} {o : AV × MM} {P : ((Int × VV) ⊕ (VV)) → Prop} (c0 : ∀ s : Int × VV, P (.inl s) → Sem g d YX16_tookMatches 15 [(1, 156), (0, x1), (0, s.1), (9, 0), (9, 0)] [] (wr M s.2) o) (r0 : ∀ r : VV, P (.inr r) → o = ((9, 0), (wr M r))) {z : (Int × VV) ⊕ (VV)} (h : j_X16_tookMatches_113 x1 x2 x3 V = some z) (hz : P z) : Sem g d YX16_tookMatches 113 [(1, 156), (0, x1), (0, x2), (0, x3), (9, 0)] [] (wr M V) o := by
  delta j_X16_tookMatches_113 at h
  refine S_iload_n (i := 3) dX16_tookMatches_113 rfl rfl ?_
  refine P_if_ne (tgt := 180) dX16_tookMatches_114 rfl h (fun h => ?_) (fun h => ?_)
  · refine S_weak (ls' := [(1, 156), (0, x1), (0, x2), (9, 0), (9, 0)]) ⟨Or.inr rfl, ⟨Or.inr rfl, ⟨Or.inr rfl, ⟨Or.inl rfl, ⟨Or.inl rfl, trivial⟩⟩⟩⟩⟩ ?_
    exact s_X16_tookMatches_180 hD hM c0 r0 h hz
  · refine S_sipush (z := 200) dX16_tookMatches_117 rfl ?_
    refine S_iload_n (i := 1) dX16_tookMatches_120 rfl rfl ?_
    refine S_imul dX16_tookMatches_121 ?_
    refine S_aload_n (i := 0) dX16_tookMatches_122 rfl rfl ?_
    refine P2_gfr hM (a := 258) FLX16_321 rfl ⟨rfl, rfl⟩ dX16_tookMatches_123 ?_
    refine S_iload_n (i := 1) dX16_tookMatches_126 rfl rfl ?_
    refine P2_lai hM (a := 258) (n := 44) rfl dX16_tookMatches_127 h (fun v1 h => ?_)
    refine S_iadd dX16_tookMatches_128 ?_
    refine S_istore dX16_tookMatches_129 (Nat.le_of_ble_eq_true rfl) rfl rfl ?_
    change Sem g d YX16_tookMatches 131 [(1, 156), (0, x1), (0, x2), (0, x3), (0, (200 * x1) + v1)] [] (wr M V) o
    refine S_aload_n (i := 0) dX16_tookMatches_131 rfl rfl ?_
    refine P2_gfr hM (a := 258) FLX16_321 rfl ⟨rfl, rfl⟩ dX16_tookMatches_132 ?_
    refine S_iload_n (i := 1) dX16_tookMatches_135 rfl rfl ?_
    refine S_dup2 dX16_tookMatches_136 (Nat.le_of_ble_eq_true rfl) (Nat.le_of_ble_eq_true rfl) ?_
    refine P2_lai hM (a := 258) (n := 44) rfl dX16_tookMatches_137 h (fun v2 h => ?_)
    refine S_iconst dX16_tookMatches_138 rfl ?_
    refine S_iadd dX16_tookMatches_139 ?_
    refine P2_sai hM (a := 258) (n := 44) rfl dX16_tookMatches_140 h (fun V1 h => ?_)
    refine S_aload_n (i := 0) dX16_tookMatches_141 rfl rfl ?_
    refine P2_gfr hM (a := 259) FLX16_324 rfl ⟨rfl, rfl⟩ dX16_tookMatches_142 ?_
    refine S_iload dX16_tookMatches_145 rfl ?_
    refine S_aload_n (i := 0) dX16_tookMatches_147 rfl rfl ?_
    refine P2_gfr hM (a := 221) FLX16_210 rfl ⟨rfl, rfl⟩ dX16_tookMatches_148 ?_
    refine S_iload_n (i := 2) dX16_tookMatches_151 rfl rfl ?_
    refine P2_lai hM (a := 221) (n := 30) rfl dX16_tookMatches_152 h (fun v3 h => ?_)
    refine P2_sai hM (a := 259) (n := 8800) rfl dX16_tookMatches_153 h (fun V2 h => ?_)
    refine S_aload_n (i := 0) dX16_tookMatches_154 rfl rfl ?_
    refine P2_gfr hM (a := 260) FLX16_327 rfl ⟨rfl, rfl⟩ dX16_tookMatches_155 ?_
    refine S_iload dX16_tookMatches_158 rfl ?_
    refine S_aload_n (i := 0) dX16_tookMatches_160 rfl rfl ?_
    refine P2_gfr hM (a := 222) FLX16_213 rfl ⟨rfl, rfl⟩ dX16_tookMatches_161 ?_
    refine S_iload_n (i := 2) dX16_tookMatches_164 rfl rfl ?_
    refine P2_lai hM (a := 222) (n := 30) rfl dX16_tookMatches_165 h (fun v4 h => ?_)
    refine P2_sai hM (a := 260) (n := 8800) rfl dX16_tookMatches_166 h (fun V3 h => ?_)
    refine S_aload_n (i := 0) dX16_tookMatches_167 rfl rfl ?_
    refine P2_gfr hM (a := 261) FLX16_330 rfl ⟨rfl, rfl⟩ dX16_tookMatches_168 ?_
    refine S_iload dX16_tookMatches_171 rfl ?_
    refine S_aload_n (i := 0) dX16_tookMatches_173 rfl rfl ?_
    refine P2_gfr hM (a := 223) FLX16_216 rfl ⟨rfl, rfl⟩ dX16_tookMatches_174 ?_
    refine S_iload_n (i := 2) dX16_tookMatches_177 rfl rfl ?_
    refine P2_lai hM (a := 223) (n := 30) rfl dX16_tookMatches_178 h (fun v5 h => ?_)
    refine P2_sai hM (a := 261) (n := 8800) rfl dX16_tookMatches_179 h (fun V4 h => ?_)
    refine S_weak (ls' := [(1, 156), (0, x1), (0, x2), (9, 0), (9, 0)]) ⟨Or.inr rfl, ⟨Or.inr rfl, ⟨Or.inr rfl, ⟨Or.inl rfl, ⟨Or.inl rfl, trivial⟩⟩⟩⟩⟩ ?_
    exact s_X16_tookMatches_180 hD hM c0 r0 h hz
theorem s_X16_tookMatches_106 {g : GG} {d : Nat} (hD : 2 ≤ d) {x1 x2 x4 y0 : Int} {M : MM} (hM : LM M) {V : VV} {o : AV × MM} {P : ((Int × Int) ⊕ ((Int × VV) ⊕ (VV))) → Prop} (c1 : ∀ s : Int × Int, P (.inl s) → Sem g d YX16_tookMatches 48 [(1, 156), (0, x1), (0, x2), (0, s.1), (0, s.2)] [] (wr M V) o) (c0 : ∀ s : Int × VV, P (.inr (.inl s)) → Sem g d YX16_tookMatches 15 [(1, 156), (0, x1), (0, s.1), (9, 0), (9, 0)] [] (wr M s.2) o) (r0 : ∀ r : VV, P (.inr (.inr r)) → o = ((9, 0), (wr M r))) {z : (Int × Int) ⊕ ((Int × VV) ⊕ (VV))} (h : j_X16_tookMatches_106 x1 x2 x4 y0 V = some z) (hz : P z) : Sem g d YX16_tookMatches 106 [(1, 156), (0, x1), (0, x2), (9, 0), (0, x4)] [(0, y0)] (wr M V) o := by
  delta j_X16_tookMatches_106 at h
  refine S_istore_n (i := 3) dX16_tookMatches_106 rfl (Nat.le_of_ble_eq_true rfl) rfl rfl ?_
  change Sem g d YX16_tookMatches 107 [(1, 156), (0, x1), (0, x2), (0, y0), (0, x4)] [] (wr M V) o
  refine S_iinc dX16_tookMatches_107 rfl rfl rfl ?_
  change Sem g d YX16_tookMatches 110 [(1, 156), (0, x1), (0, x2), (0, y0), (0, x4 + 1)] [] (wr M V) o
  refine S_goto (tgt := 48) dX16_tookMatches_110 rfl ?_
  exact c1 (y0, x4 + 1) (some_P (P := fun r => P r) h hz)
theorem s_X16_tookMatches_105 {g : GG} {d : Nat} (hD : 2 ≤ d) {x1 x2 x4 : Int} {M : MM} (hM : LM M) {V : VV} {o : AV × MM} {P : ((Int × Int) ⊕ ((Int × VV) ⊕ (VV))) → Prop} (c1 : ∀ s : Int × Int, P (.inl s) → Sem g d YX16_tookMatches 48 [(1, 156), (0, x1), (0, x2), (0, s.1), (0, s.2)] [] (wr M V) o) (c0 : ∀ s : Int × VV, P (.inr (.inl s)) → Sem g d YX16_tookMatches 15 [(1, 156), (0, x1), (0, s.1), (9, 0), (9, 0)] [] (wr M s.2) o) (r0 : ∀ r : VV, P (.inr (.inr r)) → o = ((9, 0), (wr M r))) {z : (Int × Int) ⊕ ((Int × VV) ⊕ (VV))} (h : j_X16_tookMatches_105 x1 x2 x4 V = some z) (hz : P z) : Sem g d YX16_tookMatches 105 [(1, 156), (0, x1), (0, x2), (9, 0), (0, x4)] [] (wr M V) o := by
  delta j_X16_tookMatches_105 at h
  refine S_iconst dX16_tookMatches_105 rfl ?_
  exact s_X16_tookMatches_106 hD hM c1 c0 r0 h hz
theorem s_X16_tookMatches_101 {g : GG} {d : Nat} (hD : 2 ≤ d) {x1 x2 x4 : Int} {M : MM} (hM : LM M) {V : VV} {o : AV × MM} {P : ((Int × Int) ⊕ ((Int × VV) ⊕ (VV))) → Prop} (c1 : ∀ s : Int × Int, P (.inl s) → Sem g d YX16_tookMatches 48 [(1, 156), (0, x1), (0, x2), (0, s.1), (0, s.2)] [] (wr M V) o) (c0 : ∀ s : Int × VV, P (.inr (.inl s)) → Sem g d YX16_tookMatches 15 [(1, 156), (0, x1), (0, s.1), (9, 0), (9, 0)] [] (wr M s.2) o) (r0 : ∀ r : VV, P (.inr (.inr r)) → o = ((9, 0), (wr M r))) {z : (Int × Int) ⊕ ((Int × VV) ⊕ (VV))} (h : j_X16_tookMatches_101 x1 x2 x4 V = some z) (hz : P z) : Sem g d YX16_tookMatches 101 [(1, 156), (0, x1), (0, x2), (9, 0), (0, x4)] [] (wr M V) o := by
  delta j_X16_tookMatches_101 at h
  refine S_iconst dX16_tookMatches_101 rfl ?_
  refine S_goto (tgt := 106) dX16_tookMatches_102 rfl ?_
  exact s_X16_tookMatches_106 hD hM c1 c0 r0 h hz
theorem s_X16_tookMatches_48 {g : GG} {d : Nat} (hD : 2 ≤ d) {x1 x2 x3 x4 : Int} {M : MM} (hM : LM M) {V : VV} {o : AV × MM} {P : ((Int × Int) ⊕ ((Int × VV) ⊕ (VV))) → Prop} (c1 : ∀ s : Int × Int, P (.inl s) → Sem g d YX16_tookMatches 48 [(1, 156), (0, x1), (0, x2), (0, s.1), (0, s.2)] [] (wr M V) o) (c0 : ∀ s : Int × VV, P (.inr (.inl s)) → Sem g d YX16_tookMatches 15 [(1, 156), (0, x1), (0, s.1), (9, 0), (9, 0)] [] (wr M s.2) o) (r0 : ∀ r : VV, P (.inr (.inr r)) → o = ((9, 0), (wr M r))) {z : (Int × Int) ⊕ ((Int × VV) ⊕ (VV))} (h : b_X16_tookMatches_48 x1 x2 x3 x4 V = some z) (hz : P z) : Sem g d YX16_tookMatches 48 [(1, 156), (0, x1), (0, x2), (0, x3), (0, x4)] [] (wr M V) o := by
  delta b_X16_tookMatches_48 at h
  refine S_iload dX16_tookMatches_48 rfl ?_
  refine S_sipush (z := 200) dX16_tookMatches_50 rfl ?_
  refine S_iload_n (i := 1) dX16_tookMatches_53 rfl rfl ?_
  refine S_imul dX16_tookMatches_54 ?_
  refine S_aload_n (i := 0) dX16_tookMatches_55 rfl rfl ?_
  refine P2_gfr hM (a := 258) FLX16_321 rfl ⟨rfl, rfl⟩ dX16_tookMatches_56 ?_
  refine S_iload_n (i := 1) dX16_tookMatches_59 rfl rfl ?_
  refine P2_lai hM (a := 258) (n := 44) rfl dX16_tookMatches_60 h (fun v1 h => ?_)
  refine S_iadd dX16_tookMatches_61 ?_
  refine P_icmp_ge (tgt := 113) dX16_tookMatches_62 rfl h (fun h => ?_) (fun h => ?_)
  · refine S_weak (ls' := [(1, 156), (0, x1), (0, x2), (0, x3), (9, 0)]) ⟨Or.inr rfl, ⟨Or.inr rfl, ⟨Or.inr rfl, ⟨Or.inr rfl, ⟨Or.inl rfl, trivial⟩⟩⟩⟩⟩ ?_
    obtain ⟨z0, h, hz⟩ := xit_some' (P := fun r => P r) h hz
    exact s_X16_tookMatches_113 hD hM (P := fun r => P (.inr r)) c0 r0 h hz
  · refine S_iload_n (i := 3) dX16_tookMatches_65 rfl rfl ?_
    refine P_if_ne (tgt := 101) dX16_tookMatches_66 rfl h (fun h => ?_) (fun h => ?_)
    · refine S_weak (ls' := [(1, 156), (0, x1), (0, x2), (9, 0), (0, x4)]) ⟨Or.inr rfl, ⟨Or.inr rfl, ⟨Or.inr rfl, ⟨Or.inl rfl, ⟨Or.inr rfl, trivial⟩⟩⟩⟩⟩ ?_
      exact s_X16_tookMatches_101 hD hM c1 c0 r0 h hz
    · refine S_aload_n (i := 0) dX16_tookMatches_69 rfl rfl ?_
      refine P2_gfr hM (a := 259) FLX16_324 rfl ⟨rfl, rfl⟩ dX16_tookMatches_70 ?_
      refine S_iload dX16_tookMatches_73 rfl ?_
      refine P2_lai hM (a := 259) (n := 8800) rfl dX16_tookMatches_75 h (fun v2 h => ?_)
      refine S_aload_n (i := 0) dX16_tookMatches_76 rfl rfl ?_
      refine P2_gfr hM (a := 221) FLX16_210 rfl ⟨rfl, rfl⟩ dX16_tookMatches_77 ?_
      refine S_iload_n (i := 2) dX16_tookMatches_80 rfl rfl ?_
      refine P2_lai hM (a := 221) (n := 30) rfl dX16_tookMatches_81 h (fun v3 h => ?_)
      refine P_icmp_ne (tgt := 105) dX16_tookMatches_82 rfl h (fun h => ?_) (fun h => ?_)
      · refine S_weak (ls' := [(1, 156), (0, x1), (0, x2), (9, 0), (0, x4)]) ⟨Or.inr rfl, ⟨Or.inr rfl, ⟨Or.inr rfl, ⟨Or.inl rfl, ⟨Or.inr rfl, trivial⟩⟩⟩⟩⟩ ?_
        exact s_X16_tookMatches_105 hD hM c1 c0 r0 h hz
      · refine S_aload_n (i := 0) dX16_tookMatches_85 rfl rfl ?_
        refine P2_gfr hM (a := 260) FLX16_327 rfl ⟨rfl, rfl⟩ dX16_tookMatches_86 ?_
        refine S_iload dX16_tookMatches_89 rfl ?_
        refine P2_lai hM (a := 260) (n := 8800) rfl dX16_tookMatches_91 h (fun v4 h => ?_)
        refine S_aload_n (i := 0) dX16_tookMatches_92 rfl rfl ?_
        refine P2_gfr hM (a := 222) FLX16_213 rfl ⟨rfl, rfl⟩ dX16_tookMatches_93 ?_
        refine S_iload_n (i := 2) dX16_tookMatches_96 rfl rfl ?_
        refine P2_lai hM (a := 222) (n := 30) rfl dX16_tookMatches_97 h (fun v5 h => ?_)
        refine P_icmp_ne (tgt := 105) dX16_tookMatches_98 rfl h (fun h => ?_) (fun h => ?_)
        · refine S_weak (ls' := [(1, 156), (0, x1), (0, x2), (9, 0), (0, x4)]) ⟨Or.inr rfl, ⟨Or.inr rfl, ⟨Or.inr rfl, ⟨Or.inl rfl, ⟨Or.inr rfl, trivial⟩⟩⟩⟩⟩ ?_
          exact s_X16_tookMatches_105 hD hM c1 c0 r0 h hz
        · refine S_weak (ls' := [(1, 156), (0, x1), (0, x2), (9, 0), (0, x4)]) ⟨Or.inr rfl, ⟨Or.inr rfl, ⟨Or.inr rfl, ⟨Or.inl rfl, ⟨Or.inr rfl, trivial⟩⟩⟩⟩⟩ ?_
          exact s_X16_tookMatches_101 hD hM c1 c0 r0 h hz
theorem sl_X16_tookMatches_48 {g : GG} {d : Nat} (hD : 2 ≤ d) {x1 x2 x3 x4 : Int} {M : MM} (hM : LM M) {V : VV} {o : AV × MM} {P : ((Int × VV) ⊕ (VV)) → Prop} (c0 : ∀ s : Int × VV, P (.inl s) → Sem g d YX16_tookMatches 15 [(1, 156), (0, x1), (0, s.1), (9, 0), (9, 0)] [] (wr M s.2) o) (r0 : ∀ r : VV, P (.inr r) → o = ((9, 0), (wr M r))) {z : (Int × VV) ⊕ (VV)} (h : l_X16_tookMatches_48 x1 x2 x3 x4 V = some z) (hz : P z) : Sem g d YX16_tookMatches 48 [(1, 156), (0, x1), (0, x2), (0, x3), (0, x4)] [] (wr M V) o := by
  refine lp_sound (S := fun s : Int × Int => Sem g d YX16_tookMatches 48 [(1, 156), (0, x1), (0, x2), (0, s.1), (0, s.2)] [] (wr M V) o) (P := P) ?_ FU (x3, x4) z h hz
  intro s x hx hP
  exact s_X16_tookMatches_48 hD hM (P := Sum.elim (fun s : Int × Int => Sem g d YX16_tookMatches 48 [(1, 156), (0, x1), (0, x2), (0, s.1), (0, s.2)] [] (wr M V) o) P) (fun s h => h) (fun s h => c0 s h) (fun s h => r0 s h) hx hP
theorem s_X16_tookMatches_40 {g : GG} {d : Nat} (hD : 2 ≤ d) {x1 x2 y0 : Int} {M : MM} (hM : LM M) {V : VV} {o : AV × MM} {P : ((Int × VV) ⊕ (VV)) → Prop} (c0 : ∀ s : Int × VV, P (.inl s) → Sem g d YX16_tookMatches 15 [(1, 156), (0, x1), (0, s.1), (9, 0), (9, 0)] [] (wr M s.2) o) (r0 : ∀ r : VV, P (.inr r) → o = ((9, 0), (wr M r))) {z : (Int × VV) ⊕ (VV)} (h : j_X16_tookMatches_40 x1 x2 y0 V = some z) (hz : P z) : Sem g d YX16_tookMatches 40 [(1, 156), (0, x1), (0, x2), (9, 0), (9, 0)] [(0, y0)] (wr M V) o := by
  delta j_X16_tookMatches_40 at h
  refine S_istore_n (i := 3) dX16_tookMatches_40 rfl (Nat.le_of_ble_eq_true rfl) rfl rfl ?_
  change Sem g d YX16_tookMatches 41 [(1, 156), (0, x1), (0, x2), (0, y0), (9, 0)] [] (wr M V) o
  refine S_sipush (z := 200) dX16_tookMatches_41 rfl ?_
  refine S_iload_n (i := 1) dX16_tookMatches_44 rfl rfl ?_
  refine S_imul dX16_tookMatches_45 ?_
  refine S_istore dX16_tookMatches_46 (Nat.le_of_ble_eq_true rfl) rfl rfl ?_
  change Sem g d YX16_tookMatches 48 [(1, 156), (0, x1), (0, x2), (0, y0), (0, 200 * x1)] [] (wr M V) o
  exact sl_X16_tookMatches_48 hD hM c0 r0 h hz
theorem s_X16_tookMatches_15 {g : GG} {d : Nat} (hD : 2 ≤ d) {x1 x2 : Int} {M : MM} (hM : LM M) {V : VV} {o : AV × MM} {P : ((Int × VV) ⊕ (VV)) → Prop} (c0 : ∀ s : Int × VV, P (.inl s) → Sem g d YX16_tookMatches 15 [(1, 156), (0, x1), (0, s.1), (9, 0), (9, 0)] [] (wr M s.2) o) (r0 : ∀ r : VV, P (.inr r) → o = ((9, 0), (wr M r))) {z : (Int × VV) ⊕ (VV)} (h : b_X16_tookMatches_15 x1 x2 V = some z) (hz : P z) : Sem g d YX16_tookMatches 15 [(1, 156), (0, x1), (0, x2), (9, 0), (9, 0)] [] (wr M V) o := by
  delta b_X16_tookMatches_15 at h
  refine S_iload_n (i := 2) dX16_tookMatches_15 rfl rfl ?_
  refine S_aload_n (i := 0) dX16_tookMatches_16 rfl rfl ?_
  refine P2_gfi hM FLX16_595 rfl dX16_tookMatches_17 ?_
  refine P_icmp_ge (tgt := 186) dX16_tookMatches_20 rfl h (fun h => ?_) (fun h => ?_)
  · refine S_weak (ls' := [(1, 156), (0, x1), (9, 0), (9, 0), (9, 0)]) ⟨Or.inr rfl, ⟨Or.inr rfl, ⟨Or.inl rfl, ⟨Or.inl rfl, ⟨Or.inl rfl, trivial⟩⟩⟩⟩⟩ ?_
    obtain ⟨z0, h, hz⟩ := xit_some' (P := fun r => P r) h hz
    exact s_X16_tookMatches_186 hD hM (P := fun r => P (.inr r)) r0 h hz
  · refine S_aload_n (i := 0) dX16_tookMatches_23 rfl rfl ?_
    refine P2_gfr hM (a := 258) FLX16_321 rfl ⟨rfl, rfl⟩ dX16_tookMatches_24 ?_
    refine S_iload_n (i := 1) dX16_tookMatches_27 rfl rfl ?_
    refine P2_lai hM (a := 258) (n := 44) rfl dX16_tookMatches_28 h (fun v1 h => ?_)
    refine S_sipush (z := 200) dX16_tookMatches_29 rfl ?_
    refine P_icmp_ne (tgt := 39) dX16_tookMatches_32 rfl h (fun h => ?_) (fun h => ?_)
    · refine S_iconst dX16_tookMatches_39 rfl ?_
      exact s_X16_tookMatches_40 hD hM c0 r0 h hz
    · refine S_iconst dX16_tookMatches_35 rfl ?_
      refine S_goto (tgt := 40) dX16_tookMatches_36 rfl ?_
      exact s_X16_tookMatches_40 hD hM c0 r0 h hz
theorem sl_X16_tookMatches_15 {g : GG} {d : Nat} (hD : 2 ≤ d) {x1 x2 : Int} {M : MM} (hM : LM M) {V : VV} {o : AV × MM} {P : (VV) → Prop} (r0 : ∀ r : VV, P r → o = ((9, 0), (wr M r))) {z : VV} (h : l_X16_tookMatches_15 x1 x2 V = some z) (hz : P z) : Sem g d YX16_tookMatches 15 [(1, 156), (0, x1), (0, x2), (9, 0), (9, 0)] [] (wr M V) o := by
  refine lp_sound (S := fun s : Int × VV => Sem g d YX16_tookMatches 15 [(1, 156), (0, x1), (0, s.1), (9, 0), (9, 0)] [] (wr M s.2) o) (P := P) ?_ FU (x2, V) z h hz
  intro s x hx hP
  exact s_X16_tookMatches_15 hD hM (P := Sum.elim (fun s : Int × VV => Sem g d YX16_tookMatches 15 [(1, 156), (0, x1), (0, s.1), (9, 0), (9, 0)] [] (wr M s.2) o) P) (fun s h => h) (fun s h => r0 s h) hx hP
theorem s_X16_tookMatches_0 {g : GG} {d : Nat} (hD : 2 ≤ d) {x1 : Int} {M : MM} (hM : LM M) {V : VV} {o : AV × MM} {P : (VV) → Prop} (r0 : ∀ r : VV, P r → o = ((9, 0), (wr M r))) {z : VV} (h : f_X16_tookMatches x1 V = some z) (hz : P z) : Sem g d YX16_tookMatches 0 [(1, 156), (0, x1), (9, 0), (9, 0), (9, 0)] [] (wr M V) o := by
  delta f_X16_tookMatches at h
  refine S_aload_n (i := 0) dX16_tookMatches_0 rfl rfl ?_
  refine P2_gfr hM (a := 254) FLX16_309 rfl ⟨rfl, rfl⟩ dX16_tookMatches_1 ?_
  refine S_iload_n (i := 1) dX16_tookMatches_4 rfl rfl ?_
  refine S_dup2 dX16_tookMatches_5 (Nat.le_of_ble_eq_true rfl) (Nat.le_of_ble_eq_true rfl) ?_
  refine P2_lai hM (a := 254) (n := 44) rfl dX16_tookMatches_6 h (fun v1 h => ?_)
  refine S_aload_n (i := 0) dX16_tookMatches_7 rfl rfl ?_
  refine P2_gfi hM FLX16_595 rfl dX16_tookMatches_8 ?_
  refine S_iadd dX16_tookMatches_11 ?_
  refine P2_sai hM (a := 254) (n := 44) rfl dX16_tookMatches_12 h (fun V1 h => ?_)
  refine S_iconst dX16_tookMatches_13 rfl ?_
  refine S_istore_n (i := 2) dX16_tookMatches_14 rfl (Nat.le_of_ble_eq_true rfl) rfl rfl ?_
  change Sem g d YX16_tookMatches 15 [(1, 156), (0, x1), (0, 0), (9, 0), (9, 0)] [] (wr M V1) o
  exact sl_X16_tookMatches_15 hD hM r0 h hz
theorem F_X16_tookMatches {g : GG} {d : Nat} (hD : 2 ≤ d) {x1 : Int} {M : MM} (hM : LM M) {V : VV} {r : VV} (h : f_X16_tookMatches x1 V = some r) : Sem g d YX16_tookMatches 0 (ini YX16_tookMatches [(1, 156), (0, x1)]) [] (wr M V) ((9, 0), (wr M r)) := by
  change Sem g d YX16_tookMatches 0 [(1, 156), (0, x1), (9, 0), (9, 0), (9, 0)] [] (wr M V) ((9, 0), (wr M r))
  exact s_X16_tookMatches_0 hD hM (P := fun x => x = r) (fun q e => by rw [e]) h rfl
/-! PeerSearchModel.queryOn(I)Z -/
theorem dX16_queryOn_0 : decode cX16_queryOn 0 = .ok (.aload_n 0, 1) := by decide +kernel
theorem dX16_queryOn_1 : decode cX16_queryOn 1 = .ok (.getfield 231, 3) := by decide +kernel
theorem dX16_queryOn_4 : decode cX16_queryOn 4 = .ok (.iload_n 1, 1) := by decide +kernel
theorem dX16_queryOn_5 : decode cX16_queryOn 5 = .ok (.iaload, 1) := by decide +kernel
theorem dX16_queryOn_6 : decode cX16_queryOn 6 = .ok (.istore_n 2, 1) := by decide +kernel
theorem dX16_queryOn_7 : decode cX16_queryOn 7 = .ok (.aload_n 0, 1) := by decide +kernel
theorem dX16_queryOn_8 : decode cX16_queryOn 8 = .ok (.getfield 237, 3) := by decide +kernel
theorem dX16_queryOn_11 : decode cX16_queryOn 11 = .ok (.iload_n 1, 1) := by decide +kernel
theorem dX16_queryOn_12 : decode cX16_queryOn 12 = .ok (.iaload, 1) := by decide +kernel
theorem dX16_queryOn_13 : decode cX16_queryOn 13 = .ok (.istore_n 3, 1) := by decide +kernel
theorem dX16_queryOn_14 : decode cX16_queryOn 14 = .ok (.iload_n 3, 1) := by decide +kernel
theorem dX16_queryOn_15 : decode cX16_queryOn 15 = .ok (.iconst 3, 1) := by decide +kernel
theorem dX16_queryOn_16 : decode cX16_queryOn 16 = .ok (.if_icmp .ne 14, 3) := by decide +kernel
theorem dX16_queryOn_19 : decode cX16_queryOn 19 = .ok (.aload_n 0, 1) := by decide +kernel
theorem dX16_queryOn_20 : decode cX16_queryOn 20 = .ok (.getfield 306, 3) := by decide +kernel
theorem dX16_queryOn_23 : decode cX16_queryOn 23 = .ok (.iconst 3, 1) := by decide +kernel
theorem dX16_queryOn_24 : decode cX16_queryOn 24 = .ok (.iload_n 1, 1) := by decide +kernel
theorem dX16_queryOn_25 : decode cX16_queryOn 25 = .ok (.imul, 1) := by decide +kernel
theorem dX16_queryOn_26 : decode cX16_queryOn 26 = .ok (.iaload, 1) := by decide +kernel
theorem dX16_queryOn_27 : decode cX16_queryOn 27 = .ok (.goto 50, 3) := by decide +kernel
theorem dX16_queryOn_30 : decode cX16_queryOn 30 = .ok (.iload_n 3, 1) := by decide +kernel
theorem dX16_queryOn_31 : decode cX16_queryOn 31 = .ok (.iconst 4, 1) := by decide +kernel
theorem dX16_queryOn_32 : decode cX16_queryOn 32 = .ok (.if_icmp .ne 30, 3) := by decide +kernel
theorem dX16_queryOn_35 : decode cX16_queryOn 35 = .ok (.aload_n 0, 1) := by decide +kernel
theorem dX16_queryOn_36 : decode cX16_queryOn 36 = .ok (.getfield 306, 3) := by decide +kernel
theorem dX16_queryOn_39 : decode cX16_queryOn 39 = .ok (.iconst 3, 1) := by decide +kernel
theorem dX16_queryOn_40 : decode cX16_queryOn 40 = .ok (.iload_n 1, 1) := by decide +kernel
theorem dX16_queryOn_41 : decode cX16_queryOn 41 = .ok (.imul, 1) := by decide +kernel
theorem dX16_queryOn_42 : decode cX16_queryOn 42 = .ok (.aload_n 0, 1) := by decide +kernel
theorem dX16_queryOn_43 : decode cX16_queryOn 43 = .ok (.getfield 288, 3) := by decide +kernel
theorem dX16_queryOn_46 : decode cX16_queryOn 46 = .ok (.iload_n 1, 1) := by decide +kernel
theorem dX16_queryOn_47 : decode cX16_queryOn 47 = .ok (.iaload, 1) := by decide +kernel
theorem dX16_queryOn_48 : decode cX16_queryOn 48 = .ok (.iconst 1, 1) := by decide +kernel
theorem dX16_queryOn_49 : decode cX16_queryOn 49 = .ok (.if_icmp .ne 7, 3) := by decide +kernel
theorem dX16_queryOn_52 : decode cX16_queryOn 52 = .ok (.iconst 0, 1) := by decide +kernel
theorem dX16_queryOn_53 : decode cX16_queryOn 53 = .ok (.goto 4, 3) := by decide +kernel
theorem dX16_queryOn_56 : decode cX16_queryOn 56 = .ok (.iconst 1, 1) := by decide +kernel
theorem dX16_queryOn_57 : decode cX16_queryOn 57 = .ok (.iadd, 1) := by decide +kernel
theorem dX16_queryOn_58 : decode cX16_queryOn 58 = .ok (.iaload, 1) := by decide +kernel
theorem dX16_queryOn_59 : decode cX16_queryOn 59 = .ok (.goto 18, 3) := by decide +kernel
theorem dX16_queryOn_62 : decode cX16_queryOn 62 = .ok (.aload_n 0, 1) := by decide +kernel
theorem dX16_queryOn_63 : decode cX16_queryOn 63 = .ok (.getfield 306, 3) := by decide +kernel
theorem dX16_queryOn_66 : decode cX16_queryOn 66 = .ok (.iconst 3, 1) := by decide +kernel
theorem dX16_queryOn_67 : decode cX16_queryOn 67 = .ok (.iload_n 1, 1) := by decide +kernel
theorem dX16_queryOn_68 : decode cX16_queryOn 68 = .ok (.imul, 1) := by decide +kernel
theorem dX16_queryOn_69 : decode cX16_queryOn 69 = .ok (.aload_n 0, 1) := by decide +kernel
theorem dX16_queryOn_70 : decode cX16_queryOn 70 = .ok (.getfield 336, 3) := by decide +kernel
theorem dX16_queryOn_73 : decode cX16_queryOn 73 = .ok (.iload_n 1, 1) := by decide +kernel
theorem dX16_queryOn_74 : decode cX16_queryOn 74 = .ok (.iaload, 1) := by decide +kernel
theorem dX16_queryOn_75 : decode cX16_queryOn 75 = .ok (.iadd, 1) := by decide +kernel
theorem dX16_queryOn_76 : decode cX16_queryOn 76 = .ok (.iaload, 1) := by decide +kernel
theorem dX16_queryOn_77 : decode cX16_queryOn 77 = .ok (.istore 4, 2) := by decide +kernel
theorem dX16_queryOn_79 : decode cX16_queryOn 79 = .ok (.aload_n 0, 1) := by decide +kernel
theorem dX16_queryOn_80 : decode cX16_queryOn 80 = .ok (.iload_n 1, 1) := by decide +kernel
theorem dX16_queryOn_81 : decode cX16_queryOn 81 = .ok (.aload_n 0, 1) := by decide +kernel
theorem dX16_queryOn_82 : decode cX16_queryOn 82 = .ok (.getfield 300, 3) := by decide +kernel
theorem dX16_queryOn_85 : decode cX16_queryOn 85 = .ok (.iconst 5, 1) := by decide +kernel
theorem dX16_queryOn_86 : decode cX16_queryOn 86 = .ok (.iload 4, 2) := by decide +kernel
theorem dX16_queryOn_88 : decode cX16_queryOn 88 = .ok (.imul, 1) := by decide +kernel
theorem dX16_queryOn_89 : decode cX16_queryOn 89 = .ok (.invokevirtual 686, 3) := by decide +kernel
theorem dX16_queryOn_92 : decode cX16_queryOn 92 = .ok (.istore 5, 2) := by decide +kernel
theorem dX16_queryOn_94 : decode cX16_queryOn 94 = .ok (.aload_n 0, 1) := by decide +kernel
theorem dX16_queryOn_95 : decode cX16_queryOn 95 = .ok (.getfield 240, 3) := by decide +kernel
theorem dX16_queryOn_98 : decode cX16_queryOn 98 = .ok (.iload_n 1, 1) := by decide +kernel
theorem dX16_queryOn_99 : decode cX16_queryOn 99 = .ok (.dup2, 1) := by decide +kernel
theorem dX16_queryOn_100 : decode cX16_queryOn 100 = .ok (.iaload, 1) := by decide +kernel
theorem dX16_queryOn_101 : decode cX16_queryOn 101 = .ok (.iconst 1, 1) := by decide +kernel
theorem dX16_queryOn_102 : decode cX16_queryOn 102 = .ok (.iadd, 1) := by decide +kernel
theorem dX16_queryOn_103 : decode cX16_queryOn 103 = .ok (.iastore, 1) := by decide +kernel
theorem dX16_queryOn_104 : decode cX16_queryOn 104 = .ok (.iload_n 3, 1) := by decide +kernel
theorem dX16_queryOn_105 : decode cX16_queryOn 105 = .ok (.iconst 3, 1) := by decide +kernel
theorem dX16_queryOn_106 : decode cX16_queryOn 106 = .ok (.if_icmp .ne 47, 3) := by decide +kernel
theorem dX16_queryOn_109 : decode cX16_queryOn 109 = .ok (.iload 5, 2) := by decide +kernel
theorem dX16_queryOn_111 : decode cX16_queryOn 111 = .ok (.ifCond .eq 27, 3) := by decide +kernel
theorem dX16_queryOn_114 : decode cX16_queryOn 114 = .ok (.aload_n 0, 1) := by decide +kernel
theorem dX16_queryOn_115 : decode cX16_queryOn 115 = .ok (.iload_n 2, 1) := by decide +kernel
theorem dX16_queryOn_116 : decode cX16_queryOn 116 = .ok (.aload_n 0, 1) := by decide +kernel
theorem dX16_queryOn_117 : decode cX16_queryOn 117 = .ok (.getfield 294, 3) := by decide +kernel
theorem dX16_queryOn_120 : decode cX16_queryOn 120 = .ok (.iconst 5, 1) := by decide +kernel
theorem dX16_queryOn_121 : decode cX16_queryOn 121 = .ok (.iload 4, 2) := by decide +kernel
theorem dX16_queryOn_123 : decode cX16_queryOn 123 = .ok (.imul, 1) := by decide +kernel
theorem dX16_queryOn_124 : decode cX16_queryOn 124 = .ok (.invokevirtual 598, 3) := by decide +kernel
theorem dX16_queryOn_127 : decode cX16_queryOn 127 = .ok (.aload_n 0, 1) := by decide +kernel
theorem dX16_queryOn_128 : decode cX16_queryOn 128 = .ok (.invokevirtual 689, 3) := by decide +kernel
theorem dX16_queryOn_131 : decode cX16_queryOn 131 = .ok (.aload_n 0, 1) := by decide +kernel
theorem dX16_queryOn_132 : decode cX16_queryOn 132 = .ok (.iload_n 1, 1) := by decide +kernel
theorem dX16_queryOn_133 : decode cX16_queryOn 133 = .ok (.invokevirtual 692, 3) := by decide +kernel
theorem dX16_queryOn_136 : decode cX16_queryOn 136 = .ok (.iconst 1, 1) := by decide +kernel
theorem dX16_queryOn_137 : decode cX16_queryOn 137 = .ok (.ireturn, 1) := by decide +kernel
theorem dX16_queryOn_138 : decode cX16_queryOn 138 = .ok (.aload_n 0, 1) := by decide +kernel
theorem dX16_queryOn_139 : decode cX16_queryOn 139 = .ok (.aload_n 0, 1) := by decide +kernel
theorem dX16_queryOn_140 : decode cX16_queryOn 140 = .ok (.getfield 294, 3) := by decide +kernel
theorem dX16_queryOn_143 : decode cX16_queryOn 143 = .ok (.iconst 5, 1) := by decide +kernel
theorem dX16_queryOn_144 : decode cX16_queryOn 144 = .ok (.iload 4, 2) := by decide +kernel
theorem dX16_queryOn_146 : decode cX16_queryOn 146 = .ok (.imul, 1) := by decide +kernel
theorem dX16_queryOn_147 : decode cX16_queryOn 147 = .ok (.invokevirtual 634, 3) := by decide +kernel
theorem dX16_queryOn_150 : decode cX16_queryOn 150 = .ok (.goto 420, 3) := by decide +kernel
theorem dX16_queryOn_153 : decode cX16_queryOn 153 = .ok (.iload_n 3, 1) := by decide +kernel
theorem dX16_queryOn_154 : decode cX16_queryOn 154 = .ok (.iconst 4, 1) := by decide +kernel
theorem dX16_queryOn_155 : decode cX16_queryOn 155 = .ok (.if_icmp .ne 220, 3) := by decide +kernel
theorem dX16_queryOn_158 : decode cX16_queryOn 158 = .ok (.aload_n 0, 1) := by decide +kernel
theorem dX16_queryOn_159 : decode cX16_queryOn 159 = .ok (.getfield 288, 3) := by decide +kernel
theorem dX16_queryOn_162 : decode cX16_queryOn 162 = .ok (.iload_n 1, 1) := by decide +kernel
theorem dX16_queryOn_163 : decode cX16_queryOn 163 = .ok (.iaload, 1) := by decide +kernel
theorem dX16_queryOn_164 : decode cX16_queryOn 164 = .ok (.iconst 1, 1) := by decide +kernel
theorem dX16_queryOn_165 : decode cX16_queryOn 165 = .ok (.if_icmp .ne 13, 3) := by decide +kernel
theorem dX16_queryOn_168 : decode cX16_queryOn 168 = .ok (.aload_n 0, 1) := by decide +kernel
theorem dX16_queryOn_169 : decode cX16_queryOn 169 = .ok (.getfield 25, 3) := by decide +kernel
theorem dX16_queryOn_172 : decode cX16_queryOn 172 = .ok (.bipush 9, 2) := by decide +kernel
theorem dX16_queryOn_174 : decode cX16_queryOn 174 = .ok (.iaload, 1) := by decide +kernel
theorem dX16_queryOn_175 : decode cX16_queryOn 175 = .ok (.goto 9, 3) := by decide +kernel
theorem dX16_queryOn_178 : decode cX16_queryOn 178 = .ok (.aload_n 0, 1) := by decide +kernel
theorem dX16_queryOn_179 : decode cX16_queryOn 179 = .ok (.getfield 315, 3) := by decide +kernel
theorem dX16_queryOn_182 : decode cX16_queryOn 182 = .ok (.iload_n 1, 1) := by decide +kernel
theorem dX16_queryOn_183 : decode cX16_queryOn 183 = .ok (.iaload, 1) := by decide +kernel
theorem dX16_queryOn_184 : decode cX16_queryOn 184 = .ok (.istore 6, 2) := by decide +kernel
theorem dX16_queryOn_186 : decode cX16_queryOn 186 = .ok (.iload 5, 2) := by decide +kernel
theorem dX16_queryOn_188 : decode cX16_queryOn 188 = .ok (.ifCond .eq 83, 3) := by decide +kernel
theorem dX16_queryOn_191 : decode cX16_queryOn 191 = .ok (.aload_n 0, 1) := by decide +kernel
theorem dX16_queryOn_192 : decode cX16_queryOn 192 = .ok (.aload_n 0, 1) := by decide +kernel
theorem dX16_queryOn_193 : decode cX16_queryOn 193 = .ok (.getfield 312, 3) := by decide +kernel
theorem dX16_queryOn_196 : decode cX16_queryOn 196 = .ok (.iload_n 1, 1) := by decide +kernel
theorem dX16_queryOn_197 : decode cX16_queryOn 197 = .ok (.iaload, 1) := by decide +kernel
theorem dX16_queryOn_198 : decode cX16_queryOn 198 = .ok (.putfield 586, 3) := by decide +kernel
theorem dX16_queryOn_201 : decode cX16_queryOn 201 = .ok (.aload_n 0, 1) := by decide +kernel
theorem dX16_queryOn_202 : decode cX16_queryOn 202 = .ok (.iload 6, 2) := by decide +kernel
theorem dX16_queryOn_204 : decode cX16_queryOn 204 = .ok (.putfield 583, 3) := by decide +kernel
theorem dX16_queryOn_207 : decode cX16_queryOn 207 = .ok (.iconst 0, 1) := by decide +kernel
theorem dX16_queryOn_208 : decode cX16_queryOn 208 = .ok (.istore 7, 2) := by decide +kernel
theorem dX16_queryOn_210 : decode cX16_queryOn 210 = .ok (.iload 7, 2) := by decide +kernel
theorem dX16_queryOn_212 : decode cX16_queryOn 212 = .ok (.aload_n 0, 1) := by decide +kernel
theorem dX16_queryOn_213 : decode cX16_queryOn 213 = .ok (.getfield 586, 3) := by decide +kernel
theorem dX16_queryOn_216 : decode cX16_queryOn 216 = .ok (.if_icmp .ge 29, 3) := by decide +kernel
theorem dX16_queryOn_219 : decode cX16_queryOn 219 = .ok (.aload_n 0, 1) := by decide +kernel
theorem dX16_queryOn_220 : decode cX16_queryOn 220 = .ok (.getfield 207, 3) := by decide +kernel
theorem dX16_queryOn_223 : decode cX16_queryOn 223 = .ok (.iload 7, 2) := by decide +kernel
theorem dX16_queryOn_225 : decode cX16_queryOn 225 = .ok (.aload_n 0, 1) := by decide +kernel
theorem dX16_queryOn_226 : decode cX16_queryOn 226 = .ok (.getfield 318, 3) := by decide +kernel
theorem dX16_queryOn_229 : decode cX16_queryOn 229 = .ok (.sipush 290, 3) := by decide +kernel
theorem dX16_queryOn_232 : decode cX16_queryOn 232 = .ok (.iload_n 1, 1) := by decide +kernel
theorem dX16_queryOn_233 : decode cX16_queryOn 233 = .ok (.imul, 1) := by decide +kernel
theorem dX16_queryOn_234 : decode cX16_queryOn 234 = .ok (.iload 7, 2) := by decide +kernel
theorem dX16_queryOn_236 : decode cX16_queryOn 236 = .ok (.iadd, 1) := by decide +kernel
theorem dX16_queryOn_237 : decode cX16_queryOn 237 = .ok (.iaload, 1) := by decide +kernel
theorem dX16_queryOn_238 : decode cX16_queryOn 238 = .ok (.iastore, 1) := by decide +kernel
theorem dX16_queryOn_239 : decode cX16_queryOn 239 = .ok (.iinc 7 1, 3) := by decide +kernel
theorem dX16_queryOn_242 : decode cX16_queryOn 242 = .ok (.goto (-32), 3) := by decide +kernel
theorem dX16_queryOn_245 : decode cX16_queryOn 245 = .ok (.aload_n 0, 1) := by decide +kernel
theorem dX16_queryOn_246 : decode cX16_queryOn 246 = .ok (.iload_n 2, 1) := by decide +kernel
theorem dX16_queryOn_247 : decode cX16_queryOn 247 = .ok (.aload_n 0, 1) := by decide +kernel
theorem dX16_queryOn_248 : decode cX16_queryOn 248 = .ok (.getfield 294, 3) := by decide +kernel
theorem dX16_queryOn_251 : decode cX16_queryOn 251 = .ok (.iconst 5, 1) := by decide +kernel
theorem dX16_queryOn_252 : decode cX16_queryOn 252 = .ok (.iload 4, 2) := by decide +kernel
theorem dX16_queryOn_254 : decode cX16_queryOn 254 = .ok (.imul, 1) := by decide +kernel
theorem dX16_queryOn_255 : decode cX16_queryOn 255 = .ok (.aload_n 0, 1) := by decide +kernel
theorem dX16_queryOn_256 : decode cX16_queryOn 256 = .ok (.getfield 309, 3) := by decide +kernel
theorem dX16_queryOn_259 : decode cX16_queryOn 259 = .ok (.iload_n 1, 1) := by decide +kernel
theorem dX16_queryOn_260 : decode cX16_queryOn 260 = .ok (.iaload, 1) := by decide +kernel
theorem dX16_queryOn_261 : decode cX16_queryOn 261 = .ok (.invokevirtual 695, 3) := by decide +kernel
theorem dX16_queryOn_264 : decode cX16_queryOn 264 = .ok (.aload_n 0, 1) := by decide +kernel
theorem dX16_queryOn_265 : decode cX16_queryOn 265 = .ok (.iload_n 1, 1) := by decide +kernel
theorem dX16_queryOn_266 : decode cX16_queryOn 266 = .ok (.invokevirtual 699, 3) := by decide +kernel
theorem dX16_queryOn_269 : decode cX16_queryOn 269 = .ok (.iconst 1, 1) := by decide +kernel
theorem dX16_queryOn_270 : decode cX16_queryOn 270 = .ok (.ireturn, 1) := by decide +kernel
theorem dX16_queryOn_271 : decode cX16_queryOn 271 = .ok (.aload_n 0, 1) := by decide +kernel
theorem dX16_queryOn_272 : decode cX16_queryOn 272 = .ok (.aload_n 0, 1) := by decide +kernel
theorem dX16_queryOn_273 : decode cX16_queryOn 273 = .ok (.getfield 294, 3) := by decide +kernel
theorem dX16_queryOn_276 : decode cX16_queryOn 276 = .ok (.iconst 5, 1) := by decide +kernel
theorem dX16_queryOn_277 : decode cX16_queryOn 277 = .ok (.iload 4, 2) := by decide +kernel
theorem dX16_queryOn_279 : decode cX16_queryOn 279 = .ok (.imul, 1) := by decide +kernel
theorem dX16_queryOn_280 : decode cX16_queryOn 280 = .ok (.invokevirtual 634, 3) := by decide +kernel
theorem dX16_queryOn_283 : decode cX16_queryOn 283 = .ok (.aload_n 0, 1) := by decide +kernel
theorem dX16_queryOn_284 : decode cX16_queryOn 284 = .ok (.aload_n 0, 1) := by decide +kernel
theorem dX16_queryOn_285 : decode cX16_queryOn 285 = .ok (.getfield 309, 3) := by decide +kernel
theorem dX16_queryOn_288 : decode cX16_queryOn 288 = .ok (.iload_n 1, 1) := by decide +kernel
theorem dX16_queryOn_289 : decode cX16_queryOn 289 = .ok (.iaload, 1) := by decide +kernel
theorem dX16_queryOn_290 : decode cX16_queryOn 290 = .ok (.bipush 8, 2) := by decide +kernel
theorem dX16_queryOn_292 : decode cX16_queryOn 292 = .ok (.ishr, 1) := by decide +kernel
theorem dX16_queryOn_293 : decode cX16_queryOn 293 = .ok (.invokevirtual 547, 3) := by decide +kernel
theorem dX16_queryOn_296 : decode cX16_queryOn 296 = .ok (.aload_n 0, 1) := by decide +kernel
theorem dX16_queryOn_297 : decode cX16_queryOn 297 = .ok (.aload_n 0, 1) := by decide +kernel
theorem dX16_queryOn_298 : decode cX16_queryOn 298 = .ok (.getfield 309, 3) := by decide +kernel
theorem dX16_queryOn_301 : decode cX16_queryOn 301 = .ok (.iload_n 1, 1) := by decide +kernel
theorem dX16_queryOn_302 : decode cX16_queryOn 302 = .ok (.iaload, 1) := by decide +kernel
theorem dX16_queryOn_303 : decode cX16_queryOn 303 = .ok (.invokevirtual 547, 3) := by decide +kernel
theorem dX16_queryOn_306 : decode cX16_queryOn 306 = .ok (.aload_n 0, 1) := by decide +kernel
theorem dX16_queryOn_307 : decode cX16_queryOn 307 = .ok (.iload 6, 2) := by decide +kernel
theorem dX16_queryOn_309 : decode cX16_queryOn 309 = .ok (.invokevirtual 547, 3) := by decide +kernel
theorem dX16_queryOn_312 : decode cX16_queryOn 312 = .ok (.aload_n 0, 1) := by decide +kernel
theorem dX16_queryOn_313 : decode cX16_queryOn 313 = .ok (.aload_n 0, 1) := by decide +kernel
theorem dX16_queryOn_314 : decode cX16_queryOn 314 = .ok (.getfield 312, 3) := by decide +kernel
theorem dX16_queryOn_317 : decode cX16_queryOn 317 = .ok (.iload_n 1, 1) := by decide +kernel
theorem dX16_queryOn_318 : decode cX16_queryOn 318 = .ok (.iaload, 1) := by decide +kernel
theorem dX16_queryOn_319 : decode cX16_queryOn 319 = .ok (.bipush 8, 2) := by decide +kernel
theorem dX16_queryOn_321 : decode cX16_queryOn 321 = .ok (.ishr, 1) := by decide +kernel
theorem dX16_queryOn_322 : decode cX16_queryOn 322 = .ok (.invokevirtual 547, 3) := by decide +kernel
theorem dX16_queryOn_325 : decode cX16_queryOn 325 = .ok (.aload_n 0, 1) := by decide +kernel
theorem dX16_queryOn_326 : decode cX16_queryOn 326 = .ok (.aload_n 0, 1) := by decide +kernel
theorem dX16_queryOn_327 : decode cX16_queryOn 327 = .ok (.getfield 312, 3) := by decide +kernel
theorem dX16_queryOn_330 : decode cX16_queryOn 330 = .ok (.iload_n 1, 1) := by decide +kernel
theorem dX16_queryOn_331 : decode cX16_queryOn 331 = .ok (.iaload, 1) := by decide +kernel
theorem dX16_queryOn_332 : decode cX16_queryOn 332 = .ok (.invokevirtual 547, 3) := by decide +kernel
theorem dX16_queryOn_335 : decode cX16_queryOn 335 = .ok (.iconst 0, 1) := by decide +kernel
theorem dX16_queryOn_336 : decode cX16_queryOn 336 = .ok (.istore 7, 2) := by decide +kernel
theorem dX16_queryOn_338 : decode cX16_queryOn 338 = .ok (.iload 7, 2) := by decide +kernel
theorem dX16_queryOn_340 : decode cX16_queryOn 340 = .ok (.aload_n 0, 1) := by decide +kernel
theorem dX16_queryOn_341 : decode cX16_queryOn 341 = .ok (.getfield 312, 3) := by decide +kernel
theorem dX16_queryOn_344 : decode cX16_queryOn 344 = .ok (.iload_n 1, 1) := by decide +kernel
theorem dX16_queryOn_345 : decode cX16_queryOn 345 = .ok (.iaload, 1) := by decide +kernel
theorem dX16_queryOn_346 : decode cX16_queryOn 346 = .ok (.if_icmp .ge 26, 3) := by decide +kernel
theorem dX16_queryOn_349 : decode cX16_queryOn 349 = .ok (.aload_n 0, 1) := by decide +kernel
theorem dX16_queryOn_350 : decode cX16_queryOn 350 = .ok (.aload_n 0, 1) := by decide +kernel
theorem dX16_queryOn_351 : decode cX16_queryOn 351 = .ok (.getfield 318, 3) := by decide +kernel
theorem dX16_queryOn_354 : decode cX16_queryOn 354 = .ok (.sipush 290, 3) := by decide +kernel
theorem dX16_queryOn_357 : decode cX16_queryOn 357 = .ok (.iload_n 1, 1) := by decide +kernel
theorem dX16_queryOn_358 : decode cX16_queryOn 358 = .ok (.imul, 1) := by decide +kernel
theorem dX16_queryOn_359 : decode cX16_queryOn 359 = .ok (.iload 7, 2) := by decide +kernel
theorem dX16_queryOn_361 : decode cX16_queryOn 361 = .ok (.iadd, 1) := by decide +kernel
theorem dX16_queryOn_362 : decode cX16_queryOn 362 = .ok (.iaload, 1) := by decide +kernel
theorem dX16_queryOn_363 : decode cX16_queryOn 363 = .ok (.invokevirtual 547, 3) := by decide +kernel
theorem dX16_queryOn_366 : decode cX16_queryOn 366 = .ok (.iinc 7 1, 3) := by decide +kernel
theorem dX16_queryOn_369 : decode cX16_queryOn 369 = .ok (.goto (-31), 3) := by decide +kernel
theorem dX16_queryOn_372 : decode cX16_queryOn 372 = .ok (.goto 198, 3) := by decide +kernel
theorem dX16_queryOn_375 : decode cX16_queryOn 375 = .ok (.aload_n 0, 1) := by decide +kernel
theorem dX16_queryOn_376 : decode cX16_queryOn 376 = .ok (.getfield 321, 3) := by decide +kernel
theorem dX16_queryOn_379 : decode cX16_queryOn 379 = .ok (.iload_n 1, 1) := by decide +kernel
theorem dX16_queryOn_380 : decode cX16_queryOn 380 = .ok (.iaload, 1) := by decide +kernel
theorem dX16_queryOn_381 : decode cX16_queryOn 381 = .ok (.aload_n 0, 1) := by decide +kernel
theorem dX16_queryOn_382 : decode cX16_queryOn 382 = .ok (.getfield 339, 3) := by decide +kernel
theorem dX16_queryOn_385 : decode cX16_queryOn 385 = .ok (.iload_n 1, 1) := by decide +kernel
theorem dX16_queryOn_386 : decode cX16_queryOn 386 = .ok (.iaload, 1) := by decide +kernel
theorem dX16_queryOn_387 : decode cX16_queryOn 387 = .ok (.isub, 1) := by decide +kernel
theorem dX16_queryOn_388 : decode cX16_queryOn 388 = .ok (.bipush 30, 2) := by decide +kernel
theorem dX16_queryOn_390 : decode cX16_queryOn 390 = .ok (.if_icmp .ge 19, 3) := by decide +kernel
theorem dX16_queryOn_393 : decode cX16_queryOn 393 = .ok (.aload_n 0, 1) := by decide +kernel
theorem dX16_queryOn_394 : decode cX16_queryOn 394 = .ok (.getfield 321, 3) := by decide +kernel
theorem dX16_queryOn_397 : decode cX16_queryOn 397 = .ok (.iload_n 1, 1) := by decide +kernel
theorem dX16_queryOn_398 : decode cX16_queryOn 398 = .ok (.iaload, 1) := by decide +kernel
theorem dX16_queryOn_399 : decode cX16_queryOn 399 = .ok (.aload_n 0, 1) := by decide +kernel
theorem dX16_queryOn_400 : decode cX16_queryOn 400 = .ok (.getfield 339, 3) := by decide +kernel
theorem dX16_queryOn_403 : decode cX16_queryOn 403 = .ok (.iload_n 1, 1) := by decide +kernel
theorem dX16_queryOn_404 : decode cX16_queryOn 404 = .ok (.iaload, 1) := by decide +kernel
theorem dX16_queryOn_405 : decode cX16_queryOn 405 = .ok (.isub, 1) := by decide +kernel
theorem dX16_queryOn_406 : decode cX16_queryOn 406 = .ok (.goto 5, 3) := by decide +kernel
theorem dX16_queryOn_409 : decode cX16_queryOn 409 = .ok (.bipush 30, 2) := by decide +kernel
theorem dX16_queryOn_411 : decode cX16_queryOn 411 = .ok (.istore 6, 2) := by decide +kernel
theorem dX16_queryOn_413 : decode cX16_queryOn 413 = .ok (.aload_n 0, 1) := by decide +kernel
theorem dX16_queryOn_414 : decode cX16_queryOn 414 = .ok (.iload 6, 2) := by decide +kernel
theorem dX16_queryOn_416 : decode cX16_queryOn 416 = .ok (.putfield 612, 3) := by decide +kernel
theorem dX16_queryOn_419 : decode cX16_queryOn 419 = .ok (.iconst 0, 1) := by decide +kernel
theorem dX16_queryOn_420 : decode cX16_queryOn 420 = .ok (.istore 7, 2) := by decide +kernel
theorem dX16_queryOn_422 : decode cX16_queryOn 422 = .ok (.iload 7, 2) := by decide +kernel
theorem dX16_queryOn_424 : decode cX16_queryOn 424 = .ok (.iload 6, 2) := by decide +kernel
theorem dX16_queryOn_426 : decode cX16_queryOn 426 = .ok (.if_icmp .ge 63, 3) := by decide +kernel
theorem dX16_queryOn_429 : decode cX16_queryOn 429 = .ok (.aload_n 0, 1) := by decide +kernel
theorem dX16_queryOn_430 : decode cX16_queryOn 430 = .ok (.getfield 219, 3) := by decide +kernel
theorem dX16_queryOn_433 : decode cX16_queryOn 433 = .ok (.iload 7, 2) := by decide +kernel
theorem dX16_queryOn_435 : decode cX16_queryOn 435 = .ok (.aload_n 0, 1) := by decide +kernel
theorem dX16_queryOn_436 : decode cX16_queryOn 436 = .ok (.getfield 324, 3) := by decide +kernel
theorem dX16_queryOn_439 : decode cX16_queryOn 439 = .ok (.sipush 200, 3) := by decide +kernel
theorem dX16_queryOn_442 : decode cX16_queryOn 442 = .ok (.iload_n 1, 1) := by decide +kernel
theorem dX16_queryOn_443 : decode cX16_queryOn 443 = .ok (.imul, 1) := by decide +kernel
theorem dX16_queryOn_444 : decode cX16_queryOn 444 = .ok (.aload_n 0, 1) := by decide +kernel
theorem dX16_queryOn_445 : decode cX16_queryOn 445 = .ok (.getfield 339, 3) := by decide +kernel
theorem dX16_queryOn_448 : decode cX16_queryOn 448 = .ok (.iload_n 1, 1) := by decide +kernel
theorem dX16_queryOn_449 : decode cX16_queryOn 449 = .ok (.iaload, 1) := by decide +kernel
theorem dX16_queryOn_450 : decode cX16_queryOn 450 = .ok (.iadd, 1) := by decide +kernel
theorem dX16_queryOn_451 : decode cX16_queryOn 451 = .ok (.iload 7, 2) := by decide +kernel
theorem dX16_queryOn_453 : decode cX16_queryOn 453 = .ok (.iadd, 1) := by decide +kernel
theorem dX16_queryOn_454 : decode cX16_queryOn 454 = .ok (.iaload, 1) := by decide +kernel
theorem dX16_queryOn_455 : decode cX16_queryOn 455 = .ok (.iastore, 1) := by decide +kernel
theorem dX16_queryOn_456 : decode cX16_queryOn 456 = .ok (.aload_n 0, 1) := by decide +kernel
theorem dX16_queryOn_457 : decode cX16_queryOn 457 = .ok (.getfield 222, 3) := by decide +kernel
theorem dX16_queryOn_460 : decode cX16_queryOn 460 = .ok (.iload 7, 2) := by decide +kernel
theorem dX16_queryOn_462 : decode cX16_queryOn 462 = .ok (.aload_n 0, 1) := by decide +kernel
theorem dX16_queryOn_463 : decode cX16_queryOn 463 = .ok (.getfield 327, 3) := by decide +kernel
theorem dX16_queryOn_466 : decode cX16_queryOn 466 = .ok (.sipush 200, 3) := by decide +kernel
theorem dX16_queryOn_469 : decode cX16_queryOn 469 = .ok (.iload_n 1, 1) := by decide +kernel
theorem dX16_queryOn_470 : decode cX16_queryOn 470 = .ok (.imul, 1) := by decide +kernel
theorem dX16_queryOn_471 : decode cX16_queryOn 471 = .ok (.aload_n 0, 1) := by decide +kernel
theorem dX16_queryOn_472 : decode cX16_queryOn 472 = .ok (.getfield 339, 3) := by decide +kernel
theorem dX16_queryOn_475 : decode cX16_queryOn 475 = .ok (.iload_n 1, 1) := by decide +kernel
theorem dX16_queryOn_476 : decode cX16_queryOn 476 = .ok (.iaload, 1) := by decide +kernel
theorem dX16_queryOn_477 : decode cX16_queryOn 477 = .ok (.iadd, 1) := by decide +kernel
theorem dX16_queryOn_478 : decode cX16_queryOn 478 = .ok (.iload 7, 2) := by decide +kernel
theorem dX16_queryOn_480 : decode cX16_queryOn 480 = .ok (.iadd, 1) := by decide +kernel
theorem dX16_queryOn_481 : decode cX16_queryOn 481 = .ok (.iaload, 1) := by decide +kernel
theorem dX16_queryOn_482 : decode cX16_queryOn 482 = .ok (.iastore, 1) := by decide +kernel
theorem dX16_queryOn_483 : decode cX16_queryOn 483 = .ok (.iinc 7 1, 3) := by decide +kernel
theorem dX16_queryOn_486 : decode cX16_queryOn 486 = .ok (.goto (-64), 3) := by decide +kernel
theorem dX16_queryOn_489 : decode cX16_queryOn 489 = .ok (.iload 5, 2) := by decide +kernel
theorem dX16_queryOn_491 : decode cX16_queryOn 491 = .ok (.ifCond .eq 23, 3) := by decide +kernel
theorem dX16_queryOn_494 : decode cX16_queryOn 494 = .ok (.aload_n 0, 1) := by decide +kernel
theorem dX16_queryOn_495 : decode cX16_queryOn 495 = .ok (.iload_n 2, 1) := by decide +kernel
theorem dX16_queryOn_496 : decode cX16_queryOn 496 = .ok (.aload_n 0, 1) := by decide +kernel
theorem dX16_queryOn_497 : decode cX16_queryOn 497 = .ok (.getfield 294, 3) := by decide +kernel
theorem dX16_queryOn_500 : decode cX16_queryOn 500 = .ok (.iconst 5, 1) := by decide +kernel
theorem dX16_queryOn_501 : decode cX16_queryOn 501 = .ok (.iload 4, 2) := by decide +kernel
theorem dX16_queryOn_503 : decode cX16_queryOn 503 = .ok (.imul, 1) := by decide +kernel
theorem dX16_queryOn_504 : decode cX16_queryOn 504 = .ok (.invokevirtual 702, 3) := by decide +kernel
theorem dX16_queryOn_507 : decode cX16_queryOn 507 = .ok (.aload_n 0, 1) := by decide +kernel
theorem dX16_queryOn_508 : decode cX16_queryOn 508 = .ok (.iload_n 1, 1) := by decide +kernel
theorem dX16_queryOn_509 : decode cX16_queryOn 509 = .ok (.invokevirtual 705, 3) := by decide +kernel
theorem dX16_queryOn_512 : decode cX16_queryOn 512 = .ok (.iconst 1, 1) := by decide +kernel
theorem dX16_queryOn_513 : decode cX16_queryOn 513 = .ok (.ireturn, 1) := by decide +kernel
theorem dX16_queryOn_514 : decode cX16_queryOn 514 = .ok (.aload_n 0, 1) := by decide +kernel
theorem dX16_queryOn_515 : decode cX16_queryOn 515 = .ok (.aload_n 0, 1) := by decide +kernel
theorem dX16_queryOn_516 : decode cX16_queryOn 516 = .ok (.getfield 294, 3) := by decide +kernel
theorem dX16_queryOn_519 : decode cX16_queryOn 519 = .ok (.iconst 5, 1) := by decide +kernel
theorem dX16_queryOn_520 : decode cX16_queryOn 520 = .ok (.iload 4, 2) := by decide +kernel
theorem dX16_queryOn_522 : decode cX16_queryOn 522 = .ok (.imul, 1) := by decide +kernel
theorem dX16_queryOn_523 : decode cX16_queryOn 523 = .ok (.invokevirtual 634, 3) := by decide +kernel
theorem dX16_queryOn_526 : decode cX16_queryOn 526 = .ok (.aload_n 0, 1) := by decide +kernel
theorem dX16_queryOn_527 : decode cX16_queryOn 527 = .ok (.iload 6, 2) := by decide +kernel
theorem dX16_queryOn_529 : decode cX16_queryOn 529 = .ok (.invokevirtual 547, 3) := by decide +kernel
theorem dX16_queryOn_532 : decode cX16_queryOn 532 = .ok (.iconst 0, 1) := by decide +kernel
theorem dX16_queryOn_533 : decode cX16_queryOn 533 = .ok (.istore 7, 2) := by decide +kernel
theorem dX16_queryOn_535 : decode cX16_queryOn 535 = .ok (.iload 7, 2) := by decide +kernel
theorem dX16_queryOn_537 : decode cX16_queryOn 537 = .ok (.iload 6, 2) := by decide +kernel
theorem dX16_queryOn_539 : decode cX16_queryOn 539 = .ok (.if_icmp .ge 31, 3) := by decide +kernel
theorem dX16_queryOn_542 : decode cX16_queryOn 542 = .ok (.aload_n 0, 1) := by decide +kernel
theorem dX16_queryOn_543 : decode cX16_queryOn 543 = .ok (.aload_n 0, 1) := by decide +kernel
theorem dX16_queryOn_544 : decode cX16_queryOn 544 = .ok (.getfield 219, 3) := by decide +kernel
theorem dX16_queryOn_547 : decode cX16_queryOn 547 = .ok (.iload 7, 2) := by decide +kernel
theorem dX16_queryOn_549 : decode cX16_queryOn 549 = .ok (.iaload, 1) := by decide +kernel
theorem dX16_queryOn_550 : decode cX16_queryOn 550 = .ok (.invokevirtual 547, 3) := by decide +kernel
theorem dX16_queryOn_553 : decode cX16_queryOn 553 = .ok (.aload_n 0, 1) := by decide +kernel
theorem dX16_queryOn_554 : decode cX16_queryOn 554 = .ok (.aload_n 0, 1) := by decide +kernel
theorem dX16_queryOn_555 : decode cX16_queryOn 555 = .ok (.getfield 222, 3) := by decide +kernel
theorem dX16_queryOn_558 : decode cX16_queryOn 558 = .ok (.iload 7, 2) := by decide +kernel
theorem dX16_queryOn_560 : decode cX16_queryOn 560 = .ok (.iaload, 1) := by decide +kernel
theorem dX16_queryOn_561 : decode cX16_queryOn 561 = .ok (.invokevirtual 547, 3) := by decide +kernel
theorem dX16_queryOn_564 : decode cX16_queryOn 564 = .ok (.iinc 7 1, 3) := by decide +kernel
theorem dX16_queryOn_567 : decode cX16_queryOn 567 = .ok (.goto (-32), 3) := by decide +kernel
theorem dX16_queryOn_570 : decode cX16_queryOn 570 = .ok (.iload_n 3, 1) := by decide +kernel
theorem dX16_queryOn_571 : decode cX16_queryOn 571 = .ok (.iconst 3, 1) := by decide +kernel
theorem dX16_queryOn_572 : decode cX16_queryOn 572 = .ok (.if_icmp .ne 8, 3) := by decide +kernel
theorem dX16_queryOn_575 : decode cX16_queryOn 575 = .ok (.bipush 9, 2) := by decide +kernel
theorem dX16_queryOn_577 : decode cX16_queryOn 577 = .ok (.goto 15, 3) := by decide +kernel
theorem dX16_queryOn_580 : decode cX16_queryOn 580 = .ok (.iload_n 3, 1) := by decide +kernel
theorem dX16_queryOn_581 : decode cX16_queryOn 581 = .ok (.iconst 4, 1) := by decide +kernel
theorem dX16_queryOn_582 : decode cX16_queryOn 582 = .ok (.if_icmp .ne 8, 3) := by decide +kernel
theorem dX16_queryOn_585 : decode cX16_queryOn 585 = .ok (.bipush 11, 2) := by decide +kernel
theorem dX16_queryOn_587 : decode cX16_queryOn 587 = .ok (.goto 5, 3) := by decide +kernel
theorem dX16_queryOn_590 : decode cX16_queryOn 590 = .ok (.bipush 13, 2) := by decide +kernel
theorem dX16_queryOn_592 : decode cX16_queryOn 592 = .ok (.istore 6, 2) := by decide +kernel
theorem dX16_queryOn_594 : decode cX16_queryOn 594 = .ok (.aload_n 0, 1) := by decide +kernel
theorem dX16_queryOn_595 : decode cX16_queryOn 595 = .ok (.iload_n 1, 1) := by decide +kernel
theorem dX16_queryOn_596 : decode cX16_queryOn 596 = .ok (.aload_n 0, 1) := by decide +kernel
theorem dX16_queryOn_597 : decode cX16_queryOn 597 = .ok (.getfield 297, 3) := by decide +kernel
theorem dX16_queryOn_600 : decode cX16_queryOn 600 = .ok (.iload 4, 2) := by decide +kernel
theorem dX16_queryOn_602 : decode cX16_queryOn 602 = .ok (.iaload, 1) := by decide +kernel
theorem dX16_queryOn_603 : decode cX16_queryOn 603 = .ok (.aload_n 0, 1) := by decide +kernel
theorem dX16_queryOn_604 : decode cX16_queryOn 604 = .ok (.getfield 300, 3) := by decide +kernel
theorem dX16_queryOn_607 : decode cX16_queryOn 607 = .ok (.iconst 5, 1) := by decide +kernel
theorem dX16_queryOn_608 : decode cX16_queryOn 608 = .ok (.iload 4, 2) := by decide +kernel
theorem dX16_queryOn_610 : decode cX16_queryOn 610 = .ok (.imul, 1) := by decide +kernel
theorem dX16_queryOn_611 : decode cX16_queryOn 611 = .ok (.iload 6, 2) := by decide +kernel
theorem dX16_queryOn_613 : decode cX16_queryOn 613 = .ok (.invokevirtual 637, 3) := by decide +kernel
theorem dX16_queryOn_616 : decode cX16_queryOn 616 = .ok (.ifCond .ne 9, 3) := by decide +kernel
theorem dX16_queryOn_619 : decode cX16_queryOn 619 = .ok (.aload_n 0, 1) := by decide +kernel
theorem dX16_queryOn_620 : decode cX16_queryOn 620 = .ok (.iload_n 1, 1) := by decide +kernel
theorem dX16_queryOn_621 : decode cX16_queryOn 621 = .ok (.iconst 2, 1) := by decide +kernel
theorem dX16_queryOn_622 : decode cX16_queryOn 622 = .ok (.invokevirtual 659, 3) := by decide +kernel
theorem dX16_queryOn_625 : decode cX16_queryOn 625 = .ok (.iconst 0, 1) := by decide +kernel
theorem dX16_queryOn_626 : decode cX16_queryOn 626 = .ok (.ireturn, 1) := by decide +kernel
def j_X16_queryOn_625 (V : VV) : Option (Int × VV) :=
  some (0, V)
def j_X16_queryOn_592 (x1 x4 y0 : Int) (V : VV) : Option (Int × VV) :=
  (l2 250 132 x4 V).bind fun v1 =>
  (f_X16_askFor x1 v1 251 (5 * x4) y0 V).bind fun r1 =>
  if w32 r1.1 = 0 then
    (f_X16_close x1 2 r1.2).bind fun V1 =>
    j_X16_queryOn_625 V1
  else
    j_X16_queryOn_625 r1.2
def j_X16_queryOn_570 (x1 x3 x4 : Int) (V : VV) : Option (Int × VV) :=
  if w32 x3 = w32 3 then
    j_X16_queryOn_592 x1 x4 9 V
  else
    if w32 x3 = w32 4 then
      j_X16_queryOn_592 x1 x4 11 V
    else
      j_X16_queryOn_592 x1 x4 13 V
def b_X16_queryOn_535 (x1 x3 x4 x6 x7 : Int) (V : VV) : Option ((Int × VV) ⊕ (Int × VV)) :=
  if w32 x7 < w32 x6 then
    (l2 224 30 x7 V).bind fun v1 =>
    (f_X16_bodyByte v1 V).bind fun V1 =>
    (l2 225 30 x7 V1).bind fun v2 =>
    (f_X16_bodyByte v2 V1).bind fun V2 =>
    cnt (x7 + 1, V2)
  else
    xit (j_X16_queryOn_570 x1 x3 x4 V)
def l_X16_queryOn_535 (x1 x3 x4 x6 x7 : Int) (V : VV) : Option (Int × VV) := lpN (fun s : Int × VV => b_X16_queryOn_535 x1 x3 x4 x6 s.1 s.2) FU (x7, V)
def j_X16_queryOn_489 (x1 x2 x3 x4 x5 x6 : Int) (V : VV) : Option (Int × VV) :=
  if w32 x5 = 0 then
    (f_X16_bodyKey 249 (5 * x4) V).bind fun V1 =>
    (f_X16_bodyByte x6 V1).bind fun V2 =>
    l_X16_queryOn_535 x1 x3 x4 x6 0 V2
  else
    (f_X16_findChecked x2 249 (5 * x4) V).bind fun V3 =>
    (f_X16_tookChecked x1 V3).bind fun V4 =>
    some (1, V4)
def b_X16_queryOn_422 (x1 x2 x3 x4 x5 x6 x7 : Int) (V : VV) : Option ((Int × VV) ⊕ (Int × VV)) :=
  if w32 x7 < w32 x6 then
    (l2 264 44 x1 V).bind fun v1 =>
    (l2 259 8800 (((200 * x1) + v1) + x7) V).bind fun v2 =>
    (s2 224 30 x7 v2 V).bind fun V1 =>
    (l2 264 44 x1 V1).bind fun v3 =>
    (l2 260 8800 (((200 * x1) + v3) + x7) V1).bind fun v4 =>
    (s2 225 30 x7 v4 V1).bind fun V2 =>
    cnt (x7 + 1, V2)
  else
    xit (j_X16_queryOn_489 x1 x2 x3 x4 x5 x6 V)
def l_X16_queryOn_422 (x1 x2 x3 x4 x5 x6 x7 : Int) (V : VV) : Option (Int × VV) := lpN (fun s : Int × VV => b_X16_queryOn_422 x1 x2 x3 x4 x5 x6 s.1 s.2) FU (x7, V)
def j_X16_queryOn_411 (x1 x2 x3 x4 x5 y0 : Int) (V : VV) : Option (Int × VV) :=
  (p2 88 y0 V).bind fun V1 =>
  l_X16_queryOn_422 x1 x2 x3 x4 x5 y0 0 V1
def j_X16_queryOn_372 (x1 x3 x4 : Int) (V : VV) : Option (Int × VV) :=
  j_X16_queryOn_570 x1 x3 x4 V
def b_X16_queryOn_338 (x1 x3 x4 x7 : Int) (V : VV) : Option ((Int × VV) ⊕ (Int × VV)) :=
  (l2 255 44 x1 V).bind fun v1 =>
  if w32 x7 < w32 v1 then
    (l2 257 12760 ((290 * x1) + x7) V).bind fun v2 =>
    (f_X16_bodyByte v2 V).bind fun V1 =>
    cnt (x7 + 1, V1)
  else
    xit (j_X16_queryOn_372 x1 x3 x4 V)
def l_X16_queryOn_338 (x1 x3 x4 x7 : Int) (V : VV) : Option (Int × VV) := lpN (fun s : Int × VV => b_X16_queryOn_338 x1 x3 x4 s.1 s.2) FU (x7, V)
def j_X16_queryOn_245 (x1 x2 x4 : Int) (V : VV) : Option (Int × VV) :=
  (l2 254 44 x1 V).bind fun v1 =>
  (f_X16_findMatches x2 249 (5 * x4) v1 V).bind fun V1 =>
  (f_X16_tookMatches x1 V1).bind fun V2 =>
  some (1, V2)
def b_X16_queryOn_210 (x1 x2 x4 x7 : Int) (V : VV) : Option ((Int × VV) ⊕ (Int × VV)) :=
  if w32 x7 < w32 (w32 (V 156 78)) then
    (l2 257 12760 ((290 * x1) + x7) V).bind fun v1 =>
    (s2 220 290 x7 v1 V).bind fun V1 =>
    cnt (x7 + 1, V1)
  else
    xit (j_X16_queryOn_245 x1 x2 x4 V)
def l_X16_queryOn_210 (x1 x2 x4 x7 : Int) (V : VV) : Option (Int × VV) := lpN (fun s : Int × VV => b_X16_queryOn_210 x1 x2 x4 s.1 s.2) FU (x7, V)
def j_X16_queryOn_184 (x1 x2 x3 x4 x5 y0 : Int) (V : VV) : Option (Int × VV) :=
  if w32 x5 = 0 then
    (f_X16_bodyKey 249 (5 * x4) V).bind fun V1 =>
    (l2 254 44 x1 V1).bind fun v1 =>
    (f_X16_bodyByte (bshr v1 8) V1).bind fun V2 =>
    (l2 254 44 x1 V2).bind fun v2 =>
    (f_X16_bodyByte v2 V2).bind fun V3 =>
    (f_X16_bodyByte y0 V3).bind fun V4 =>
    (l2 255 44 x1 V4).bind fun v3 =>
    (f_X16_bodyByte (bshr v3 8) V4).bind fun V5 =>
    (l2 255 44 x1 V5).bind fun v4 =>
    (f_X16_bodyByte v4 V5).bind fun V6 =>
    l_X16_queryOn_338 x1 x3 x4 0 V6
  else
    (l2 255 44 x1 V).bind fun v5 =>
    (p2 78 v5 V).bind fun V7 =>
    (p2 79 y0 V7).bind fun V8 =>
    l_X16_queryOn_210 x1 x2 x4 0 V8
def j_X16_queryOn_178 (x1 x2 x3 x4 x5 : Int) (V : VV) : Option (Int × VV) :=
  (l2 256 44 x1 V).bind fun v1 =>
  j_X16_queryOn_184 x1 x2 x3 x4 x5 v1 V
def j_X16_queryOn_77 (x1 x2 x3 y0 : Int) (V : VV) : Option (Int × VV) :=
  (f_X16_isOwn x1 251 (5 * y0) V).bind fun v1 =>
  (l2 231 44 x1 V).bind fun v2 =>
  (s2 231 44 x1 (v2 + 1) V).bind fun V1 =>
  if w32 x3 = w32 3 then
    if w32 v1 = 0 then
      (f_X16_bodyKey 249 (5 * y0) V1).bind fun V2 =>
      j_X16_queryOn_570 x1 x3 y0 V2
    else
      (f_X16_choose x2 249 (5 * y0) V1).bind fun V3 =>
      (f_X16_makeFilter V3).bind fun V4 =>
      (f_X16_tookBits x1 V4).bind fun V5 =>
      some (1, V5)
  else
    if w32 x3 = w32 4 then
      (l2 247 44 x1 V1).bind fun v7 =>
      if w32 v7 = w32 1 then
        (l2 162 11 9 V1).bind fun v8 =>
        j_X16_queryOn_184 x1 x2 x3 y0 v1 v8 V1
      else
        j_X16_queryOn_178 x1 x2 x3 y0 v1 V1
    else
      (l2 258 44 x1 V1).bind fun v3 =>
      (l2 264 44 x1 V1).bind fun v4 =>
      if w32 (v3 - v4) < w32 30 then
        (l2 258 44 x1 V1).bind fun v5 =>
        (l2 264 44 x1 V1).bind fun v6 =>
        j_X16_queryOn_411 x1 x2 x3 y0 v1 (v5 - v6) V1
      else
        j_X16_queryOn_411 x1 x2 x3 y0 v1 30 V1
def j_X16_queryOn_57 (x1 x2 x3 y1 y2 : Int) (V : VV) : Option (Int × VV) :=
  (l2 253 132 (y1 + y2) V).bind fun v1 =>
  j_X16_queryOn_77 x1 x2 x3 v1 V
def f_X16_queryOn (x1 : Int) (V : VV) : Option (Int × VV) :=
  (l2 228 44 x1 V).bind fun v1 =>
  (l2 230 44 x1 V).bind fun v2 =>
  if w32 v2 = w32 3 then
    (l2 253 132 (3 * x1) V).bind fun v6 =>
    j_X16_queryOn_77 x1 v1 v2 v6 V
  else
    if w32 v2 = w32 4 then
      (l2 247 44 x1 V).bind fun v5 =>
      if w32 v5 = w32 1 then
        j_X16_queryOn_57 x1 v1 v2 (3 * x1) 0 V
      else
        j_X16_queryOn_57 x1 v1 v2 (3 * x1) 1 V
    else
      (l2 263 44 x1 V).bind fun v3 =>
      (l2 253 132 ((3 * x1) + v3) V).bind fun v4 =>
      j_X16_queryOn_77 x1 v1 v2 v4 V
theorem s_X16_queryOn_625 {g : GG} {d : Nat} (hD : 6 ≤ d) {M : MM} (hM : LM M) {V : VV} {o : AV × MM} {P : (Int × VV) → Prop} (r0 : ∀ r : Int × VV, P r → o = ((0, r.1), (wr M r.2))) {z : Int × VV} (h : j_X16_queryOn_625 V = some z) (hz : P z) : Sem g d YX16_queryOn 625 [(9, 0), (9, 0), (9, 0), (9, 0), (9, 0), (9, 0), (9, 0), (9, 0)] [] (wr M V) o := by
  delta j_X16_queryOn_625 at h
  refine S_iconst dX16_queryOn_625 rfl ?_
  obtain rfl := r0 _ (some_P (P := fun r => P r) h hz)
  exact P_ret dX16_queryOn_626 rfl (Or.inr ⟨rfl, Or.inl rfl⟩)
theorem s_X16_queryOn_592 {g : GG} {d : Nat} (hD : 6 ≤ d) {x1 x4 y0 : Int} {M : MM} (hM : LM M) {V : VV} {o : AV × MM} {P : (Int × VV) → Prop} (r0 : ∀ r : Int × VV, P r → o = ((0, r.1), (wr M r.2))) {z : Int × VV} (h : j_X16_queryOn_592 x1 x4 y0 V = some z) (hz : P z) : Sem g d YX16_queryOn 592 [(1, 156), (0, x1), (9, 0), (9, 0), (0, x4), (9, 0), (9, 0), (9, 0)] [(0, y0)] (wr M V) o := by
  delta j_X16_queryOn_592 at h
  refine S_istore dX16_queryOn_592 (Nat.le_of_ble_eq_true rfl) rfl rfl ?_
  change Sem g d YX16_queryOn 594 [(1, 156), (0, x1), (9, 0), (9, 0), (0, x4), (9, 0), (0, y0), (9, 0)] [] (wr M V) o
  refine S_aload_n (i := 0) dX16_queryOn_594 rfl rfl ?_
  refine S_iload_n (i := 1) dX16_queryOn_595 rfl rfl ?_
  refine S_aload_n (i := 0) dX16_queryOn_596 rfl rfl ?_
  refine P2_gfr hM (a := 250) FLX16_297 rfl ⟨rfl, rfl⟩ dX16_queryOn_597 ?_
  refine S_iload dX16_queryOn_600 rfl ?_
  refine P2_lai hM (a := 250) (n := 132) rfl dX16_queryOn_602 h (fun v1 h => ?_)
  refine S_aload_n (i := 0) dX16_queryOn_603 rfl rfl ?_
  refine P2_gfr hM (a := 251) FLX16_300 rfl ⟨rfl, rfl⟩ dX16_queryOn_604 ?_
  refine S_iconst dX16_queryOn_607 rfl ?_
  refine S_iload dX16_queryOn_608 rfl ?_
  refine S_imul dX16_queryOn_610 ?_
  refine S_iload dX16_queryOn_611 rfl ?_
  refine P2_invVe hM 0 [(0, x1), (0, v1), (1, 251), (0, 5 * x4), (0, y0)] [] CVX16_askFor MLX16_637 dX16_queryOn_613 rfl rfl rfl rfl rfl (by omega) h (fun r h => F_X16_askFor (by omega) hM h) (fun r1 h => ?_)
  refine P_if_ne (tgt := 625) dX16_queryOn_616 rfl h (fun h => ?_) (fun h => ?_)
  · refine S_weak (ls' := [(9, 0), (9, 0), (9, 0), (9, 0), (9, 0), (9, 0), (9, 0), (9, 0)]) ⟨Or.inl rfl, ⟨Or.inl rfl, ⟨Or.inl rfl, ⟨Or.inl rfl, ⟨Or.inl rfl, ⟨Or.inl rfl, ⟨Or.inl rfl, ⟨Or.inl rfl, trivial⟩⟩⟩⟩⟩⟩⟩⟩ ?_
    exact s_X16_queryOn_625 hD hM r0 h hz
  · refine S_aload_n (i := 0) dX16_queryOn_619 rfl rfl ?_
    refine S_iload_n (i := 1) dX16_queryOn_620 rfl rfl ?_
    refine S_iconst dX16_queryOn_621 rfl ?_
    refine P2_invVm hM [(0, x1), (0, 2)] [] CVX16_close MLX16_659 dX16_queryOn_622 rfl rfl rfl rfl (by omega) h (fun r h => F_X16_close (by omega) hM h) (fun V1 h => ?_)
    refine S_weak (ls' := [(9, 0), (9, 0), (9, 0), (9, 0), (9, 0), (9, 0), (9, 0), (9, 0)]) ⟨Or.inl rfl, ⟨Or.inl rfl, ⟨Or.inl rfl, ⟨Or.inl rfl, ⟨Or.inl rfl, ⟨Or.inl rfl, ⟨Or.inl rfl, ⟨Or.inl rfl, trivial⟩⟩⟩⟩⟩⟩⟩⟩ ?_
    exact s_X16_queryOn_625 hD hM r0 h hz
theorem s_X16_queryOn_570 {g : GG} {d : Nat} (hD : 6 ≤ d) {x1 x3 x4 : Int} {M : MM} (hM : LM M) {V : VV} {o : AV × MM} {P : (Int × VV) → Prop} (r0 : ∀ r : Int × VV, P r → o = ((0, r.1), (wr M r.2))) {z : Int × VV} (h : j_X16_queryOn_570 x1 x3 x4 V = some z) (hz : P z) : Sem g d YX16_queryOn 570 [(1, 156), (0, x1), (9, 0), (0, x3), (0, x4), (9, 0), (9, 0), (9, 0)] [] (wr M V) o := by
  delta j_X16_queryOn_570 at h
  refine S_iload_n (i := 3) dX16_queryOn_570 rfl rfl ?_
  refine S_iconst dX16_queryOn_571 rfl ?_
  refine P_icmp_ne (tgt := 580) dX16_queryOn_572 rfl h (fun h => ?_) (fun h => ?_)
  · refine S_iload_n (i := 3) dX16_queryOn_580 rfl rfl ?_
    refine S_iconst dX16_queryOn_581 rfl ?_
    refine P_icmp_ne (tgt := 590) dX16_queryOn_582 rfl h (fun h => ?_) (fun h => ?_)
    · refine S_bipush (z := 13) dX16_queryOn_590 rfl ?_
      refine S_weak (ls' := [(1, 156), (0, x1), (9, 0), (9, 0), (0, x4), (9, 0), (9, 0), (9, 0)]) ⟨Or.inr rfl, ⟨Or.inr rfl, ⟨Or.inl rfl, ⟨Or.inl rfl, ⟨Or.inr rfl, ⟨Or.inl rfl, ⟨Or.inl rfl, ⟨Or.inl rfl, trivial⟩⟩⟩⟩⟩⟩⟩⟩ ?_
      exact s_X16_queryOn_592 hD hM r0 h hz
    · refine S_bipush (z := 11) dX16_queryOn_585 rfl ?_
      refine S_goto (tgt := 592) dX16_queryOn_587 rfl ?_
      refine S_weak (ls' := [(1, 156), (0, x1), (9, 0), (9, 0), (0, x4), (9, 0), (9, 0), (9, 0)]) ⟨Or.inr rfl, ⟨Or.inr rfl, ⟨Or.inl rfl, ⟨Or.inl rfl, ⟨Or.inr rfl, ⟨Or.inl rfl, ⟨Or.inl rfl, ⟨Or.inl rfl, trivial⟩⟩⟩⟩⟩⟩⟩⟩ ?_
      exact s_X16_queryOn_592 hD hM r0 h hz
  · refine S_bipush (z := 9) dX16_queryOn_575 rfl ?_
    refine S_goto (tgt := 592) dX16_queryOn_577 rfl ?_
    refine S_weak (ls' := [(1, 156), (0, x1), (9, 0), (9, 0), (0, x4), (9, 0), (9, 0), (9, 0)]) ⟨Or.inr rfl, ⟨Or.inr rfl, ⟨Or.inl rfl, ⟨Or.inl rfl, ⟨Or.inr rfl, ⟨Or.inl rfl, ⟨Or.inl rfl, ⟨Or.inl rfl, trivial⟩⟩⟩⟩⟩⟩⟩⟩ ?_
    exact s_X16_queryOn_592 hD hM r0 h hz
theorem s_X16_queryOn_535 {g : GG} {d : Nat} (hD : 6 ≤ d) {x1 x3 x4 x6 x7 : Int} {M : MM} (hM : LM M) {V : VV} {o : AV × MM} {P : ((Int × VV) ⊕ (Int × VV)) → Prop} (c0 : ∀ s : Int × VV, P (.inl s) → Sem g d YX16_queryOn 535 [(1, 156), (0, x1), (9, 0), (0, x3), (0, x4), (9, 0), (0, x6), (0, s.1)] [] (wr M s.2) o) (r0 : ∀ r : Int × VV, P (.inr r) → o = ((0, r.1), (wr M r.2))) {z : (Int × VV) ⊕ (Int × VV)} (h : b_X16_queryOn_535 x1 x3 x4 x6 x7 V = some z) (hz : P z) : Sem g d YX16_queryOn 535 [(1, 156), (0, x1), (9, 0), (0, x3), (0, x4), (9, 0), (0, x6), (0, x7)] [] (wr M V) o := by
  delta b_X16_queryOn_535 at h
  refine S_iload dX16_queryOn_535 rfl ?_
  refine S_iload dX16_queryOn_537 rfl ?_
  refine P_icmp_ge (tgt := 570) dX16_queryOn_539 rfl h (fun h => ?_) (fun h => ?_)
  · refine S_weak (ls' := [(1, 156), (0, x1), (9, 0), (0, x3), (0, x4), (9, 0), (9, 0), (9, 0)]) ⟨Or.inr rfl, ⟨Or.inr rfl, ⟨Or.inl rfl, ⟨Or.inr rfl, ⟨Or.inr rfl, ⟨Or.inl rfl, ⟨Or.inl rfl, ⟨Or.inl rfl, trivial⟩⟩⟩⟩⟩⟩⟩⟩ ?_
    obtain ⟨z0, h, hz⟩ := xit_some' (P := fun r => P r) h hz
    exact s_X16_queryOn_570 hD hM (P := fun r => P (.inr r)) r0 h hz
  · refine S_aload_n (i := 0) dX16_queryOn_542 rfl rfl ?_
    refine S_aload_n (i := 0) dX16_queryOn_543 rfl rfl ?_
    refine P2_gfr hM (a := 224) FLX16_219 rfl ⟨rfl, rfl⟩ dX16_queryOn_544 ?_
    refine S_iload dX16_queryOn_547 rfl ?_
    refine P2_lai hM (a := 224) (n := 30) rfl dX16_queryOn_549 h (fun v1 h => ?_)
    refine P2_invVm hM [(0, v1)] [] CVX16_bodyByte MLX16_547 dX16_queryOn_550 rfl rfl rfl rfl (by omega) h (fun r h => F_X16_bodyByte (by omega) hM h) (fun V1 h => ?_)
    refine S_aload_n (i := 0) dX16_queryOn_553 rfl rfl ?_
    refine S_aload_n (i := 0) dX16_queryOn_554 rfl rfl ?_
    refine P2_gfr hM (a := 225) FLX16_222 rfl ⟨rfl, rfl⟩ dX16_queryOn_555 ?_
    refine S_iload dX16_queryOn_558 rfl ?_
    refine P2_lai hM (a := 225) (n := 30) rfl dX16_queryOn_560 h (fun v2 h => ?_)
    refine P2_invVm hM [(0, v2)] [] CVX16_bodyByte MLX16_547 dX16_queryOn_561 rfl rfl rfl rfl (by omega) h (fun r h => F_X16_bodyByte (by omega) hM h) (fun V2 h => ?_)
    refine S_iinc dX16_queryOn_564 rfl rfl rfl ?_
    change Sem g d YX16_queryOn 567 [(1, 156), (0, x1), (9, 0), (0, x3), (0, x4), (9, 0), (0, x6), (0, x7 + 1)] [] (wr M V2) o
    refine S_goto (tgt := 535) dX16_queryOn_567 rfl ?_
    exact c0 (x7 + 1, V2) (some_P (P := fun r => P r) h hz)
theorem sl_X16_queryOn_535 {g : GG} {d : Nat} (hD : 6 ≤ d) {x1 x3 x4 x6 x7 : Int} {M : MM} (hM : LM M) {V : VV} {o : AV × MM} {P : (Int × VV) → Prop} (r0 : ∀ r : Int × VV, P r → o = ((0, r.1), (wr M r.2))) {z : Int × VV} (h : l_X16_queryOn_535 x1 x3 x4 x6 x7 V = some z) (hz : P z) : Sem g d YX16_queryOn 535 [(1, 156), (0, x1), (9, 0), (0, x3), (0, x4), (9, 0), (0, x6), (0, x7)] [] (wr M V) o := by
  refine lp_sound (S := fun s : Int × VV => Sem g d YX16_queryOn 535 [(1, 156), (0, x1), (9, 0), (0, x3), (0, x4), (9, 0), (0, x6), (0, s.1)] [] (wr M s.2) o) (P := P) ?_ FU (x7, V) z h hz
  intro s x hx hP
  exact s_X16_queryOn_535 hD hM (P := Sum.elim (fun s : Int × VV => Sem g d YX16_queryOn 535 [(1, 156), (0, x1), (9, 0), (0, x3), (0, x4), (9, 0), (0, x6), (0, s.1)] [] (wr M s.2) o) P) (fun s h => h) (fun s h => r0 s h) hx hP
theorem s_X16_queryOn_489 {g : GG} {d : Nat} (hD : 6 ≤ d) {x1 x2 x3 x4 x5 x6 : Int} {M : MM} (hM : LM M) {V : VV} {o : AV × MM} {P : (Int × VV) → Prop} (r0 : ∀ r : Int × VV, P r → o = ((0, r.1), (wr M r.2))) {z : Int × VV} (h : j_X16_queryOn_489 x1 x2 x3 x4 x5 x6 V = some z) (hz : P z) : Sem g d YX16_queryOn 489 [(1, 156), (0, x1), (0, x2), (0, x3), (0, x4), (0, x5), (0, x6), (9, 0)] [] (wr M V) o := by
  delta j_X16_queryOn_489 at h
  refine S_iload dX16_queryOn_489 rfl ?_
  refine P_if_eq (tgt := 514) dX16_queryOn_491 rfl h (fun h => ?_) (fun h => ?_)
  · refine S_aload_n (i := 0) dX16_queryOn_514 rfl rfl ?_
    refine S_aload_n (i := 0) dX16_queryOn_515 rfl rfl ?_
    refine P2_gfr hM (a := 249) FLX16_294 rfl ⟨rfl, rfl⟩ dX16_queryOn_516 ?_
    refine S_iconst dX16_queryOn_519 rfl ?_
    refine S_iload dX16_queryOn_520 rfl ?_
    refine S_imul dX16_queryOn_522 ?_
    refine P2_invVm hM [(1, 249), (0, 5 * x4)] [] CVX16_bodyKey MLX16_634 dX16_queryOn_523 rfl rfl rfl rfl (by omega) h (fun r h => F_X16_bodyKey (by omega) hM h) (fun V1 h => ?_)
    refine S_aload_n (i := 0) dX16_queryOn_526 rfl rfl ?_
    refine S_iload dX16_queryOn_527 rfl ?_
    refine P2_invVm hM [(0, x6)] [] CVX16_bodyByte MLX16_547 dX16_queryOn_529 rfl rfl rfl rfl (by omega) h (fun r h => F_X16_bodyByte (by omega) hM h) (fun V2 h => ?_)
    refine S_iconst dX16_queryOn_532 rfl ?_
    refine S_istore dX16_queryOn_533 (Nat.le_of_ble_eq_true rfl) rfl rfl ?_
    change Sem g d YX16_queryOn 535 [(1, 156), (0, x1), (0, x2), (0, x3), (0, x4), (0, x5), (0, x6), (0, 0)] [] (wr M V2) o
    refine S_weak (ls' := [(1, 156), (0, x1), (9, 0), (0, x3), (0, x4), (9, 0), (0, x6), (0, 0)]) ⟨Or.inr rfl, ⟨Or.inr rfl, ⟨Or.inl rfl, ⟨Or.inr rfl, ⟨Or.inr rfl, ⟨Or.inl rfl, ⟨Or.inr rfl, ⟨Or.inr rfl, trivial⟩⟩⟩⟩⟩⟩⟩⟩ ?_
    exact sl_X16_queryOn_535 hD hM r0 h hz
  · refine S_aload_n (i := 0) dX16_queryOn_494 rfl rfl ?_
    refine S_iload_n (i := 2) dX16_queryOn_495 rfl rfl ?_
    refine S_aload_n (i := 0) dX16_queryOn_496 rfl rfl ?_
    refine P2_gfr hM (a := 249) FLX16_294 rfl ⟨rfl, rfl⟩ dX16_queryOn_497 ?_
    refine S_iconst dX16_queryOn_500 rfl ?_
    refine S_iload dX16_queryOn_501 rfl ?_
    refine S_imul dX16_queryOn_503 ?_
    refine P2_invVm hM [(0, x2), (1, 249), (0, 5 * x4)] [] CVX16_findChecked MLX16_702 dX16_queryOn_504 rfl rfl rfl rfl (by omega) h (fun r h => F_X16_findChecked (by omega) hM h) (fun V3 h => ?_)
    refine S_aload_n (i := 0) dX16_queryOn_507 rfl rfl ?_
    refine S_iload_n (i := 1) dX16_queryOn_508 rfl rfl ?_
    refine P2_invVm hM [(0, x1)] [] CVX16_tookChecked MLX16_705 dX16_queryOn_509 rfl rfl rfl rfl (by omega) h (fun r h => F_X16_tookChecked (by omega) hM h) (fun V4 h => ?_)
    refine S_iconst dX16_queryOn_512 rfl ?_
    obtain rfl := r0 _ (some_P (P := fun r => P r) h hz)
    exact P_ret dX16_queryOn_513 rfl (Or.inr ⟨rfl, Or.inr rfl⟩)
theorem s_X16_queryOn_422 {g : GG} {d : Nat} (hD : 6 ≤ d) {x1 x2 x3 x4 x5 x6 x7 : Int} {M : MM} (hM : LM M) {V : VV} {o : AV × MM} {P : ((Int × VV) ⊕ (Int × VV)) → Prop} (c0 : ∀ s : Int × VV, P (.inl s) → Sem g d YX16_queryOn 422 [(1, 156), (0, x1), (0, x2), (0, x3), (0, x4), (0, x5), (0, x6), (0, s.1)] [] (wr M s.2) o) (r0 : ∀ r : Int × VV, P (.inr r) → o = ((0, r.1), (wr M r.2))) {z : (Int × VV) ⊕ (Int × VV)} (h : b_X16_queryOn_422 x1 x2 x3 x4 x5 x6 x7 V = some z) (hz : P z) : Sem g d YX16_queryOn 422 [(1, 156), (0, x1), (0, x2), (0, x3), (0, x4), (0, x5), (0, x6), (0, x7)] [] (wr M V) o := by
  delta b_X16_queryOn_422 at h
  refine S_iload dX16_queryOn_422 rfl ?_
  refine S_iload dX16_queryOn_424 rfl ?_
  refine P_icmp_ge (tgt := 489) dX16_queryOn_426 rfl h (fun h => ?_) (fun h => ?_)
  · refine S_weak (ls' := [(1, 156), (0, x1), (0, x2), (0, x3), (0, x4), (0, x5), (0, x6), (9, 0)]) ⟨Or.inr rfl, ⟨Or.inr rfl, ⟨Or.inr rfl, ⟨Or.inr rfl, ⟨Or.inr rfl, ⟨Or.inr rfl, ⟨Or.inr rfl, ⟨Or.inl rfl, trivial⟩⟩⟩⟩⟩⟩⟩⟩ ?_
    obtain ⟨z0, h, hz⟩ := xit_some' (P := fun r => P r) h hz
    exact s_X16_queryOn_489 hD hM (P := fun r => P (.inr r)) r0 h hz
  · refine S_aload_n (i := 0) dX16_queryOn_429 rfl rfl ?_
    refine P2_gfr hM (a := 224) FLX16_219 rfl ⟨rfl, rfl⟩ dX16_queryOn_430 ?_
    refine S_iload dX16_queryOn_433 rfl ?_
    refine S_aload_n (i := 0) dX16_queryOn_435 rfl rfl ?_
    refine P2_gfr hM (a := 259) FLX16_324 rfl ⟨rfl, rfl⟩ dX16_queryOn_436 ?_
    refine S_sipush (z := 200) dX16_queryOn_439 rfl ?_
    refine S_iload_n (i := 1) dX16_queryOn_442 rfl rfl ?_
    refine S_imul dX16_queryOn_443 ?_
    refine S_aload_n (i := 0) dX16_queryOn_444 rfl rfl ?_
    refine P2_gfr hM (a := 264) FLX16_339 rfl ⟨rfl, rfl⟩ dX16_queryOn_445 ?_
    refine S_iload_n (i := 1) dX16_queryOn_448 rfl rfl ?_
    refine P2_lai hM (a := 264) (n := 44) rfl dX16_queryOn_449 h (fun v1 h => ?_)
    refine S_iadd dX16_queryOn_450 ?_
    refine S_iload dX16_queryOn_451 rfl ?_
    refine S_iadd dX16_queryOn_453 ?_
    refine P2_lai hM (a := 259) (n := 8800) rfl dX16_queryOn_454 h (fun v2 h => ?_)
    refine P2_sai hM (a := 224) (n := 30) rfl dX16_queryOn_455 h (fun V1 h => ?_)
    refine S_aload_n (i := 0) dX16_queryOn_456 rfl rfl ?_
    refine P2_gfr hM (a := 225) FLX16_222 rfl ⟨rfl, rfl⟩ dX16_queryOn_457 ?_
    refine S_iload dX16_queryOn_460 rfl ?_
    refine S_aload_n (i := 0) dX16_queryOn_462 rfl rfl ?_
    refine P2_gfr hM (a := 260) FLX16_327 rfl ⟨rfl, rfl⟩ dX16_queryOn_463 ?_
    refine S_sipush (z := 200) dX16_queryOn_466 rfl ?_
    refine S_iload_n (i := 1) dX16_queryOn_469 rfl rfl ?_
    refine S_imul dX16_queryOn_470 ?_
    refine S_aload_n (i := 0) dX16_queryOn_471 rfl rfl ?_
    refine P2_gfr hM (a := 264) FLX16_339 rfl ⟨rfl, rfl⟩ dX16_queryOn_472 ?_
    refine S_iload_n (i := 1) dX16_queryOn_475 rfl rfl ?_
    refine P2_lai hM (a := 264) (n := 44) rfl dX16_queryOn_476 h (fun v3 h => ?_)
    refine S_iadd dX16_queryOn_477 ?_
    refine S_iload dX16_queryOn_478 rfl ?_
    refine S_iadd dX16_queryOn_480 ?_
    refine P2_lai hM (a := 260) (n := 8800) rfl dX16_queryOn_481 h (fun v4 h => ?_)
    refine P2_sai hM (a := 225) (n := 30) rfl dX16_queryOn_482 h (fun V2 h => ?_)
    refine S_iinc dX16_queryOn_483 rfl rfl rfl ?_
    change Sem g d YX16_queryOn 486 [(1, 156), (0, x1), (0, x2), (0, x3), (0, x4), (0, x5), (0, x6), (0, x7 + 1)] [] (wr M V2) o
    refine S_goto (tgt := 422) dX16_queryOn_486 rfl ?_
    exact c0 (x7 + 1, V2) (some_P (P := fun r => P r) h hz)
theorem sl_X16_queryOn_422 {g : GG} {d : Nat} (hD : 6 ≤ d) {x1 x2 x3 x4 x5 x6 x7 : Int} {M : MM} (hM : LM M) {V : VV} {o : AV × MM} {P : (Int × VV) → Prop} (r0 : ∀ r : Int × VV, P r → o = ((0, r.1), (wr M r.2))) {z : Int × VV} (h : l_X16_queryOn_422 x1 x2 x3 x4 x5 x6 x7 V = some z) (hz : P z) : Sem g d YX16_queryOn 422 [(1, 156), (0, x1), (0, x2), (0, x3), (0, x4), (0, x5), (0, x6), (0, x7)] [] (wr M V) o := by
  refine lp_sound (S := fun s : Int × VV => Sem g d YX16_queryOn 422 [(1, 156), (0, x1), (0, x2), (0, x3), (0, x4), (0, x5), (0, x6), (0, s.1)] [] (wr M s.2) o) (P := P) ?_ FU (x7, V) z h hz
  intro s x hx hP
  exact s_X16_queryOn_422 hD hM (P := Sum.elim (fun s : Int × VV => Sem g d YX16_queryOn 422 [(1, 156), (0, x1), (0, x2), (0, x3), (0, x4), (0, x5), (0, x6), (0, s.1)] [] (wr M s.2) o) P) (fun s h => h) (fun s h => r0 s h) hx hP
theorem s_X16_queryOn_411 {g : GG} {d : Nat} (hD : 6 ≤ d) {x1 x2 x3 x4 x5 y0 : Int} {M : MM} (hM : LM M) {V : VV} {o : AV × MM} {P : (Int × VV) → Prop} (r0 : ∀ r : Int × VV, P r → o = ((0, r.1), (wr M r.2))) {z : Int × VV} (h : j_X16_queryOn_411 x1 x2 x3 x4 x5 y0 V = some z) (hz : P z) : Sem g d YX16_queryOn 411 [(1, 156), (0, x1), (0, x2), (0, x3), (0, x4), (0, x5), (9, 0), (9, 0)] [(0, y0)] (wr M V) o := by
  delta j_X16_queryOn_411 at h
  refine S_istore dX16_queryOn_411 (Nat.le_of_ble_eq_true rfl) rfl rfl ?_
  change Sem g d YX16_queryOn 413 [(1, 156), (0, x1), (0, x2), (0, x3), (0, x4), (0, x5), (0, y0), (9, 0)] [] (wr M V) o
  refine S_aload_n (i := 0) dX16_queryOn_413 rfl rfl ?_
  refine S_iload dX16_queryOn_414 rfl ?_
  refine P2_pfi hM FLX16_612 FPX16_612 rfl dX16_queryOn_416 h (fun V1 h => ?_)
  refine S_iconst dX16_queryOn_419 rfl ?_
  refine S_istore dX16_queryOn_420 (Nat.le_of_ble_eq_true rfl) rfl rfl ?_
  change Sem g d YX16_queryOn 422 [(1, 156), (0, x1), (0, x2), (0, x3), (0, x4), (0, x5), (0, y0), (0, 0)] [] (wr M V1) o
  exact sl_X16_queryOn_422 hD hM r0 h hz
theorem s_X16_queryOn_372 {g : GG} {d : Nat} (hD : 6 ≤ d) {x1 x3 x4 : Int} {M : MM} (hM : LM M) {V : VV} {o : AV × MM} {P : (Int × VV) → Prop} (r0 : ∀ r : Int × VV, P r → o = ((0, r.1), (wr M r.2))) {z : Int × VV} (h : j_X16_queryOn_372 x1 x3 x4 V = some z) (hz : P z) : Sem g d YX16_queryOn 372 [(1, 156), (0, x1), (9, 0), (0, x3), (0, x4), (9, 0), (9, 0), (9, 0)] [] (wr M V) o := by
  delta j_X16_queryOn_372 at h
  refine S_goto (tgt := 570) dX16_queryOn_372 rfl ?_
  exact s_X16_queryOn_570 hD hM r0 h hz
theorem s_X16_queryOn_338 {g : GG} {d : Nat} (hD : 6 ≤ d) {x1 x3 x4 x7 : Int} {M : MM} (hM : LM M) {V : VV} {o : AV × MM} {P : ((Int × VV) ⊕ (Int × VV)) → Prop} (c0 : ∀ s : Int × VV, P (.inl s) → Sem g d YX16_queryOn 338 [(1, 156), (0, x1), (9, 0), (0, x3), (0, x4), (9, 0), (9, 0), (0, s.1)] [] (wr M s.2) o) (r0 : ∀ r : Int × VV, P (.inr r) → o = ((0, r.1), (wr M r.2))) {z : (Int × VV) ⊕ (Int × VV)} (h : b_X16_queryOn_338 x1 x3 x4 x7 V = some z) (hz : P z) : Sem g d YX16_queryOn 338 [(1, 156), (0, x1), (9, 0), (0, x3), (0, x4), (9, 0), (9, 0), (0, x7)] [] (wr M V) o := by
  delta b_X16_queryOn_338 at h
  refine S_iload dX16_queryOn_338 rfl ?_
  refine S_aload_n (i := 0) dX16_queryOn_340 rfl rfl ?_
  refine P2_gfr hM (a := 255) FLX16_312 rfl ⟨rfl, rfl⟩ dX16_queryOn_341 ?_
  refine S_iload_n (i := 1) dX16_queryOn_344 rfl rfl ?_
  refine P2_lai hM (a := 255) (n := 44) rfl dX16_queryOn_345 h (fun v1 h => ?_)
  refine P_icmp_ge (tgt := 372) dX16_queryOn_346 rfl h (fun h => ?_) (fun h => ?_)
  · refine S_weak (ls' := [(1, 156), (0, x1), (9, 0), (0, x3), (0, x4), (9, 0), (9, 0), (9, 0)]) ⟨Or.inr rfl, ⟨Or.inr rfl, ⟨Or.inl rfl, ⟨Or.inr rfl, ⟨Or.inr rfl, ⟨Or.inl rfl, ⟨Or.inl rfl, ⟨Or.inl rfl, trivial⟩⟩⟩⟩⟩⟩⟩⟩ ?_
    obtain ⟨z0, h, hz⟩ := xit_some' (P := fun r => P r) h hz
    exact s_X16_queryOn_372 hD hM (P := fun r => P (.inr r)) r0 h hz
  · refine S_aload_n (i := 0) dX16_queryOn_349 rfl rfl ?_
    refine S_aload_n (i := 0) dX16_queryOn_350 rfl rfl ?_
    refine P2_gfr hM (a := 257) FLX16_318 rfl ⟨rfl, rfl⟩ dX16_queryOn_351 ?_
    refine S_sipush (z := 290) dX16_queryOn_354 rfl ?_
    refine S_iload_n (i := 1) dX16_queryOn_357 rfl rfl ?_
    refine S_imul dX16_queryOn_358 ?_
    refine S_iload dX16_queryOn_359 rfl ?_
    refine S_iadd dX16_queryOn_361 ?_
    refine P2_lai hM (a := 257) (n := 12760) rfl dX16_queryOn_362 h (fun v2 h => ?_)
    refine P2_invVm hM [(0, v2)] [] CVX16_bodyByte MLX16_547 dX16_queryOn_363 rfl rfl rfl rfl (by omega) h (fun r h => F_X16_bodyByte (by omega) hM h) (fun V1 h => ?_)
    refine S_iinc dX16_queryOn_366 rfl rfl rfl ?_
    change Sem g d YX16_queryOn 369 [(1, 156), (0, x1), (9, 0), (0, x3), (0, x4), (9, 0), (9, 0), (0, x7 + 1)] [] (wr M V1) o
    refine S_goto (tgt := 338) dX16_queryOn_369 rfl ?_
    exact c0 (x7 + 1, V1) (some_P (P := fun r => P r) h hz)
theorem sl_X16_queryOn_338 {g : GG} {d : Nat} (hD : 6 ≤ d) {x1 x3 x4 x7 : Int} {M : MM} (hM : LM M) {V : VV} {o : AV × MM} {P : (Int × VV) → Prop} (r0 : ∀ r : Int × VV, P r → o = ((0, r.1), (wr M r.2))) {z : Int × VV} (h : l_X16_queryOn_338 x1 x3 x4 x7 V = some z) (hz : P z) : Sem g d YX16_queryOn 338 [(1, 156), (0, x1), (9, 0), (0, x3), (0, x4), (9, 0), (9, 0), (0, x7)] [] (wr M V) o := by
  refine lp_sound (S := fun s : Int × VV => Sem g d YX16_queryOn 338 [(1, 156), (0, x1), (9, 0), (0, x3), (0, x4), (9, 0), (9, 0), (0, s.1)] [] (wr M s.2) o) (P := P) ?_ FU (x7, V) z h hz
  intro s x hx hP
  exact s_X16_queryOn_338 hD hM (P := Sum.elim (fun s : Int × VV => Sem g d YX16_queryOn 338 [(1, 156), (0, x1), (9, 0), (0, x3), (0, x4), (9, 0), (9, 0), (0, s.1)] [] (wr M s.2) o) P) (fun s h => h) (fun s h => r0 s h) hx hP
theorem s_X16_queryOn_245 {g : GG} {d : Nat} (hD : 6 ≤ d) {x1 x2 x4 : Int} {M : MM} (hM : LM M) {V : VV} {o : AV × MM} {P : (Int × VV) → Prop} (r0 : ∀ r : Int × VV, P r → o = ((0, r.1), (wr M r.2))) {z : Int × VV} (h : j_X16_queryOn_245 x1 x2 x4 V = some z) (hz : P z) : Sem g d YX16_queryOn 245 [(1, 156), (0, x1), (0, x2), (9, 0), (0, x4), (9, 0), (9, 0), (9, 0)] [] (wr M V) o := by
  delta j_X16_queryOn_245 at h
  refine S_aload_n (i := 0) dX16_queryOn_245 rfl rfl ?_
  refine S_iload_n (i := 2) dX16_queryOn_246 rfl rfl ?_
  refine S_aload_n (i := 0) dX16_queryOn_247 rfl rfl ?_
  refine P2_gfr hM (a := 249) FLX16_294 rfl ⟨rfl, rfl⟩ dX16_queryOn_248 ?_
  refine S_iconst dX16_queryOn_251 rfl ?_
  refine S_iload dX16_queryOn_252 rfl ?_
  refine S_imul dX16_queryOn_254 ?_
  refine S_aload_n (i := 0) dX16_queryOn_255 rfl rfl ?_
  refine P2_gfr hM (a := 254) FLX16_309 rfl ⟨rfl, rfl⟩ dX16_queryOn_256 ?_
  refine S_iload_n (i := 1) dX16_queryOn_259 rfl rfl ?_
  refine P2_lai hM (a := 254) (n := 44) rfl dX16_queryOn_260 h (fun v1 h => ?_)
  refine P2_invVm hM [(0, x2), (1, 249), (0, 5 * x4), (0, v1)] [] CVX16_findMatches MLX16_695 dX16_queryOn_261 rfl rfl rfl rfl (by omega) h (fun r h => F_X16_findMatches (by omega) hM h) (fun V1 h => ?_)
  refine S_aload_n (i := 0) dX16_queryOn_264 rfl rfl ?_
  refine S_iload_n (i := 1) dX16_queryOn_265 rfl rfl ?_
  refine P2_invVm hM [(0, x1)] [] CVX16_tookMatches MLX16_699 dX16_queryOn_266 rfl rfl rfl rfl (by omega) h (fun r h => F_X16_tookMatches (by omega) hM h) (fun V2 h => ?_)
  refine S_iconst dX16_queryOn_269 rfl ?_
  obtain rfl := r0 _ (some_P (P := fun r => P r) h hz)
  exact P_ret dX16_queryOn_270 rfl (Or.inr ⟨rfl, Or.inr rfl⟩)
theorem s_X16_queryOn_210 {g : GG} {d : Nat} (hD : 6 ≤ d) {x1 x2 x4 x7 : Int} {M : MM} (hM : LM M) {V : VV} {o : AV × MM} {P : ((Int × VV) ⊕ (Int × VV)) → Prop} (c0 : ∀ s : Int × VV, P (.inl s) → Sem g d YX16_queryOn 210 [(1, 156), (0, x1), (0, x2), (9, 0), (0, x4), (9, 0), (9, 0), (0, s.1)] [] (wr M s.2) o) (r0 : ∀ r : Int × VV, P (.inr r) → o = ((0, r.1), (wr M r.2))) {z : (Int × VV) ⊕ (Int × VV)} (h : b_X16_queryOn_210 x1 x2 x4 x7 V = some z) (hz : P z) : Sem g d YX16_queryOn 210 [(1, 156), (0, x1), (0, x2), (9, 0), (0, x4), (9, 0), (9, 0), (0, x7)] [] (wr M V) o := by
  delta b_X16_queryOn_210 at h
  refine S_iload dX16_queryOn_210 rfl ?_
  refine S_aload_n (i := 0) dX16_queryOn_212 rfl rfl ?_
  refine P2_gfi hM FLX16_586 rfl dX16_queryOn_213 ?_
  refine P_icmp_ge (tgt := 245) dX16_queryOn_216 rfl h (fun h => ?_) (fun h => ?_)
  · refine S_weak (ls' := [(1, 156), (0, x1), (0, x2), (9, 0), (0, x4), (9, 0), (9, 0), (9, 0)]) ⟨Or.inr rfl, ⟨Or.inr rfl, ⟨Or.inr rfl, ⟨Or.inl rfl, ⟨Or.inr rfl, ⟨Or.inl rfl, ⟨Or.inl rfl, ⟨Or.inl rfl, trivial⟩⟩⟩⟩⟩⟩⟩⟩ ?_
    obtain ⟨z0, h, hz⟩ := xit_some' (P := fun r => P r) h hz
    exact s_X16_queryOn_245 hD hM (P := fun r => P (.inr r)) r0 h hz
  · refine S_aload_n (i := 0) dX16_queryOn_219 rfl rfl ?_
    refine P2_gfr hM (a := 220) FLX16_207 rfl ⟨rfl, rfl⟩ dX16_queryOn_220 ?_
    refine S_iload dX16_queryOn_223 rfl ?_
    refine S_aload_n (i := 0) dX16_queryOn_225 rfl rfl ?_
    refine P2_gfr hM (a := 257) FLX16_318 rfl ⟨rfl, rfl⟩ dX16_queryOn_226 ?_
    refine S_sipush (z := 290) dX16_queryOn_229 rfl ?_
    refine S_iload_n (i := 1) dX16_queryOn_232 rfl rfl ?_
    refine S_imul dX16_queryOn_233 ?_
    refine S_iload dX16_queryOn_234 rfl ?_
    refine S_iadd dX16_queryOn_236 ?_
    refine P2_lai hM (a := 257) (n := 12760) rfl dX16_queryOn_237 h (fun v1 h => ?_)
    refine P2_sai hM (a := 220) (n := 290) rfl dX16_queryOn_238 h (fun V1 h => ?_)
    refine S_iinc dX16_queryOn_239 rfl rfl rfl ?_
    change Sem g d YX16_queryOn 242 [(1, 156), (0, x1), (0, x2), (9, 0), (0, x4), (9, 0), (9, 0), (0, x7 + 1)] [] (wr M V1) o
    refine S_goto (tgt := 210) dX16_queryOn_242 rfl ?_
    exact c0 (x7 + 1, V1) (some_P (P := fun r => P r) h hz)
theorem sl_X16_queryOn_210 {g : GG} {d : Nat} (hD : 6 ≤ d) {x1 x2 x4 x7 : Int} {M : MM} (hM : LM M) {V : VV} {o : AV × MM} {P : (Int × VV) → Prop} (r0 : ∀ r : Int × VV, P r → o = ((0, r.1), (wr M r.2))) {z : Int × VV} (h : l_X16_queryOn_210 x1 x2 x4 x7 V = some z) (hz : P z) : Sem g d YX16_queryOn 210 [(1, 156), (0, x1), (0, x2), (9, 0), (0, x4), (9, 0), (9, 0), (0, x7)] [] (wr M V) o := by
  refine lp_sound (S := fun s : Int × VV => Sem g d YX16_queryOn 210 [(1, 156), (0, x1), (0, x2), (9, 0), (0, x4), (9, 0), (9, 0), (0, s.1)] [] (wr M s.2) o) (P := P) ?_ FU (x7, V) z h hz
  intro s x hx hP
  exact s_X16_queryOn_210 hD hM (P := Sum.elim (fun s : Int × VV => Sem g d YX16_queryOn 210 [(1, 156), (0, x1), (0, x2), (9, 0), (0, x4), (9, 0), (9, 0), (0, s.1)] [] (wr M s.2) o) P) (fun s h => h) (fun s h => r0 s h) hx hP
theorem s_X16_queryOn_184 {g : GG} {d : Nat} (hD : 6 ≤ d) {x1 x2 x3 x4 x5 y0 : Int} {M : MM} (hM : LM M) {V : VV} {o : AV × MM} {P : (Int × VV) → Prop} (r0 : ∀ r : Int × VV, P r → o = ((0, r.1), (wr M r.2))) {z : Int × VV} (h : j_X16_queryOn_184 x1 x2 x3 x4 x5 y0 V = some z) (hz : P z) : Sem g d YX16_queryOn 184 [(1, 156), (0, x1), (0, x2), (0, x3), (0, x4), (0, x5), (9, 0), (9, 0)] [(0, y0)] (wr M V) o := by
  delta j_X16_queryOn_184 at h
  refine S_istore dX16_queryOn_184 (Nat.le_of_ble_eq_true rfl) rfl rfl ?_
  change Sem g d YX16_queryOn 186 [(1, 156), (0, x1), (0, x2), (0, x3), (0, x4), (0, x5), (0, y0), (9, 0)] [] (wr M V) o
  refine S_iload dX16_queryOn_186 rfl ?_
  refine P_if_eq (tgt := 271) dX16_queryOn_188 rfl h (fun h => ?_) (fun h => ?_)
  · refine S_aload_n (i := 0) dX16_queryOn_271 rfl rfl ?_
    refine S_aload_n (i := 0) dX16_queryOn_272 rfl rfl ?_
    refine P2_gfr hM (a := 249) FLX16_294 rfl ⟨rfl, rfl⟩ dX16_queryOn_273 ?_
    refine S_iconst dX16_queryOn_276 rfl ?_
    refine S_iload dX16_queryOn_277 rfl ?_
    refine S_imul dX16_queryOn_279 ?_
    refine P2_invVm hM [(1, 249), (0, 5 * x4)] [] CVX16_bodyKey MLX16_634 dX16_queryOn_280 rfl rfl rfl rfl (by omega) h (fun r h => F_X16_bodyKey (by omega) hM h) (fun V1 h => ?_)
    refine S_aload_n (i := 0) dX16_queryOn_283 rfl rfl ?_
    refine S_aload_n (i := 0) dX16_queryOn_284 rfl rfl ?_
    refine P2_gfr hM (a := 254) FLX16_309 rfl ⟨rfl, rfl⟩ dX16_queryOn_285 ?_
    refine S_iload_n (i := 1) dX16_queryOn_288 rfl rfl ?_
    refine P2_lai hM (a := 254) (n := 44) rfl dX16_queryOn_289 h (fun v1 h => ?_)
    refine S_bipush (z := 8) dX16_queryOn_290 rfl ?_
    refine S_ishr dX16_queryOn_292 ?_
    refine P2_invVm hM [(0, bshr v1 8)] [] CVX16_bodyByte MLX16_547 dX16_queryOn_293 rfl rfl rfl rfl (by omega) h (fun r h => F_X16_bodyByte (by omega) hM h) (fun V2 h => ?_)
    refine S_aload_n (i := 0) dX16_queryOn_296 rfl rfl ?_
    refine S_aload_n (i := 0) dX16_queryOn_297 rfl rfl ?_
    refine P2_gfr hM (a := 254) FLX16_309 rfl ⟨rfl, rfl⟩ dX16_queryOn_298 ?_
    refine S_iload_n (i := 1) dX16_queryOn_301 rfl rfl ?_
    refine P2_lai hM (a := 254) (n := 44) rfl dX16_queryOn_302 h (fun v2 h => ?_)
    refine P2_invVm hM [(0, v2)] [] CVX16_bodyByte MLX16_547 dX16_queryOn_303 rfl rfl rfl rfl (by omega) h (fun r h => F_X16_bodyByte (by omega) hM h) (fun V3 h => ?_)
    refine S_aload_n (i := 0) dX16_queryOn_306 rfl rfl ?_
    refine S_iload dX16_queryOn_307 rfl ?_
    refine P2_invVm hM [(0, y0)] [] CVX16_bodyByte MLX16_547 dX16_queryOn_309 rfl rfl rfl rfl (by omega) h (fun r h => F_X16_bodyByte (by omega) hM h) (fun V4 h => ?_)
    refine S_aload_n (i := 0) dX16_queryOn_312 rfl rfl ?_
    refine S_aload_n (i := 0) dX16_queryOn_313 rfl rfl ?_
    refine P2_gfr hM (a := 255) FLX16_312 rfl ⟨rfl, rfl⟩ dX16_queryOn_314 ?_
    refine S_iload_n (i := 1) dX16_queryOn_317 rfl rfl ?_
    refine P2_lai hM (a := 255) (n := 44) rfl dX16_queryOn_318 h (fun v3 h => ?_)
    refine S_bipush (z := 8) dX16_queryOn_319 rfl ?_
    refine S_ishr dX16_queryOn_321 ?_
    refine P2_invVm hM [(0, bshr v3 8)] [] CVX16_bodyByte MLX16_547 dX16_queryOn_322 rfl rfl rfl rfl (by omega) h (fun r h => F_X16_bodyByte (by omega) hM h) (fun V5 h => ?_)
    refine S_aload_n (i := 0) dX16_queryOn_325 rfl rfl ?_
    refine S_aload_n (i := 0) dX16_queryOn_326 rfl rfl ?_
    refine P2_gfr hM (a := 255) FLX16_312 rfl ⟨rfl, rfl⟩ dX16_queryOn_327 ?_
    refine S_iload_n (i := 1) dX16_queryOn_330 rfl rfl ?_
    refine P2_lai hM (a := 255) (n := 44) rfl dX16_queryOn_331 h (fun v4 h => ?_)
    refine P2_invVm hM [(0, v4)] [] CVX16_bodyByte MLX16_547 dX16_queryOn_332 rfl rfl rfl rfl (by omega) h (fun r h => F_X16_bodyByte (by omega) hM h) (fun V6 h => ?_)
    refine S_iconst dX16_queryOn_335 rfl ?_
    refine S_istore dX16_queryOn_336 (Nat.le_of_ble_eq_true rfl) rfl rfl ?_
    change Sem g d YX16_queryOn 338 [(1, 156), (0, x1), (0, x2), (0, x3), (0, x4), (0, x5), (0, y0), (0, 0)] [] (wr M V6) o
    refine S_weak (ls' := [(1, 156), (0, x1), (9, 0), (0, x3), (0, x4), (9, 0), (9, 0), (0, 0)]) ⟨Or.inr rfl, ⟨Or.inr rfl, ⟨Or.inl rfl, ⟨Or.inr rfl, ⟨Or.inr rfl, ⟨Or.inl rfl, ⟨Or.inl rfl, ⟨Or.inr rfl, trivial⟩⟩⟩⟩⟩⟩⟩⟩ ?_
    exact sl_X16_queryOn_338 hD hM r0 h hz
  · refine S_aload_n (i := 0) dX16_queryOn_191 rfl rfl ?_
    refine S_aload_n (i := 0) dX16_queryOn_192 rfl rfl ?_
    refine P2_gfr hM (a := 255) FLX16_312 rfl ⟨rfl, rfl⟩ dX16_queryOn_193 ?_
    refine S_iload_n (i := 1) dX16_queryOn_196 rfl rfl ?_
    refine P2_lai hM (a := 255) (n := 44) rfl dX16_queryOn_197 h (fun v5 h => ?_)
    refine P2_pfi hM FLX16_586 FPX16_586 rfl dX16_queryOn_198 h (fun V7 h => ?_)
    refine S_aload_n (i := 0) dX16_queryOn_201 rfl rfl ?_
    refine S_iload dX16_queryOn_202 rfl ?_
    refine P2_pfi hM FLX16_583 FPX16_583 rfl dX16_queryOn_204 h (fun V8 h => ?_)
    refine S_iconst dX16_queryOn_207 rfl ?_
    refine S_istore dX16_queryOn_208 (Nat.le_of_ble_eq_true rfl) rfl rfl ?_
    change Sem g d YX16_queryOn 210 [(1, 156), (0, x1), (0, x2), (0, x3), (0, x4), (0, x5), (0, y0), (0, 0)] [] (wr M V8) o
    refine S_weak (ls' := [(1, 156), (0, x1), (0, x2), (9, 0), (0, x4), (9, 0), (9, 0), (0, 0)]) ⟨Or.inr rfl, ⟨Or.inr rfl, ⟨Or.inr rfl, ⟨Or.inl rfl, ⟨Or.inr rfl, ⟨Or.inl rfl, ⟨Or.inl rfl, ⟨Or.inr rfl, trivial⟩⟩⟩⟩⟩⟩⟩⟩ ?_
    exact sl_X16_queryOn_210 hD hM r0 h hz
theorem s_X16_queryOn_178 {g : GG} {d : Nat} (hD : 6 ≤ d) {x1 x2 x3 x4 x5 : Int} {M : MM} (hM : LM M) {V : VV} {o : AV × MM} {P : (Int × VV) → Prop} (r0 : ∀ r : Int × VV, P r → o = ((0, r.1), (wr M r.2))) {z : Int × VV} (h : j_X16_queryOn_178 x1 x2 x3 x4 x5 V = some z) (hz : P z) : Sem g d YX16_queryOn 178 [(1, 156), (0, x1), (0, x2), (0, x3), (0, x4), (0, x5), (9, 0), (9, 0)] [] (wr M V) o := by
  delta j_X16_queryOn_178 at h
  refine S_aload_n (i := 0) dX16_queryOn_178 rfl rfl ?_
  refine P2_gfr hM (a := 256) FLX16_315 rfl ⟨rfl, rfl⟩ dX16_queryOn_179 ?_
  refine S_iload_n (i := 1) dX16_queryOn_182 rfl rfl ?_
  refine P2_lai hM (a := 256) (n := 44) rfl dX16_queryOn_183 h (fun v1 h => ?_)
  exact s_X16_queryOn_184 hD hM r0 h hz
theorem s_X16_queryOn_77 {g : GG} {d : Nat} (hD : 6 ≤ d) {x1 x2 x3 y0 : Int} {M : MM} (hM : LM M) {V : VV} {o : AV × MM} {P : (Int × VV) → Prop} (r0 : ∀ r : Int × VV, P r → o = ((0, r.1), (wr M r.2))) {z : Int × VV} (h : j_X16_queryOn_77 x1 x2 x3 y0 V = some z) (hz : P z) : Sem g d YX16_queryOn 77 [(1, 156), (0, x1), (0, x2), (0, x3), (9, 0), (9, 0), (9, 0), (9, 0)] [(0, y0)] (wr M V) o := by
  delta j_X16_queryOn_77 at h
  refine S_istore dX16_queryOn_77 (Nat.le_of_ble_eq_true rfl) rfl rfl ?_
  change Sem g d YX16_queryOn 79 [(1, 156), (0, x1), (0, x2), (0, x3), (0, y0), (9, 0), (9, 0), (9, 0)] [] (wr M V) o
  refine S_aload_n (i := 0) dX16_queryOn_79 rfl rfl ?_
  refine S_iload_n (i := 1) dX16_queryOn_80 rfl rfl ?_
  refine S_aload_n (i := 0) dX16_queryOn_81 rfl rfl ?_
  refine P2_gfr hM (a := 251) FLX16_300 rfl ⟨rfl, rfl⟩ dX16_queryOn_82 ?_
  refine S_iconst dX16_queryOn_85 rfl ?_
  refine S_iload dX16_queryOn_86 rfl ?_
  refine S_imul dX16_queryOn_88 ?_
  refine P2_invVp hM 0 [(0, x1), (1, 251), (0, 5 * y0)] [] CVX16_isOwn MLX16_686 dX16_queryOn_89 rfl rfl rfl rfl rfl (by omega) h (fun r h => F_X16_isOwn (by omega) hM h) (fun v1 h => ?_)
  refine S_istore dX16_queryOn_92 (Nat.le_of_ble_eq_true rfl) rfl rfl ?_
  change Sem g d YX16_queryOn 94 [(1, 156), (0, x1), (0, x2), (0, x3), (0, y0), (0, v1), (9, 0), (9, 0)] [] (wr M V) o
  refine S_aload_n (i := 0) dX16_queryOn_94 rfl rfl ?_
  refine P2_gfr hM (a := 231) FLX16_240 rfl ⟨rfl, rfl⟩ dX16_queryOn_95 ?_
  refine S_iload_n (i := 1) dX16_queryOn_98 rfl rfl ?_
  refine S_dup2 dX16_queryOn_99 (Nat.le_of_ble_eq_true rfl) (Nat.le_of_ble_eq_true rfl) ?_
  refine P2_lai hM (a := 231) (n := 44) rfl dX16_queryOn_100 h (fun v2 h => ?_)
  refine S_iconst dX16_queryOn_101 rfl ?_
  refine S_iadd dX16_queryOn_102 ?_
  refine P2_sai hM (a := 231) (n := 44) rfl dX16_queryOn_103 h (fun V1 h => ?_)
  refine S_iload_n (i := 3) dX16_queryOn_104 rfl rfl ?_
  refine S_iconst dX16_queryOn_105 rfl ?_
  refine P_icmp_ne (tgt := 153) dX16_queryOn_106 rfl h (fun h => ?_) (fun h => ?_)
  · refine S_iload_n (i := 3) dX16_queryOn_153 rfl rfl ?_
    refine S_iconst dX16_queryOn_154 rfl ?_
    refine P_icmp_ne (tgt := 375) dX16_queryOn_155 rfl h (fun h => ?_) (fun h => ?_)
    · refine S_aload_n (i := 0) dX16_queryOn_375 rfl rfl ?_
      refine P2_gfr hM (a := 258) FLX16_321 rfl ⟨rfl, rfl⟩ dX16_queryOn_376 ?_
      refine S_iload_n (i := 1) dX16_queryOn_379 rfl rfl ?_
      refine P2_lai hM (a := 258) (n := 44) rfl dX16_queryOn_380 h (fun v3 h => ?_)
      refine S_aload_n (i := 0) dX16_queryOn_381 rfl rfl ?_
      refine P2_gfr hM (a := 264) FLX16_339 rfl ⟨rfl, rfl⟩ dX16_queryOn_382 ?_
      refine S_iload_n (i := 1) dX16_queryOn_385 rfl rfl ?_
      refine P2_lai hM (a := 264) (n := 44) rfl dX16_queryOn_386 h (fun v4 h => ?_)
      refine S_isub dX16_queryOn_387 ?_
      refine S_bipush (z := 30) dX16_queryOn_388 rfl ?_
      refine P_icmp_ge (tgt := 409) dX16_queryOn_390 rfl h (fun h => ?_) (fun h => ?_)
      · refine S_bipush (z := 30) dX16_queryOn_409 rfl ?_
        exact s_X16_queryOn_411 hD hM r0 h hz
      · refine S_aload_n (i := 0) dX16_queryOn_393 rfl rfl ?_
        refine P2_gfr hM (a := 258) FLX16_321 rfl ⟨rfl, rfl⟩ dX16_queryOn_394 ?_
        refine S_iload_n (i := 1) dX16_queryOn_397 rfl rfl ?_
        refine P2_lai hM (a := 258) (n := 44) rfl dX16_queryOn_398 h (fun v5 h => ?_)
        refine S_aload_n (i := 0) dX16_queryOn_399 rfl rfl ?_
        refine P2_gfr hM (a := 264) FLX16_339 rfl ⟨rfl, rfl⟩ dX16_queryOn_400 ?_
        refine S_iload_n (i := 1) dX16_queryOn_403 rfl rfl ?_
        refine P2_lai hM (a := 264) (n := 44) rfl dX16_queryOn_404 h (fun v6 h => ?_)
        refine S_isub dX16_queryOn_405 ?_
        refine S_goto (tgt := 411) dX16_queryOn_406 rfl ?_
        exact s_X16_queryOn_411 hD hM r0 h hz
    · refine S_aload_n (i := 0) dX16_queryOn_158 rfl rfl ?_
      refine P2_gfr hM (a := 247) FLX16_288 rfl ⟨rfl, rfl⟩ dX16_queryOn_159 ?_
      refine S_iload_n (i := 1) dX16_queryOn_162 rfl rfl ?_
      refine P2_lai hM (a := 247) (n := 44) rfl dX16_queryOn_163 h (fun v7 h => ?_)
      refine S_iconst dX16_queryOn_164 rfl ?_
      refine P_icmp_ne (tgt := 178) dX16_queryOn_165 rfl h (fun h => ?_) (fun h => ?_)
      · exact s_X16_queryOn_178 hD hM r0 h hz
      · refine S_aload_n (i := 0) dX16_queryOn_168 rfl rfl ?_
        refine P2_gfr hM (a := 162) FLX16_25 rfl ⟨rfl, rfl⟩ dX16_queryOn_169 ?_
        refine S_bipush (z := 9) dX16_queryOn_172 rfl ?_
        refine P2_lai hM (a := 162) (n := 11) rfl dX16_queryOn_174 h (fun v8 h => ?_)
        refine S_goto (tgt := 184) dX16_queryOn_175 rfl ?_
        exact s_X16_queryOn_184 hD hM r0 h hz
  · refine S_iload dX16_queryOn_109 rfl ?_
    refine P_if_eq (tgt := 138) dX16_queryOn_111 rfl h (fun h => ?_) (fun h => ?_)
    · refine S_aload_n (i := 0) dX16_queryOn_138 rfl rfl ?_
      refine S_aload_n (i := 0) dX16_queryOn_139 rfl rfl ?_
      refine P2_gfr hM (a := 249) FLX16_294 rfl ⟨rfl, rfl⟩ dX16_queryOn_140 ?_
      refine S_iconst dX16_queryOn_143 rfl ?_
      refine S_iload dX16_queryOn_144 rfl ?_
      refine S_imul dX16_queryOn_146 ?_
      refine P2_invVm hM [(1, 249), (0, 5 * y0)] [] CVX16_bodyKey MLX16_634 dX16_queryOn_147 rfl rfl rfl rfl (by omega) h (fun r h => F_X16_bodyKey (by omega) hM h) (fun V2 h => ?_)
      refine S_goto (tgt := 570) dX16_queryOn_150 rfl ?_
      refine S_weak (ls' := [(1, 156), (0, x1), (9, 0), (0, x3), (0, y0), (9, 0), (9, 0), (9, 0)]) ⟨Or.inr rfl, ⟨Or.inr rfl, ⟨Or.inl rfl, ⟨Or.inr rfl, ⟨Or.inr rfl, ⟨Or.inl rfl, ⟨Or.inl rfl, ⟨Or.inl rfl, trivial⟩⟩⟩⟩⟩⟩⟩⟩ ?_
      exact s_X16_queryOn_570 hD hM r0 h hz
    · refine S_aload_n (i := 0) dX16_queryOn_114 rfl rfl ?_
      refine S_iload_n (i := 2) dX16_queryOn_115 rfl rfl ?_
      refine S_aload_n (i := 0) dX16_queryOn_116 rfl rfl ?_
      refine P2_gfr hM (a := 249) FLX16_294 rfl ⟨rfl, rfl⟩ dX16_queryOn_117 ?_
      refine S_iconst dX16_queryOn_120 rfl ?_
      refine S_iload dX16_queryOn_121 rfl ?_
      refine S_imul dX16_queryOn_123 ?_
      refine P2_invVm hM [(0, x2), (1, 249), (0, 5 * y0)] [] CVX16_choose MLX16_598 dX16_queryOn_124 rfl rfl rfl rfl (by omega) h (fun r h => F_X16_choose (by omega) hM h) (fun V3 h => ?_)
      refine S_aload_n (i := 0) dX16_queryOn_127 rfl rfl ?_
      refine P2_invVm hM [] [] CVX16_makeFilter MLX16_689 dX16_queryOn_128 rfl rfl rfl rfl (by omega) h (fun r h => F_X16_makeFilter (by omega) hM h) (fun V4 h => ?_)
      refine S_aload_n (i := 0) dX16_queryOn_131 rfl rfl ?_
      refine S_iload_n (i := 1) dX16_queryOn_132 rfl rfl ?_
      refine P2_invVm hM [(0, x1)] [] CVX16_tookBits MLX16_692 dX16_queryOn_133 rfl rfl rfl rfl (by omega) h (fun r h => F_X16_tookBits (by omega) hM h) (fun V5 h => ?_)
      refine S_iconst dX16_queryOn_136 rfl ?_
      obtain rfl := r0 _ (some_P (P := fun r => P r) h hz)
      exact P_ret dX16_queryOn_137 rfl (Or.inr ⟨rfl, Or.inr rfl⟩)
theorem s_X16_queryOn_57 {g : GG} {d : Nat} (hD : 6 ≤ d) {x1 x2 x3 y1 y2 : Int} {M : MM} (hM : LM M) {V : VV} {o : AV × MM} {P : (Int × VV) → Prop} (r0 : ∀ r : Int × VV, P r → o = ((0, r.1), (wr M r.2))) {z : Int × VV} (h : j_X16_queryOn_57 x1 x2 x3 y1 y2 V = some z) (hz : P z) : Sem g d YX16_queryOn 57 [(1, 156), (0, x1), (0, x2), (0, x3), (9, 0), (9, 0), (9, 0), (9, 0)] [(0, y2), (0, y1), (1, 253)] (wr M V) o := by
  delta j_X16_queryOn_57 at h
  refine S_iadd dX16_queryOn_57 ?_
  refine P2_lai hM (a := 253) (n := 132) rfl dX16_queryOn_58 h (fun v1 h => ?_)
  refine S_goto (tgt := 77) dX16_queryOn_59 rfl ?_
  exact s_X16_queryOn_77 hD hM r0 h hz
theorem s_X16_queryOn_0 {g : GG} {d : Nat} (hD : 6 ≤ d) {x1 : Int} {M : MM} (hM : LM M) {V : VV} {o : AV × MM} {P : (Int × VV) → Prop} (r0 : ∀ r : Int × VV, P r → o = ((0, r.1), (wr M r.2))) {z : Int × VV} (h : f_X16_queryOn x1 V = some z) (hz : P z) : Sem g d YX16_queryOn 0 [(1, 156), (0, x1), (9, 0), (9, 0), (9, 0), (9, 0), (9, 0), (9, 0)] [] (wr M V) o := by
  delta f_X16_queryOn at h
  refine S_aload_n (i := 0) dX16_queryOn_0 rfl rfl ?_
  refine P2_gfr hM (a := 228) FLX16_231 rfl ⟨rfl, rfl⟩ dX16_queryOn_1 ?_
  refine S_iload_n (i := 1) dX16_queryOn_4 rfl rfl ?_
  refine P2_lai hM (a := 228) (n := 44) rfl dX16_queryOn_5 h (fun v1 h => ?_)
  refine S_istore_n (i := 2) dX16_queryOn_6 rfl (Nat.le_of_ble_eq_true rfl) rfl rfl ?_
  change Sem g d YX16_queryOn 7 [(1, 156), (0, x1), (0, v1), (9, 0), (9, 0), (9, 0), (9, 0), (9, 0)] [] (wr M V) o
  refine S_aload_n (i := 0) dX16_queryOn_7 rfl rfl ?_
  refine P2_gfr hM (a := 230) FLX16_237 rfl ⟨rfl, rfl⟩ dX16_queryOn_8 ?_
  refine S_iload_n (i := 1) dX16_queryOn_11 rfl rfl ?_
  refine P2_lai hM (a := 230) (n := 44) rfl dX16_queryOn_12 h (fun v2 h => ?_)
  refine S_istore_n (i := 3) dX16_queryOn_13 rfl (Nat.le_of_ble_eq_true rfl) rfl rfl ?_
  change Sem g d YX16_queryOn 14 [(1, 156), (0, x1), (0, v1), (0, v2), (9, 0), (9, 0), (9, 0), (9, 0)] [] (wr M V) o
  refine S_iload_n (i := 3) dX16_queryOn_14 rfl rfl ?_
  refine S_iconst dX16_queryOn_15 rfl ?_
  refine P_icmp_ne (tgt := 30) dX16_queryOn_16 rfl h (fun h => ?_) (fun h => ?_)
  · refine S_iload_n (i := 3) dX16_queryOn_30 rfl rfl ?_
    refine S_iconst dX16_queryOn_31 rfl ?_
    refine P_icmp_ne (tgt := 62) dX16_queryOn_32 rfl h (fun h => ?_) (fun h => ?_)
    · refine S_aload_n (i := 0) dX16_queryOn_62 rfl rfl ?_
      refine P2_gfr hM (a := 253) FLX16_306 rfl ⟨rfl, rfl⟩ dX16_queryOn_63 ?_
      refine S_iconst dX16_queryOn_66 rfl ?_
      refine S_iload_n (i := 1) dX16_queryOn_67 rfl rfl ?_
      refine S_imul dX16_queryOn_68 ?_
      refine S_aload_n (i := 0) dX16_queryOn_69 rfl rfl ?_
      refine P2_gfr hM (a := 263) FLX16_336 rfl ⟨rfl, rfl⟩ dX16_queryOn_70 ?_
      refine S_iload_n (i := 1) dX16_queryOn_73 rfl rfl ?_
      refine P2_lai hM (a := 263) (n := 44) rfl dX16_queryOn_74 h (fun v3 h => ?_)
      refine S_iadd dX16_queryOn_75 ?_
      refine P2_lai hM (a := 253) (n := 132) rfl dX16_queryOn_76 h (fun v4 h => ?_)
      exact s_X16_queryOn_77 hD hM r0 h hz
    · refine S_aload_n (i := 0) dX16_queryOn_35 rfl rfl ?_
      refine P2_gfr hM (a := 253) FLX16_306 rfl ⟨rfl, rfl⟩ dX16_queryOn_36 ?_
      refine S_iconst dX16_queryOn_39 rfl ?_
      refine S_iload_n (i := 1) dX16_queryOn_40 rfl rfl ?_
      refine S_imul dX16_queryOn_41 ?_
      refine S_aload_n (i := 0) dX16_queryOn_42 rfl rfl ?_
      refine P2_gfr hM (a := 247) FLX16_288 rfl ⟨rfl, rfl⟩ dX16_queryOn_43 ?_
      refine S_iload_n (i := 1) dX16_queryOn_46 rfl rfl ?_
      refine P2_lai hM (a := 247) (n := 44) rfl dX16_queryOn_47 h (fun v5 h => ?_)
      refine S_iconst dX16_queryOn_48 rfl ?_
      refine P_icmp_ne (tgt := 56) dX16_queryOn_49 rfl h (fun h => ?_) (fun h => ?_)
      · refine S_iconst dX16_queryOn_56 rfl ?_
        exact s_X16_queryOn_57 hD hM r0 h hz
      · refine S_iconst dX16_queryOn_52 rfl ?_
        refine S_goto (tgt := 57) dX16_queryOn_53 rfl ?_
        exact s_X16_queryOn_57 hD hM r0 h hz
  · refine S_aload_n (i := 0) dX16_queryOn_19 rfl rfl ?_
    refine P2_gfr hM (a := 253) FLX16_306 rfl ⟨rfl, rfl⟩ dX16_queryOn_20 ?_
    refine S_iconst dX16_queryOn_23 rfl ?_
    refine S_iload_n (i := 1) dX16_queryOn_24 rfl rfl ?_
    refine S_imul dX16_queryOn_25 ?_
    refine P2_lai hM (a := 253) (n := 132) rfl dX16_queryOn_26 h (fun v6 h => ?_)
    refine S_goto (tgt := 77) dX16_queryOn_27 rfl ?_
    exact s_X16_queryOn_77 hD hM r0 h hz
theorem F_X16_queryOn {g : GG} {d : Nat} (hD : 6 ≤ d) {x1 : Int} {M : MM} (hM : LM M) {V : VV} {r : Int × VV} (h : f_X16_queryOn x1 V = some r) : Sem g d YX16_queryOn 0 (ini YX16_queryOn [(1, 156), (0, x1)]) [] (wr M V) ((0, r.1), (wr M r.2)) := by
  change Sem g d YX16_queryOn 0 [(1, 156), (0, x1), (9, 0), (9, 0), (9, 0), (9, 0), (9, 0), (9, 0)] [] (wr M V) ((0, r.1), (wr M r.2))
  exact s_X16_queryOn_0 hD hM (P := fun x => x = r) (fun q e => by rw [e]) h rfl
/-! PeerSearchModel.proceed(I)V -/
theorem dX16_proceed_0 : decode cX16_proceed 0 = .ok (.aload_n 0, 1) := by decide +kernel
theorem dX16_proceed_1 : decode cX16_proceed 1 = .ok (.getfield 225, 3) := by decide +kernel
theorem dX16_proceed_4 : decode cX16_proceed 4 = .ok (.iload_n 1, 1) := by decide +kernel
theorem dX16_proceed_5 : decode cX16_proceed 5 = .ok (.baload, 1) := by decide +kernel
theorem dX16_proceed_6 : decode cX16_proceed 6 = .ok (.istore_n 2, 1) := by decide +kernel
theorem dX16_proceed_7 : decode cX16_proceed 7 = .ok (.iload_n 2, 1) := by decide +kernel
theorem dX16_proceed_8 : decode cX16_proceed 8 = .ok (.ifCond .eq 96, 3) := by decide +kernel
theorem dX16_proceed_11 : decode cX16_proceed 11 = .ok (.aload_n 0, 1) := by decide +kernel
theorem dX16_proceed_12 : decode cX16_proceed 12 = .ok (.getfield 237, 3) := by decide +kernel
theorem dX16_proceed_15 : decode cX16_proceed 15 = .ok (.iload_n 1, 1) := by decide +kernel
theorem dX16_proceed_16 : decode cX16_proceed 16 = .ok (.iaload, 1) := by decide +kernel
theorem dX16_proceed_17 : decode cX16_proceed 17 = .ok (.iconst 1, 1) := by decide +kernel
theorem dX16_proceed_18 : decode cX16_proceed 18 = .ok (.if_icmp .ne 21, 3) := by decide +kernel
theorem dX16_proceed_21 : decode cX16_proceed 21 = .ok (.aload_n 0, 1) := by decide +kernel
theorem dX16_proceed_22 : decode cX16_proceed 22 = .ok (.iload_n 1, 1) := by decide +kernel
theorem dX16_proceed_23 : decode cX16_proceed 23 = .ok (.invokevirtual 641, 3) := by decide +kernel
theorem dX16_proceed_26 : decode cX16_proceed 26 = .ok (.istore_n 2, 1) := by decide +kernel
theorem dX16_proceed_27 : decode cX16_proceed 27 = .ok (.iload_n 2, 1) := by decide +kernel
theorem dX16_proceed_28 : decode cX16_proceed 28 = .ok (.ifCond .eq 54, 3) := by decide +kernel
theorem dX16_proceed_31 : decode cX16_proceed 31 = .ok (.aload_n 0, 1) := by decide +kernel
theorem dX16_proceed_32 : decode cX16_proceed 32 = .ok (.iload_n 1, 1) := by decide +kernel
theorem dX16_proceed_33 : decode cX16_proceed 33 = .ok (.invokevirtual 644, 3) := by decide +kernel
theorem dX16_proceed_36 : decode cX16_proceed 36 = .ok (.goto 46, 3) := by decide +kernel
theorem dX16_proceed_39 : decode cX16_proceed 39 = .ok (.aload_n 0, 1) := by decide +kernel
theorem dX16_proceed_40 : decode cX16_proceed 40 = .ok (.getfield 237, 3) := by decide +kernel
theorem dX16_proceed_43 : decode cX16_proceed 43 = .ok (.iload_n 1, 1) := by decide +kernel
theorem dX16_proceed_44 : decode cX16_proceed 44 = .ok (.iaload, 1) := by decide +kernel
theorem dX16_proceed_45 : decode cX16_proceed 45 = .ok (.iconst 2, 1) := by decide +kernel
theorem dX16_proceed_46 : decode cX16_proceed 46 = .ok (.if_icmp .ne 30, 3) := by decide +kernel
theorem dX16_proceed_49 : decode cX16_proceed 49 = .ok (.aload_n 0, 1) := by decide +kernel
theorem dX16_proceed_50 : decode cX16_proceed 50 = .ok (.getfield 282, 3) := by decide +kernel
theorem dX16_proceed_53 : decode cX16_proceed 53 = .ok (.iload_n 1, 1) := by decide +kernel
theorem dX16_proceed_54 : decode cX16_proceed 54 = .ok (.iaload, 1) := by decide +kernel
theorem dX16_proceed_55 : decode cX16_proceed 55 = .ok (.ifCond .ne 7, 3) := by decide +kernel
theorem dX16_proceed_58 : decode cX16_proceed 58 = .ok (.iconst 1, 1) := by decide +kernel
theorem dX16_proceed_59 : decode cX16_proceed 59 = .ok (.goto 4, 3) := by decide +kernel
theorem dX16_proceed_62 : decode cX16_proceed 62 = .ok (.iconst 0, 1) := by decide +kernel
theorem dX16_proceed_63 : decode cX16_proceed 63 = .ok (.istore_n 2, 1) := by decide +kernel
theorem dX16_proceed_64 : decode cX16_proceed 64 = .ok (.iload_n 2, 1) := by decide +kernel
theorem dX16_proceed_65 : decode cX16_proceed 65 = .ok (.ifCond .eq 17, 3) := by decide +kernel
theorem dX16_proceed_68 : decode cX16_proceed 68 = .ok (.aload_n 0, 1) := by decide +kernel
theorem dX16_proceed_69 : decode cX16_proceed 69 = .ok (.iload_n 1, 1) := by decide +kernel
theorem dX16_proceed_70 : decode cX16_proceed 70 = .ok (.invokevirtual 647, 3) := by decide +kernel
theorem dX16_proceed_73 : decode cX16_proceed 73 = .ok (.goto 9, 3) := by decide +kernel
theorem dX16_proceed_76 : decode cX16_proceed 76 = .ok (.aload_n 0, 1) := by decide +kernel
theorem dX16_proceed_77 : decode cX16_proceed 77 = .ok (.iload_n 1, 1) := by decide +kernel
theorem dX16_proceed_78 : decode cX16_proceed 78 = .ok (.invokevirtual 650, 3) := by decide +kernel
theorem dX16_proceed_81 : decode cX16_proceed 81 = .ok (.istore_n 2, 1) := by decide +kernel
theorem dX16_proceed_82 : decode cX16_proceed 82 = .ok (.iload_n 2, 1) := by decide +kernel
theorem dX16_proceed_83 : decode cX16_proceed 83 = .ok (.ifCond .eq 16, 3) := by decide +kernel
theorem dX16_proceed_86 : decode cX16_proceed 86 = .ok (.aload_n 0, 1) := by decide +kernel
theorem dX16_proceed_87 : decode cX16_proceed 87 = .ok (.getfield 225, 3) := by decide +kernel
theorem dX16_proceed_90 : decode cX16_proceed 90 = .ok (.iload_n 1, 1) := by decide +kernel
theorem dX16_proceed_91 : decode cX16_proceed 91 = .ok (.baload, 1) := by decide +kernel
theorem dX16_proceed_92 : decode cX16_proceed 92 = .ok (.ifCond .eq 7, 3) := by decide +kernel
theorem dX16_proceed_95 : decode cX16_proceed 95 = .ok (.iconst 1, 1) := by decide +kernel
theorem dX16_proceed_96 : decode cX16_proceed 96 = .ok (.goto 4, 3) := by decide +kernel
theorem dX16_proceed_99 : decode cX16_proceed 99 = .ok (.iconst 0, 1) := by decide +kernel
theorem dX16_proceed_100 : decode cX16_proceed 100 = .ok (.istore_n 2, 1) := by decide +kernel
theorem dX16_proceed_101 : decode cX16_proceed 101 = .ok (.goto (-94), 3) := by decide +kernel
theorem dX16_proceed_104 : decode cX16_proceed 104 = .ok (.return_, 1) := by decide +kernel
def j_X16_proceed_100 (x1 y0 : Int) (V : VV) : Option ((Int × VV) ⊕ (VV)) :=
  cnt (y0, V)
def j_X16_proceed_99 (x1 : Int) (V : VV) : Option ((Int × VV) ⊕ (VV)) :=
  j_X16_proceed_100 x1 0 V
def j_X16_proceed_82 (x1 x2 : Int) (V : VV) : Option ((Int × VV) ⊕ (VV)) :=
  if w32 x2 = 0 then
    j_X16_proceed_99 x1 V
  else
    (l2 226 44 x1 V).bind fun v1 =>
    if w32 v1 = 0 then
      j_X16_proceed_99 x1 V
    else
      j_X16_proceed_100 x1 1 V
def j_X16_proceed_63 (x1 y0 : Int) (V : VV) : Option ((Int × VV) ⊕ (VV)) :=
  if w32 y0 = 0 then
    j_X16_proceed_82 x1 y0 V
  else
    (f_X16_nextTerm x1 V).bind fun V1 =>
    j_X16_proceed_82 x1 y0 V1
def b_X16_proceed_7 (x1 x2 : Int) (V : VV) : Option ((Int × VV) ⊕ (VV)) :=
  if w32 x2 = 0 then
    xit (some V)
  else
    (l2 230 44 x1 V).bind fun v1 =>
    if w32 v1 = w32 1 then
      (f_X16_lookOn x1 V).bind fun r2 =>
      if w32 r2.1 = 0 then
        j_X16_proceed_82 x1 r2.1 r2.2
      else
        (f_X16_behindLookup x1 r2.2).bind fun V1 =>
        j_X16_proceed_82 x1 r2.1 V1
    else
      (l2 230 44 x1 V).bind fun v2 =>
      if w32 v2 = w32 2 then
        (l2 245 44 x1 V).bind fun v3 =>
        if w32 v3 = 0 then
          j_X16_proceed_63 x1 1 V
        else
          j_X16_proceed_63 x1 0 V
      else
        (f_X16_queryOn x1 V).bind fun r1 =>
        j_X16_proceed_82 x1 r1.1 r1.2
def l_X16_proceed_7 (x1 x2 : Int) (V : VV) : Option (VV) := lpN (fun s : Int × VV => b_X16_proceed_7 x1 s.1 s.2) FU (x2, V)
def f_X16_proceed (x1 : Int) (V : VV) : Option (VV) :=
  (l2 226 44 x1 V).bind fun v1 =>
  l_X16_proceed_7 x1 v1 V
theorem s_X16_proceed_100 {g : GG} {d : Nat} (hD : 8 ≤ d) {x1 y0 : Int} {M : MM} (hM : LM M) {V : VV} {o : AV × MM} {P : ((Int × VV) ⊕ (VV)) → Prop} (c0 : ∀ s : Int × VV, P (.inl s) → Sem g d YX16_proceed 7 [(1, 156), (0, x1), (0, s.1)] [] (wr M s.2) o) (r0 : ∀ r : VV, P (.inr r) → o = ((9, 0), (wr M r))) {z : (Int × VV) ⊕ (VV)} (h : j_X16_proceed_100 x1 y0 V = some z) (hz : P z) : Sem g d YX16_proceed 100 [(1, 156), (0, x1), (9, 0)] [(0, y0)] (wr M V) o := by
  delta j_X16_proceed_100 at h
  refine S_istore_n (i := 2) dX16_proceed_100 rfl (Nat.le_of_ble_eq_true rfl) rfl rfl ?_
  change Sem g d YX16_proceed 101 [(1, 156), (0, x1), (0, y0)] [] (wr M V) o
  refine S_goto (tgt := 7) dX16_proceed_101 rfl ?_
  exact c0 (y0, V) (some_P (P := fun r => P r) h hz)
theorem s_X16_proceed_99 {g : GG} {d : Nat} (hD : 8 ≤ d) {x1 : Int} {M : MM} (hM : LM M) {V : VV} {o : AV × MM} {P : ((Int × VV) ⊕ (VV)) → Prop} (c0 : ∀ s : Int × VV, P (.inl s) → Sem g d YX16_proceed 7 [(1, 156), (0, x1), (0, s.1)] [] (wr M s.2) o) (r0 : ∀ r : VV, P (.inr r) → o = ((9, 0), (wr M r))) {z : (Int × VV) ⊕ (VV)} (h : j_X16_proceed_99 x1 V = some z) (hz : P z) : Sem g d YX16_proceed 99 [(1, 156), (0, x1), (9, 0)] [] (wr M V) o := by
  delta j_X16_proceed_99 at h
  refine S_iconst dX16_proceed_99 rfl ?_
  exact s_X16_proceed_100 hD hM c0 r0 h hz
theorem s_X16_proceed_82 {g : GG} {d : Nat} (hD : 8 ≤ d) {x1 x2 : Int} {M : MM} (hM : LM M) {V : VV} {o : AV × MM} {P : ((Int × VV) ⊕ (VV)) → Prop} (c0 : ∀ s : Int × VV, P (.inl s) → Sem g d YX16_proceed 7 [(1, 156), (0, x1), (0, s.1)] [] (wr M s.2) o) (r0 : ∀ r : VV, P (.inr r) → o = ((9, 0), (wr M r))) {z : (Int × VV) ⊕ (VV)} (h : j_X16_proceed_82 x1 x2 V = some z) (hz : P z) : Sem g d YX16_proceed 82 [(1, 156), (0, x1), (0, x2)] [] (wr M V) o := by
  delta j_X16_proceed_82 at h
  refine S_iload_n (i := 2) dX16_proceed_82 rfl rfl ?_
  refine P_if_eq (tgt := 99) dX16_proceed_83 rfl h (fun h => ?_) (fun h => ?_)
  · refine S_weak (ls' := [(1, 156), (0, x1), (9, 0)]) ⟨Or.inr rfl, ⟨Or.inr rfl, ⟨Or.inl rfl, trivial⟩⟩⟩ ?_
    exact s_X16_proceed_99 hD hM c0 r0 h hz
  · refine S_aload_n (i := 0) dX16_proceed_86 rfl rfl ?_
    refine P2_gfr hM (a := 226) FLX16_225 rfl ⟨rfl, rfl⟩ dX16_proceed_87 ?_
    refine S_iload_n (i := 1) dX16_proceed_90 rfl rfl ?_
    refine P2_laz hM (a := 226) (n := 44) rfl dX16_proceed_91 h (fun v1 h => ?_)
    refine P_if_eq (tgt := 99) dX16_proceed_92 rfl h (fun h => ?_) (fun h => ?_)
    · refine S_weak (ls' := [(1, 156), (0, x1), (9, 0)]) ⟨Or.inr rfl, ⟨Or.inr rfl, ⟨Or.inl rfl, trivial⟩⟩⟩ ?_
      exact s_X16_proceed_99 hD hM c0 r0 h hz
    · refine S_iconst dX16_proceed_95 rfl ?_
      refine S_goto (tgt := 100) dX16_proceed_96 rfl ?_
      refine S_weak (ls' := [(1, 156), (0, x1), (9, 0)]) ⟨Or.inr rfl, ⟨Or.inr rfl, ⟨Or.inl rfl, trivial⟩⟩⟩ ?_
      exact s_X16_proceed_100 hD hM c0 r0 h hz
theorem s_X16_proceed_63 {g : GG} {d : Nat} (hD : 8 ≤ d) {x1 y0 : Int} {M : MM} (hM : LM M) {V : VV} {o : AV × MM} {P : ((Int × VV) ⊕ (VV)) → Prop} (c0 : ∀ s : Int × VV, P (.inl s) → Sem g d YX16_proceed 7 [(1, 156), (0, x1), (0, s.1)] [] (wr M s.2) o) (r0 : ∀ r : VV, P (.inr r) → o = ((9, 0), (wr M r))) {z : (Int × VV) ⊕ (VV)} (h : j_X16_proceed_63 x1 y0 V = some z) (hz : P z) : Sem g d YX16_proceed 63 [(1, 156), (0, x1), (9, 0)] [(0, y0)] (wr M V) o := by
  delta j_X16_proceed_63 at h
  refine S_istore_n (i := 2) dX16_proceed_63 rfl (Nat.le_of_ble_eq_true rfl) rfl rfl ?_
  change Sem g d YX16_proceed 64 [(1, 156), (0, x1), (0, y0)] [] (wr M V) o
  refine S_iload_n (i := 2) dX16_proceed_64 rfl rfl ?_
  refine P_if_eq (tgt := 82) dX16_proceed_65 rfl h (fun h => ?_) (fun h => ?_)
  · exact s_X16_proceed_82 hD hM c0 r0 h hz
  · refine S_aload_n (i := 0) dX16_proceed_68 rfl rfl ?_
    refine S_iload_n (i := 1) dX16_proceed_69 rfl rfl ?_
    refine P2_invVm hM [(0, x1)] [] CVX16_nextTerm MLX16_647 dX16_proceed_70 rfl rfl rfl rfl (by omega) h (fun r h => F_X16_nextTerm (by omega) hM h) (fun V1 h => ?_)
    refine S_goto (tgt := 82) dX16_proceed_73 rfl ?_
    exact s_X16_proceed_82 hD hM c0 r0 h hz
theorem s_X16_proceed_7 {g : GG} {d : Nat} (hD : 8 ≤ d) {x1 x2 : Int} {M : MM} (hM : LM M) {V : VV} {o : AV × MM} {P : ((Int × VV) ⊕ (VV)) → Prop} (c0 : ∀ s : Int × VV, P (.inl s) → Sem g d YX16_proceed 7 [(1, 156), (0, x1), (0, s.1)] [] (wr M s.2) o) (r0 : ∀ r : VV, P (.inr r) → o = ((9, 0), (wr M r))) {z : (Int × VV) ⊕ (VV)} (h : b_X16_proceed_7 x1 x2 V = some z) (hz : P z) : Sem g d YX16_proceed 7 [(1, 156), (0, x1), (0, x2)] [] (wr M V) o := by
  delta b_X16_proceed_7 at h
  refine S_iload_n (i := 2) dX16_proceed_7 rfl rfl ?_
  refine P_if_eq (tgt := 104) dX16_proceed_8 rfl h (fun h => ?_) (fun h => ?_)
  · obtain ⟨z0, h, hz⟩ := xit_some' (P := fun r => P r) h hz
    obtain rfl := r0 _ (some_P (P := fun r => P (.inr r)) h hz)
    exact S_return dX16_proceed_104 rfl
  · refine S_aload_n (i := 0) dX16_proceed_11 rfl rfl ?_
    refine P2_gfr hM (a := 230) FLX16_237 rfl ⟨rfl, rfl⟩ dX16_proceed_12 ?_
    refine S_iload_n (i := 1) dX16_proceed_15 rfl rfl ?_
    refine P2_lai hM (a := 230) (n := 44) rfl dX16_proceed_16 h (fun v1 h => ?_)
    refine S_iconst dX16_proceed_17 rfl ?_
    refine P_icmp_ne (tgt := 39) dX16_proceed_18 rfl h (fun h => ?_) (fun h => ?_)
    · refine S_aload_n (i := 0) dX16_proceed_39 rfl rfl ?_
      refine P2_gfr hM (a := 230) FLX16_237 rfl ⟨rfl, rfl⟩ dX16_proceed_40 ?_
      refine S_iload_n (i := 1) dX16_proceed_43 rfl rfl ?_
      refine P2_lai hM (a := 230) (n := 44) rfl dX16_proceed_44 h (fun v2 h => ?_)
      refine S_iconst dX16_proceed_45 rfl ?_
      refine P_icmp_ne (tgt := 76) dX16_proceed_46 rfl h (fun h => ?_) (fun h => ?_)
      · refine S_aload_n (i := 0) dX16_proceed_76 rfl rfl ?_
        refine S_iload_n (i := 1) dX16_proceed_77 rfl rfl ?_
        refine P2_invVe hM 0 [(0, x1)] [] CVX16_queryOn MLX16_650 dX16_proceed_78 rfl rfl rfl rfl rfl (by omega) h (fun r h => F_X16_queryOn (by omega) hM h) (fun r1 h => ?_)
        refine S_istore_n (i := 2) dX16_proceed_81 rfl (Nat.le_of_ble_eq_true rfl) rfl rfl ?_
        change Sem g d YX16_proceed 82 [(1, 156), (0, x1), (0, r1.1)] [] (wr M r1.2) o
        exact s_X16_proceed_82 hD hM c0 r0 h hz
      · refine S_aload_n (i := 0) dX16_proceed_49 rfl rfl ?_
        refine P2_gfr hM (a := 245) FLX16_282 rfl ⟨rfl, rfl⟩ dX16_proceed_50 ?_
        refine S_iload_n (i := 1) dX16_proceed_53 rfl rfl ?_
        refine P2_lai hM (a := 245) (n := 44) rfl dX16_proceed_54 h (fun v3 h => ?_)
        refine P_if_ne (tgt := 62) dX16_proceed_55 rfl h (fun h => ?_) (fun h => ?_)
        · refine S_iconst dX16_proceed_62 rfl ?_
          refine S_weak (ls' := [(1, 156), (0, x1), (9, 0)]) ⟨Or.inr rfl, ⟨Or.inr rfl, ⟨Or.inl rfl, trivial⟩⟩⟩ ?_
          exact s_X16_proceed_63 hD hM c0 r0 h hz
        · refine S_iconst dX16_proceed_58 rfl ?_
          refine S_goto (tgt := 63) dX16_proceed_59 rfl ?_
          refine S_weak (ls' := [(1, 156), (0, x1), (9, 0)]) ⟨Or.inr rfl, ⟨Or.inr rfl, ⟨Or.inl rfl, trivial⟩⟩⟩ ?_
          exact s_X16_proceed_63 hD hM c0 r0 h hz
    · refine S_aload_n (i := 0) dX16_proceed_21 rfl rfl ?_
      refine S_iload_n (i := 1) dX16_proceed_22 rfl rfl ?_
      refine P2_invVe hM 0 [(0, x1)] [] CVX16_lookOn MLX16_641 dX16_proceed_23 rfl rfl rfl rfl rfl (by omega) h (fun r h => F_X16_lookOn (by omega) hM h) (fun r2 h => ?_)
      refine S_istore_n (i := 2) dX16_proceed_26 rfl (Nat.le_of_ble_eq_true rfl) rfl rfl ?_
      change Sem g d YX16_proceed 27 [(1, 156), (0, x1), (0, r2.1)] [] (wr M r2.2) o
      refine S_iload_n (i := 2) dX16_proceed_27 rfl rfl ?_
      refine P_if_eq (tgt := 82) dX16_proceed_28 rfl h (fun h => ?_) (fun h => ?_)
      · exact s_X16_proceed_82 hD hM c0 r0 h hz
      · refine S_aload_n (i := 0) dX16_proceed_31 rfl rfl ?_
        refine S_iload_n (i := 1) dX16_proceed_32 rfl rfl ?_
        refine P2_invVm hM [(0, x1)] [] CVX16_behindLookup MLX16_644 dX16_proceed_33 rfl rfl rfl rfl (by omega) h (fun r h => F_X16_behindLookup (by omega) hM h) (fun V1 h => ?_)
        refine S_goto (tgt := 82) dX16_proceed_36 rfl ?_
        exact s_X16_proceed_82 hD hM c0 r0 h hz
theorem sl_X16_proceed_7 {g : GG} {d : Nat} (hD : 8 ≤ d) {x1 x2 : Int} {M : MM} (hM : LM M) {V : VV} {o : AV × MM} {P : (VV) → Prop} (r0 : ∀ r : VV, P r → o = ((9, 0), (wr M r))) {z : VV} (h : l_X16_proceed_7 x1 x2 V = some z) (hz : P z) : Sem g d YX16_proceed 7 [(1, 156), (0, x1), (0, x2)] [] (wr M V) o := by
  refine lp_sound (S := fun s : Int × VV => Sem g d YX16_proceed 7 [(1, 156), (0, x1), (0, s.1)] [] (wr M s.2) o) (P := P) ?_ FU (x2, V) z h hz
  intro s x hx hP
  exact s_X16_proceed_7 hD hM (P := Sum.elim (fun s : Int × VV => Sem g d YX16_proceed 7 [(1, 156), (0, x1), (0, s.1)] [] (wr M s.2) o) P) (fun s h => h) (fun s h => r0 s h) hx hP
theorem s_X16_proceed_0 {g : GG} {d : Nat} (hD : 8 ≤ d) {x1 : Int} {M : MM} (hM : LM M) {V : VV} {o : AV × MM} {P : (VV) → Prop} (r0 : ∀ r : VV, P r → o = ((9, 0), (wr M r))) {z : VV} (h : f_X16_proceed x1 V = some z) (hz : P z) : Sem g d YX16_proceed 0 [(1, 156), (0, x1), (9, 0)] [] (wr M V) o := by
  delta f_X16_proceed at h
  refine S_aload_n (i := 0) dX16_proceed_0 rfl rfl ?_
  refine P2_gfr hM (a := 226) FLX16_225 rfl ⟨rfl, rfl⟩ dX16_proceed_1 ?_
  refine S_iload_n (i := 1) dX16_proceed_4 rfl rfl ?_
  refine P2_laz hM (a := 226) (n := 44) rfl dX16_proceed_5 h (fun v1 h => ?_)
  refine S_istore_n (i := 2) dX16_proceed_6 rfl (Nat.le_of_ble_eq_true rfl) rfl rfl ?_
  change Sem g d YX16_proceed 7 [(1, 156), (0, x1), (0, v1)] [] (wr M V) o
  exact sl_X16_proceed_7 hD hM r0 h hz
theorem F_X16_proceed {g : GG} {d : Nat} (hD : 8 ≤ d) {x1 : Int} {M : MM} (hM : LM M) {V : VV} {r : VV} (h : f_X16_proceed x1 V = some r) : Sem g d YX16_proceed 0 (ini YX16_proceed [(1, 156), (0, x1)]) [] (wr M V) ((9, 0), (wr M r)) := by
  change Sem g d YX16_proceed 0 [(1, 156), (0, x1), (9, 0)] [] (wr M V) ((9, 0), (wr M r))
  exact s_X16_proceed_0 hD hM (P := fun x => x = r) (fun q e => by rw [e]) h rfl
/-! PeerSearchModel.touch(I)V -/
theorem dX16_touch_0 : decode cX16_touch 0 = .ok (.aload_n 0, 1) := by decide +kernel
theorem dX16_touch_1 : decode cX16_touch 1 = .ok (.getfield 128, 3) := by decide +kernel
theorem dX16_touch_4 : decode cX16_touch 4 = .ok (.iload_n 1, 1) := by decide +kernel
theorem dX16_touch_5 : decode cX16_touch 5 = .ok (.aload_n 0, 1) := by decide +kernel
theorem dX16_touch_6 : decode cX16_touch 6 = .ok (.getfield 497, 3) := by decide +kernel
theorem dX16_touch_9 : decode cX16_touch 9 = .ok (.iastore, 1) := by decide +kernel
theorem dX16_touch_10 : decode cX16_touch 10 = .ok (.aload_n 0, 1) := by decide +kernel
theorem dX16_touch_11 : decode cX16_touch 11 = .ok (.dup, 1) := by decide +kernel
theorem dX16_touch_12 : decode cX16_touch 12 = .ok (.getfield 497, 3) := by decide +kernel
theorem dX16_touch_15 : decode cX16_touch 15 = .ok (.iconst 1, 1) := by decide +kernel
theorem dX16_touch_16 : decode cX16_touch 16 = .ok (.iadd, 1) := by decide +kernel
theorem dX16_touch_17 : decode cX16_touch 17 = .ok (.putfield 497, 3) := by decide +kernel
theorem dX16_touch_20 : decode cX16_touch 20 = .ok (.return_, 1) := by decide +kernel
def f_X16_touch (x1 : Int) (V : VV) : Option (VV) :=
  (s2 194 35200 x1 (w32 (V 156 42)) V).bind fun V1 =>
  (p2 42 ((w32 (V1 156 42)) + 1) V1).bind fun V2 =>
  some V2
theorem s_X16_touch_0 {g : GG} {d : Nat} (hD : 0 ≤ d) {x1 : Int} {M : MM} (hM : LM M) {V : VV} {o : AV × MM} {P : (VV) → Prop} (r0 : ∀ r : VV, P r → o = ((9, 0), (wr M r))) {z : VV} (h : f_X16_touch x1 V = some z) (hz : P z) : Sem g d YX16_touch 0 [(1, 156), (0, x1)] [] (wr M V) o := by
  delta f_X16_touch at h
  refine S_aload_n (i := 0) dX16_touch_0 rfl rfl ?_
  refine P2_gfr hM (a := 194) FLX16_128 rfl ⟨rfl, rfl⟩ dX16_touch_1 ?_
  refine S_iload_n (i := 1) dX16_touch_4 rfl rfl ?_
  refine S_aload_n (i := 0) dX16_touch_5 rfl rfl ?_
  refine P2_gfi hM FLX16_497 rfl dX16_touch_6 ?_
  refine P2_sai hM (a := 194) (n := 35200) rfl dX16_touch_9 h (fun V1 h => ?_)
  refine S_aload_n (i := 0) dX16_touch_10 rfl rfl ?_
  refine S_dup dX16_touch_11 (Nat.le_of_ble_eq_true rfl) ?_
  refine P2_gfi hM FLX16_497 rfl dX16_touch_12 ?_
  refine S_iconst dX16_touch_15 rfl ?_
  refine S_iadd dX16_touch_16 ?_
  refine P2_pfi hM FLX16_497 FPX16_497 rfl dX16_touch_17 h (fun V2 h => ?_)
  obtain rfl := r0 _ (some_P (P := fun r => P r) h hz)
  exact S_return dX16_touch_20 rfl
theorem F_X16_touch {g : GG} {d : Nat} (hD : 0 ≤ d) {x1 : Int} {M : MM} (hM : LM M) {V : VV} {r : VV} (h : f_X16_touch x1 V = some r) : Sem g d YX16_touch 0 (ini YX16_touch [(1, 156), (0, x1)]) [] (wr M V) ((9, 0), (wr M r)) := by
  change Sem g d YX16_touch 0 [(1, 156), (0, x1)] [] (wr M V) ((9, 0), (wr M r))
  exact s_X16_touch_0 hD hM (P := fun x => x = r) (fun q e => by rw [e]) h rfl
/-! PeerSearchModel.addRow(I[IIIIZ)I -/
theorem dX16_addRow_0 : decode cX16_addRow 0 = .ok (.sipush 1100, 3) := by decide +kernel
theorem dX16_addRow_3 : decode cX16_addRow 3 = .ok (.iload_n 1, 1) := by decide +kernel
theorem dX16_addRow_4 : decode cX16_addRow 4 = .ok (.imul, 1) := by decide +kernel
theorem dX16_addRow_5 : decode cX16_addRow 5 = .ok (.aload_n 0, 1) := by decide +kernel
theorem dX16_addRow_6 : decode cX16_addRow 6 = .ok (.getfield 110, 3) := by decide +kernel
theorem dX16_addRow_9 : decode cX16_addRow 9 = .ok (.iload_n 1, 1) := by decide +kernel
theorem dX16_addRow_10 : decode cX16_addRow 10 = .ok (.iaload, 1) := by decide +kernel
theorem dX16_addRow_11 : decode cX16_addRow 11 = .ok (.iadd, 1) := by decide +kernel
theorem dX16_addRow_12 : decode cX16_addRow 12 = .ok (.istore 7, 2) := by decide +kernel
theorem dX16_addRow_14 : decode cX16_addRow 14 = .ok (.aload_n 0, 1) := by decide +kernel
theorem dX16_addRow_15 : decode cX16_addRow 15 = .ok (.getfield 110, 3) := by decide +kernel
theorem dX16_addRow_18 : decode cX16_addRow 18 = .ok (.iload_n 1, 1) := by decide +kernel
theorem dX16_addRow_19 : decode cX16_addRow 19 = .ok (.dup2, 1) := by decide +kernel
theorem dX16_addRow_20 : decode cX16_addRow 20 = .ok (.iaload, 1) := by decide +kernel
theorem dX16_addRow_21 : decode cX16_addRow 21 = .ok (.iconst 1, 1) := by decide +kernel
theorem dX16_addRow_22 : decode cX16_addRow 22 = .ok (.iadd, 1) := by decide +kernel
theorem dX16_addRow_23 : decode cX16_addRow 23 = .ok (.iastore, 1) := by decide +kernel
theorem dX16_addRow_24 : decode cX16_addRow 24 = .ok (.aload_n 0, 1) := by decide +kernel
theorem dX16_addRow_25 : decode cX16_addRow 25 = .ok (.getfield 114, 3) := by decide +kernel
theorem dX16_addRow_28 : decode cX16_addRow 28 = .ok (.iconst 5, 1) := by decide +kernel
theorem dX16_addRow_29 : decode cX16_addRow 29 = .ok (.iload 7, 2) := by decide +kernel
theorem dX16_addRow_31 : decode cX16_addRow 31 = .ok (.imul, 1) := by decide +kernel
theorem dX16_addRow_32 : decode cX16_addRow 32 = .ok (.aload_n 2, 1) := by decide +kernel
theorem dX16_addRow_33 : decode cX16_addRow 33 = .ok (.iload_n 3, 1) := by decide +kernel
theorem dX16_addRow_34 : decode cX16_addRow 34 = .ok (.invokestatic 438, 3) := by decide +kernel
theorem dX16_addRow_37 : decode cX16_addRow 37 = .ok (.aload_n 0, 1) := by decide +kernel
theorem dX16_addRow_38 : decode cX16_addRow 38 = .ok (.getfield 118, 3) := by decide +kernel
theorem dX16_addRow_41 : decode cX16_addRow 41 = .ok (.iload 7, 2) := by decide +kernel
theorem dX16_addRow_43 : decode cX16_addRow 43 = .ok (.iload 4, 2) := by decide +kernel
theorem dX16_addRow_45 : decode cX16_addRow 45 = .ok (.iastore, 1) := by decide +kernel
theorem dX16_addRow_46 : decode cX16_addRow 46 = .ok (.aload_n 0, 1) := by decide +kernel
theorem dX16_addRow_47 : decode cX16_addRow 47 = .ok (.getfield 121, 3) := by decide +kernel
theorem dX16_addRow_50 : decode cX16_addRow 50 = .ok (.iload 7, 2) := by decide +kernel
theorem dX16_addRow_52 : decode cX16_addRow 52 = .ok (.iload 5, 2) := by decide +kernel
theorem dX16_addRow_54 : decode cX16_addRow 54 = .ok (.iastore, 1) := by decide +kernel
theorem dX16_addRow_55 : decode cX16_addRow 55 = .ok (.aload_n 0, 1) := by decide +kernel
theorem dX16_addRow_56 : decode cX16_addRow 56 = .ok (.getfield 124, 3) := by decide +kernel
theorem dX16_addRow_59 : decode cX16_addRow 59 = .ok (.iload 7, 2) := by decide +kernel
theorem dX16_addRow_61 : decode cX16_addRow 61 = .ok (.iload 6, 2) := by decide +kernel
theorem dX16_addRow_63 : decode cX16_addRow 63 = .ok (.bastore, 1) := by decide +kernel
theorem dX16_addRow_64 : decode cX16_addRow 64 = .ok (.aload_n 0, 1) := by decide +kernel
theorem dX16_addRow_65 : decode cX16_addRow 65 = .ok (.iload 7, 2) := by decide +kernel
theorem dX16_addRow_67 : decode cX16_addRow 67 = .ok (.invokevirtual 500, 3) := by decide +kernel
theorem dX16_addRow_70 : decode cX16_addRow 70 = .ok (.iload 7, 2) := by decide +kernel
theorem dX16_addRow_72 : decode cX16_addRow 72 = .ok (.ireturn, 1) := by decide +kernel
def f_X16_addRow (x1 x2 x3 x4 x5 x6 : Int) (V : VV) : Option (Int × VV) :=
  (l2 189 32 x1 V).bind fun v1 =>
  (l2 189 32 x1 V).bind fun v2 =>
  (s2 189 32 x1 (v2 + 1) V).bind fun V1 =>
  (f_X16_put 190 (5 * ((1100 * x1) + v1)) x2 x3 V1).bind fun V2 =>
  (s2 191 35200 ((1100 * x1) + v1) x4 V2).bind fun V3 =>
  (s2 192 35200 ((1100 * x1) + v1) x5 V3).bind fun V4 =>
  (s2z 193 35200 ((1100 * x1) + v1) x6 V4).bind fun V5 =>
  (f_X16_touch ((1100 * x1) + v1) V5).bind fun V6 =>
  some ((1100 * x1) + v1, V6)
theorem s_X16_addRow_0 {g : GG} {d : Nat} (hD : 1 ≤ d) {x1 x2 x3 x4 x5 x6 : Int} {M : MM} (hM : LM M) {V : VV} {o : AV × MM} {P : (Int × VV) → Prop} (r0 : ∀ r : Int × VV, P r → o = ((0, r.1), (wr M r.2))) {z : Int × VV} (h : f_X16_addRow x1 x2 x3 x4 x5 x6 V = some z) (hz : P z) : Sem g d YX16_addRow 0 [(1, 156), (0, x1), (1, x2), (0, x3), (0, x4), (0, x5), (0, x6), (9, 0)] [] (wr M V) o := by
  delta f_X16_addRow at h
  refine S_sipush (z := 1100) dX16_addRow_0 rfl ?_
  refine S_iload_n (i := 1) dX16_addRow_3 rfl rfl ?_
  refine S_imul dX16_addRow_4 ?_
  refine S_aload_n (i := 0) dX16_addRow_5 rfl rfl ?_
  refine P2_gfr hM (a := 189) FLX16_110 rfl ⟨rfl, rfl⟩ dX16_addRow_6 ?_
  refine S_iload_n (i := 1) dX16_addRow_9 rfl rfl ?_
  refine P2_lai hM (a := 189) (n := 32) rfl dX16_addRow_10 h (fun v1 h => ?_)
  refine S_iadd dX16_addRow_11 ?_
  refine S_istore dX16_addRow_12 (Nat.le_of_ble_eq_true rfl) rfl rfl ?_
  change Sem g d YX16_addRow 14 [(1, 156), (0, x1), (1, x2), (0, x3), (0, x4), (0, x5), (0, x6), (0, (1100 * x1) + v1)] [] (wr M V) o
  refine S_aload_n (i := 0) dX16_addRow_14 rfl rfl ?_
  refine P2_gfr hM (a := 189) FLX16_110 rfl ⟨rfl, rfl⟩ dX16_addRow_15 ?_
  refine S_iload_n (i := 1) dX16_addRow_18 rfl rfl ?_
  refine S_dup2 dX16_addRow_19 (Nat.le_of_ble_eq_true rfl) (Nat.le_of_ble_eq_true rfl) ?_
  refine P2_lai hM (a := 189) (n := 32) rfl dX16_addRow_20 h (fun v2 h => ?_)
  refine S_iconst dX16_addRow_21 rfl ?_
  refine S_iadd dX16_addRow_22 ?_
  refine P2_sai hM (a := 189) (n := 32) rfl dX16_addRow_23 h (fun V1 h => ?_)
  refine S_aload_n (i := 0) dX16_addRow_24 rfl rfl ?_
  refine P2_gfr hM (a := 190) FLX16_114 rfl ⟨rfl, rfl⟩ dX16_addRow_25 ?_
  refine S_iconst dX16_addRow_28 rfl ?_
  refine S_iload dX16_addRow_29 rfl ?_
  refine S_imul dX16_addRow_31 ?_
  refine S_aload_n (i := 2) dX16_addRow_32 rfl rfl ?_
  refine S_iload_n (i := 3) dX16_addRow_33 rfl rfl ?_
  refine P2_invSm hM [(1, 190), (0, 5 * ((1100 * x1) + v1)), (1, x2), (0, x3)] [] CSX16_put MLX16_438 dX16_addRow_34 rfl rfl rfl rfl (by omega) h (fun r h => F_X16_put (by omega) hM h) (fun V2 h => ?_)
  refine S_aload_n (i := 0) dX16_addRow_37 rfl rfl ?_
  refine P2_gfr hM (a := 191) FLX16_118 rfl ⟨rfl, rfl⟩ dX16_addRow_38 ?_
  refine S_iload dX16_addRow_41 rfl ?_
  refine S_iload dX16_addRow_43 rfl ?_
  refine P2_sai hM (a := 191) (n := 35200) rfl dX16_addRow_45 h (fun V3 h => ?_)
  refine S_aload_n (i := 0) dX16_addRow_46 rfl rfl ?_
  refine P2_gfr hM (a := 192) FLX16_121 rfl ⟨rfl, rfl⟩ dX16_addRow_47 ?_
  refine S_iload dX16_addRow_50 rfl ?_
  refine S_iload dX16_addRow_52 rfl ?_
  refine P2_sai hM (a := 192) (n := 35200) rfl dX16_addRow_54 h (fun V4 h => ?_)
  refine S_aload_n (i := 0) dX16_addRow_55 rfl rfl ?_
  refine P2_gfr hM (a := 193) FLX16_124 rfl ⟨rfl, rfl⟩ dX16_addRow_56 ?_
  refine S_iload dX16_addRow_59 rfl ?_
  refine S_iload dX16_addRow_61 rfl ?_
  refine P2_saz hM (a := 193) (n := 35200) rfl dX16_addRow_63 h (fun V5 h => ?_)
  refine S_aload_n (i := 0) dX16_addRow_64 rfl rfl ?_
  refine S_iload dX16_addRow_65 rfl ?_
  refine P2_invVm hM [(0, (1100 * x1) + v1)] [] CVX16_touch MLX16_500 dX16_addRow_67 rfl rfl rfl rfl (by omega) h (fun r h => F_X16_touch (by omega) hM h) (fun V6 h => ?_)
  refine S_iload dX16_addRow_70 rfl ?_
  obtain rfl := r0 _ (some_P (P := fun r => P r) h hz)
  exact P_ret dX16_addRow_72 rfl (Or.inl rfl)
theorem F_X16_addRow {g : GG} {d : Nat} (hD : 1 ≤ d) {x1 x2 x3 x4 x5 x6 : Int} {M : MM} (hM : LM M) {V : VV} {r : Int × VV} (h : f_X16_addRow x1 x2 x3 x4 x5 x6 V = some r) : Sem g d YX16_addRow 0 (ini YX16_addRow [(1, 156), (0, x1), (1, x2), (0, x3), (0, x4), (0, x5), (0, x6)]) [] (wr M V) ((0, r.1), (wr M r.2)) := by
  change Sem g d YX16_addRow 0 [(1, 156), (0, x1), (1, x2), (0, x3), (0, x4), (0, x5), (0, x6), (9, 0)] [] (wr M V) ((0, r.1), (wr M r.2))
  exact s_X16_addRow_0 hD hM (P := fun x => x = r) (fun q e => by rw [e]) h rfl
/-! PeerSearchModel.common([II[II)I -/
theorem dX16_common_0 : decode cX16_common 0 = .ok (.iconst 0, 1) := by decide +kernel
theorem dX16_common_1 : decode cX16_common 1 = .ok (.istore 4, 2) := by decide +kernel
theorem dX16_common_3 : decode cX16_common 3 = .ok (.iconst 0, 1) := by decide +kernel
theorem dX16_common_4 : decode cX16_common 4 = .ok (.istore 5, 2) := by decide +kernel
theorem dX16_common_6 : decode cX16_common 6 = .ok (.iload 5, 2) := by decide +kernel
theorem dX16_common_8 : decode cX16_common 8 = .ok (.iconst 5, 1) := by decide +kernel
theorem dX16_common_9 : decode cX16_common 9 = .ok (.if_icmp .ge 42, 3) := by decide +kernel
theorem dX16_common_12 : decode cX16_common 12 = .ok (.aload_n 0, 1) := by decide +kernel
theorem dX16_common_13 : decode cX16_common 13 = .ok (.iload_n 1, 1) := by decide +kernel
theorem dX16_common_14 : decode cX16_common 14 = .ok (.iload 5, 2) := by decide +kernel
theorem dX16_common_16 : decode cX16_common 16 = .ok (.iadd, 1) := by decide +kernel
theorem dX16_common_17 : decode cX16_common 17 = .ok (.iaload, 1) := by decide +kernel
theorem dX16_common_18 : decode cX16_common 18 = .ok (.aload_n 2, 1) := by decide +kernel
theorem dX16_common_19 : decode cX16_common 19 = .ok (.iload_n 3, 1) := by decide +kernel
theorem dX16_common_20 : decode cX16_common 20 = .ok (.iload 5, 2) := by decide +kernel
theorem dX16_common_22 : decode cX16_common 22 = .ok (.iadd, 1) := by decide +kernel
theorem dX16_common_23 : decode cX16_common 23 = .ok (.iaload, 1) := by decide +kernel
theorem dX16_common_24 : decode cX16_common 24 = .ok (.ixor, 1) := by decide +kernel
theorem dX16_common_25 : decode cX16_common 25 = .ok (.istore 6, 2) := by decide +kernel
theorem dX16_common_27 : decode cX16_common 27 = .ok (.iload 4, 2) := by decide +kernel
theorem dX16_common_29 : decode cX16_common 29 = .ok (.iload 6, 2) := by decide +kernel
theorem dX16_common_31 : decode cX16_common 31 = .ok (.invokestatic 419, 3) := by decide +kernel
theorem dX16_common_34 : decode cX16_common 34 = .ok (.iadd, 1) := by decide +kernel
theorem dX16_common_35 : decode cX16_common 35 = .ok (.istore 4, 2) := by decide +kernel
theorem dX16_common_37 : decode cX16_common 37 = .ok (.iload 6, 2) := by decide +kernel
theorem dX16_common_39 : decode cX16_common 39 = .ok (.ifCond .eq 6, 3) := by decide +kernel
theorem dX16_common_42 : decode cX16_common 42 = .ok (.iload 4, 2) := by decide +kernel
theorem dX16_common_44 : decode cX16_common 44 = .ok (.ireturn, 1) := by decide +kernel
theorem dX16_common_45 : decode cX16_common 45 = .ok (.iinc 5 1, 3) := by decide +kernel
theorem dX16_common_48 : decode cX16_common 48 = .ok (.goto (-42), 3) := by decide +kernel
theorem dX16_common_51 : decode cX16_common 51 = .ok (.iload 4, 2) := by decide +kernel
theorem dX16_common_53 : decode cX16_common 53 = .ok (.ireturn, 1) := by decide +kernel
def b_X16_common_6 (x0 x1 x2 x3 x4 x5 : Int) (V : VV) : Option ((Int × Int) ⊕ (Int)) :=
  if w32 x5 < w32 5 then
    (lp x0 (x1 + x5) V).bind fun v1 =>
    (lp x2 (x3 + x5) V).bind fun v2 =>
    (f_J1_numberOfLeadingZeros (bxor v1 v2)).bind fun v3 =>
    if w32 (bxor v1 v2) = 0 then
      cnt (x4 + v3, x5 + 1)
    else
      xit (some (x4 + v3))
  else
    xit (some x4)
def l_X16_common_6 (x0 x1 x2 x3 x4 x5 : Int) (V : VV) : Option (Int) := lpN (fun s : Int × Int => b_X16_common_6 x0 x1 x2 x3 s.1 s.2 V) FU (x4, x5)
def f_X16_common (x0 x1 x2 x3 : Int) (V : VV) : Option (Int) :=
  l_X16_common_6 x0 x1 x2 x3 0 0 V
theorem s_X16_common_6 {g : GG} {d : Nat} (hD : 1 ≤ d) {x0 x1 x2 x3 x4 x5 : Int} {M : MM} (hM : LM M) {V : VV} {o : AV × MM} {P : ((Int × Int) ⊕ (Int)) → Prop} (c0 : ∀ s : Int × Int, P (.inl s) → Sem g d YX16_common 6 [(1, x0), (0, x1), (1, x2), (0, x3), (0, s.1), (0, s.2), (9, 0)] [] (wr M V) o) (r0 : ∀ r : Int, P (.inr r) → o = ((0, r), (wr M V))) {z : (Int × Int) ⊕ (Int)} (h : b_X16_common_6 x0 x1 x2 x3 x4 x5 V = some z) (hz : P z) : Sem g d YX16_common 6 [(1, x0), (0, x1), (1, x2), (0, x3), (0, x4), (0, x5), (9, 0)] [] (wr M V) o := by
  delta b_X16_common_6 at h
  refine S_iload dX16_common_6 rfl ?_
  refine S_iconst dX16_common_8 rfl ?_
  refine P_icmp_ge (tgt := 51) dX16_common_9 rfl h (fun h => ?_) (fun h => ?_)
  · obtain ⟨z0, h, hz⟩ := xit_some' (P := fun r => P r) h hz
    refine S_iload dX16_common_51 rfl ?_
    obtain rfl := r0 _ (some_P (P := fun r => P (.inr r)) h hz)
    exact P_ret dX16_common_53 rfl (Or.inl rfl)
  · refine S_aload_n (i := 0) dX16_common_12 rfl rfl ?_
    refine S_iload_n (i := 1) dX16_common_13 rfl rfl ?_
    refine S_iload dX16_common_14 rfl ?_
    refine S_iadd dX16_common_16 ?_
    refine P2_lp hM dX16_common_17 h (fun v1 h => ?_)
    refine S_aload_n (i := 2) dX16_common_18 rfl rfl ?_
    refine S_iload_n (i := 3) dX16_common_19 rfl rfl ?_
    refine S_iload dX16_common_20 rfl ?_
    refine S_iadd dX16_common_22 ?_
    refine P2_lp hM dX16_common_23 h (fun v2 h => ?_)
    refine S_ixor dX16_common_24 ?_
    refine S_istore dX16_common_25 (Nat.le_of_ble_eq_true rfl) rfl rfl ?_
    change Sem g d YX16_common 27 [(1, x0), (0, x1), (1, x2), (0, x3), (0, x4), (0, x5), (0, bxor v1 v2)] [] (wr M V) o
    refine S_iload dX16_common_27 rfl ?_
    refine S_iload dX16_common_29 rfl ?_
    refine P_invSp 0 [(0, bxor v1 v2)] [(0, x4)] CSJ1_numberOfLeadingZeros MLX16_419 dX16_common_31 rfl rfl rfl rfl rfl (by omega) h (fun r h => F_J1_numberOfLeadingZeros (by omega) h) (fun v3 h => ?_)
    refine S_iadd dX16_common_34 ?_
    refine S_istore dX16_common_35 (Nat.le_of_ble_eq_true rfl) rfl rfl ?_
    change Sem g d YX16_common 37 [(1, x0), (0, x1), (1, x2), (0, x3), (0, x4 + v3), (0, x5), (0, bxor v1 v2)] [] (wr M V) o
    refine S_iload dX16_common_37 rfl ?_
    refine P_if_eq (tgt := 45) dX16_common_39 rfl h (fun h => ?_) (fun h => ?_)
    · refine S_iinc dX16_common_45 rfl rfl rfl ?_
      change Sem g d YX16_common 48 [(1, x0), (0, x1), (1, x2), (0, x3), (0, x4 + v3), (0, x5 + 1), (0, bxor v1 v2)] [] (wr M V) o
      refine S_goto (tgt := 6) dX16_common_48 rfl ?_
      refine S_weak (ls' := [(1, x0), (0, x1), (1, x2), (0, x3), (0, x4 + v3), (0, x5 + 1), (9, 0)]) ⟨Or.inr rfl, ⟨Or.inr rfl, ⟨Or.inr rfl, ⟨Or.inr rfl, ⟨Or.inr rfl, ⟨Or.inr rfl, ⟨Or.inl rfl, trivial⟩⟩⟩⟩⟩⟩⟩ ?_
      exact c0 (x4 + v3, x5 + 1) (some_P (P := fun r => P r) h hz)
    · obtain ⟨z0, h, hz⟩ := xit_some' (P := fun r => P r) h hz
      refine S_iload dX16_common_42 rfl ?_
      obtain rfl := r0 _ (some_P (P := fun r => P (.inr r)) h hz)
      exact P_ret dX16_common_44 rfl (Or.inl rfl)
theorem sl_X16_common_6 {g : GG} {d : Nat} (hD : 1 ≤ d) {x0 x1 x2 x3 x4 x5 : Int} {M : MM} (hM : LM M) {V : VV} {o : AV × MM} {P : (Int) → Prop} (r0 : ∀ r : Int, P r → o = ((0, r), (wr M V))) {z : Int} (h : l_X16_common_6 x0 x1 x2 x3 x4 x5 V = some z) (hz : P z) : Sem g d YX16_common 6 [(1, x0), (0, x1), (1, x2), (0, x3), (0, x4), (0, x5), (9, 0)] [] (wr M V) o := by
  refine lp_sound (S := fun s : Int × Int => Sem g d YX16_common 6 [(1, x0), (0, x1), (1, x2), (0, x3), (0, s.1), (0, s.2), (9, 0)] [] (wr M V) o) (P := P) ?_ FU (x4, x5) z h hz
  intro s x hx hP
  exact s_X16_common_6 hD hM (P := Sum.elim (fun s : Int × Int => Sem g d YX16_common 6 [(1, x0), (0, x1), (1, x2), (0, x3), (0, s.1), (0, s.2), (9, 0)] [] (wr M V) o) P) (fun s h => h) (fun s h => r0 s h) hx hP
theorem s_X16_common_0 {g : GG} {d : Nat} (hD : 1 ≤ d) {x0 x1 x2 x3 : Int} {M : MM} (hM : LM M) {V : VV} {o : AV × MM} {P : (Int) → Prop} (r0 : ∀ r : Int, P r → o = ((0, r), (wr M V))) {z : Int} (h : f_X16_common x0 x1 x2 x3 V = some z) (hz : P z) : Sem g d YX16_common 0 [(1, x0), (0, x1), (1, x2), (0, x3), (9, 0), (9, 0), (9, 0)] [] (wr M V) o := by
  delta f_X16_common at h
  refine S_iconst dX16_common_0 rfl ?_
  refine S_istore dX16_common_1 (Nat.le_of_ble_eq_true rfl) rfl rfl ?_
  change Sem g d YX16_common 3 [(1, x0), (0, x1), (1, x2), (0, x3), (0, 0), (9, 0), (9, 0)] [] (wr M V) o
  refine S_iconst dX16_common_3 rfl ?_
  refine S_istore dX16_common_4 (Nat.le_of_ble_eq_true rfl) rfl rfl ?_
  change Sem g d YX16_common 6 [(1, x0), (0, x1), (1, x2), (0, x3), (0, 0), (0, 0), (9, 0)] [] (wr M V) o
  exact sl_X16_common_6 hD hM r0 h hz
theorem F_X16_common {g : GG} {d : Nat} (hD : 1 ≤ d) {x0 x1 x2 x3 : Int} {M : MM} (hM : LM M) {V : VV} {r : Int} (h : f_X16_common x0 x1 x2 x3 V = some r) : Sem g d YX16_common 0 (ini YX16_common [(1, x0), (0, x1), (1, x2), (0, x3)]) [] (wr M V) ((0, r), (wr M V)) := by
  change Sem g d YX16_common 0 [(1, x0), (0, x1), (1, x2), (0, x3), (9, 0), (9, 0), (9, 0)] [] (wr M V) ((0, r), (wr M V))
  exact s_X16_common_0 hD hM (P := fun x => x = r) (fun q e => by rw [e]) h rfl
/-! PeerSearchModel.edge(IIZZ)I -/
theorem dX16_edge_0 : decode cX16_edge 0 = .ok (.iconst (-1), 1) := by decide +kernel
theorem dX16_edge_1 : decode cX16_edge 1 = .ok (.istore 5, 2) := by decide +kernel
theorem dX16_edge_3 : decode cX16_edge 3 = .ok (.sipush 1100, 3) := by decide +kernel
theorem dX16_edge_6 : decode cX16_edge 6 = .ok (.iload_n 1, 1) := by decide +kernel
theorem dX16_edge_7 : decode cX16_edge 7 = .ok (.imul, 1) := by decide +kernel
theorem dX16_edge_8 : decode cX16_edge 8 = .ok (.istore 6, 2) := by decide +kernel
theorem dX16_edge_10 : decode cX16_edge 10 = .ok (.iload 6, 2) := by decide +kernel
theorem dX16_edge_12 : decode cX16_edge 12 = .ok (.sipush 1100, 3) := by decide +kernel
theorem dX16_edge_15 : decode cX16_edge 15 = .ok (.iload_n 1, 1) := by decide +kernel
theorem dX16_edge_16 : decode cX16_edge 16 = .ok (.imul, 1) := by decide +kernel
theorem dX16_edge_17 : decode cX16_edge 17 = .ok (.aload_n 0, 1) := by decide +kernel
theorem dX16_edge_18 : decode cX16_edge 18 = .ok (.getfield 110, 3) := by decide +kernel
theorem dX16_edge_21 : decode cX16_edge 21 = .ok (.iload_n 1, 1) := by decide +kernel
theorem dX16_edge_22 : decode cX16_edge 22 = .ok (.iaload, 1) := by decide +kernel
theorem dX16_edge_23 : decode cX16_edge 23 = .ok (.iadd, 1) := by decide +kernel
theorem dX16_edge_24 : decode cX16_edge 24 = .ok (.if_icmp .ge 67, 3) := by decide +kernel
theorem dX16_edge_27 : decode cX16_edge 27 = .ok (.aload_n 0, 1) := by decide +kernel
theorem dX16_edge_28 : decode cX16_edge 28 = .ok (.getfield 121, 3) := by decide +kernel
theorem dX16_edge_31 : decode cX16_edge 31 = .ok (.iload 6, 2) := by decide +kernel
theorem dX16_edge_33 : decode cX16_edge 33 = .ok (.iaload, 1) := by decide +kernel
theorem dX16_edge_34 : decode cX16_edge 34 = .ok (.iload_n 2, 1) := by decide +kernel
theorem dX16_edge_35 : decode cX16_edge 35 = .ok (.if_icmp .ne 50, 3) := by decide +kernel
theorem dX16_edge_38 : decode cX16_edge 38 = .ok (.aload_n 0, 1) := by decide +kernel
theorem dX16_edge_39 : decode cX16_edge 39 = .ok (.getfield 124, 3) := by decide +kernel
theorem dX16_edge_42 : decode cX16_edge 42 = .ok (.iload 6, 2) := by decide +kernel
theorem dX16_edge_44 : decode cX16_edge 44 = .ok (.baload, 1) := by decide +kernel
theorem dX16_edge_45 : decode cX16_edge 45 = .ok (.iload_n 3, 1) := by decide +kernel
theorem dX16_edge_46 : decode cX16_edge 46 = .ok (.if_icmp .ne 39, 3) := by decide +kernel
theorem dX16_edge_49 : decode cX16_edge 49 = .ok (.iload 5, 2) := by decide +kernel
theorem dX16_edge_51 : decode cX16_edge 51 = .ok (.ifCond .lt 30, 3) := by decide +kernel
theorem dX16_edge_54 : decode cX16_edge 54 = .ok (.aload_n 0, 1) := by decide +kernel
theorem dX16_edge_55 : decode cX16_edge 55 = .ok (.getfield 128, 3) := by decide +kernel
theorem dX16_edge_58 : decode cX16_edge 58 = .ok (.iload 6, 2) := by decide +kernel
theorem dX16_edge_60 : decode cX16_edge 60 = .ok (.iaload, 1) := by decide +kernel
theorem dX16_edge_61 : decode cX16_edge 61 = .ok (.aload_n 0, 1) := by decide +kernel
theorem dX16_edge_62 : decode cX16_edge 62 = .ok (.getfield 128, 3) := by decide +kernel
theorem dX16_edge_65 : decode cX16_edge 65 = .ok (.iload 5, 2) := by decide +kernel
theorem dX16_edge_67 : decode cX16_edge 67 = .ok (.iaload, 1) := by decide +kernel
theorem dX16_edge_68 : decode cX16_edge 68 = .ok (.if_icmp .ge 7, 3) := by decide +kernel
theorem dX16_edge_71 : decode cX16_edge 71 = .ok (.iconst 1, 1) := by decide +kernel
theorem dX16_edge_72 : decode cX16_edge 72 = .ok (.goto 4, 3) := by decide +kernel
theorem dX16_edge_75 : decode cX16_edge 75 = .ok (.iconst 0, 1) := by decide +kernel
theorem dX16_edge_76 : decode cX16_edge 76 = .ok (.iload 4, 2) := by decide +kernel
theorem dX16_edge_78 : decode cX16_edge 78 = .ok (.if_icmp .ne 7, 3) := by decide +kernel
theorem dX16_edge_81 : decode cX16_edge 81 = .ok (.iload 6, 2) := by decide +kernel
theorem dX16_edge_83 : decode cX16_edge 83 = .ok (.istore 5, 2) := by decide +kernel
theorem dX16_edge_85 : decode cX16_edge 85 = .ok (.iinc 6 1, 3) := by decide +kernel
theorem dX16_edge_88 : decode cX16_edge 88 = .ok (.goto (-78), 3) := by decide +kernel
theorem dX16_edge_91 : decode cX16_edge 91 = .ok (.iload 5, 2) := by decide +kernel
theorem dX16_edge_93 : decode cX16_edge 93 = .ok (.ireturn, 1) := by decide +kernel
def j_X16_edge_85 (x1 x2 x3 x4 x5 x6 : Int) (V : VV) : Option ((Int × Int) ⊕ (Int)) :=
  cnt (x5, x6 + 1)
def j_X16_edge_81 (x1 x2 x3 x4 x6 : Int) (V : VV) : Option ((Int × Int) ⊕ (Int)) :=
  j_X16_edge_85 x1 x2 x3 x4 x6 x6 V
def j_X16_edge_76 (x1 x2 x3 x4 x5 x6 y0 : Int) (V : VV) : Option ((Int × Int) ⊕ (Int)) :=
  if w32 y0 = w32 x4 then
    j_X16_edge_81 x1 x2 x3 x4 x6 V
  else
    j_X16_edge_85 x1 x2 x3 x4 x5 x6 V
def b_X16_edge_10 (x1 x2 x3 x4 x5 x6 : Int) (V : VV) : Option ((Int × Int) ⊕ (Int)) :=
  (l2 189 32 x1 V).bind fun v1 =>
  if w32 x6 < w32 ((1100 * x1) + v1) then
    (l2 192 35200 x6 V).bind fun v2 =>
    if w32 v2 = w32 x2 then
      (l2 193 35200 x6 V).bind fun v3 =>
      if w32 v3 = w32 x3 then
        if w32 x5 < 0 then
          j_X16_edge_81 x1 x2 x3 x4 x6 V
        else
          (l2 194 35200 x6 V).bind fun v4 =>
          (l2 194 35200 x5 V).bind fun v5 =>
          if w32 v4 < w32 v5 then
            j_X16_edge_76 x1 x2 x3 x4 x5 x6 1 V
          else
            j_X16_edge_76 x1 x2 x3 x4 x5 x6 0 V
      else
        j_X16_edge_85 x1 x2 x3 x4 x5 x6 V
    else
      j_X16_edge_85 x1 x2 x3 x4 x5 x6 V
  else
    xit (some x5)
def l_X16_edge_10 (x1 x2 x3 x4 x5 x6 : Int) (V : VV) : Option (Int) := lpN (fun s : Int × Int => b_X16_edge_10 x1 x2 x3 x4 s.1 s.2 V) FU (x5, x6)
def f_X16_edge (x1 x2 x3 x4 : Int) (V : VV) : Option (Int) :=
  l_X16_edge_10 x1 x2 x3 x4 (-1) (1100 * x1) V
theorem s_X16_edge_85 {g : GG} {d : Nat} (hD : 0 ≤ d) {x1 x2 x3 x4 x5 x6 : Int} {M : MM} (hM : LM M) {V : VV} {o : AV × MM} {P : ((Int × Int) ⊕ (Int)) → Prop} (c0 : ∀ s : Int × Int, P (.inl s) → Sem g d YX16_edge 10 [(1, 156), (0, x1), (0, x2), (0, x3), (0, x4), (0, s.1), (0, s.2)] [] (wr M V) o) (r0 : ∀ r : Int, P (.inr r) → o = ((0, r), (wr M V))) {z : (Int × Int) ⊕ (Int)} (h : j_X16_edge_85 x1 x2 x3 x4 x5 x6 V = some z) (hz : P z) : Sem g d YX16_edge 85 [(1, 156), (0, x1), (0, x2), (0, x3), (0, x4), (0, x5), (0, x6)] [] (wr M V) o := by
  delta j_X16_edge_85 at h
  refine S_iinc dX16_edge_85 rfl rfl rfl ?_
  change Sem g d YX16_edge 88 [(1, 156), (0, x1), (0, x2), (0, x3), (0, x4), (0, x5), (0, x6 + 1)] [] (wr M V) o
  refine S_goto (tgt := 10) dX16_edge_88 rfl ?_
  exact c0 (x5, x6 + 1) (some_P (P := fun r => P r) h hz)
theorem s_X16_edge_81 {g : GG} {d : Nat} (hD : 0 ≤ d) {x1 x2 x3 x4 x6 : Int} {M : MM} (hM : LM M) {V : VV} {o : AV × MM} {P : ((Int × Int) ⊕ (Int)) → Prop} (c0 : ∀ s : Int × Int, P (.inl s) → Sem g d YX16_edge 10 [(1, 156), (0, x1), (0, x2), (0, x3), (0, x4), (0, s.1), (0, s.2)] [] (wr M V) o) (r0 : ∀ r : Int, P (.inr r) → o = ((0, r), (wr M V))) {z : (Int × Int) ⊕ (Int)} (h : j_X16_edge_81 x1 x2 x3 x4 x6 V = some z) (hz : P z) : Sem g d YX16_edge 81 [(1, 156), (0, x1), (0, x2), (0, x3), (0, x4), (9, 0), (0, x6)] [] (wr M V) o := by
  delta j_X16_edge_81 at h
  refine S_iload dX16_edge_81 rfl ?_
  refine S_istore dX16_edge_83 (Nat.le_of_ble_eq_true rfl) rfl rfl ?_
  change Sem g d YX16_edge 85 [(1, 156), (0, x1), (0, x2), (0, x3), (0, x4), (0, x6), (0, x6)] [] (wr M V) o
  exact s_X16_edge_85 hD hM c0 r0 h hz
theorem s_X16_edge_76 {g : GG} {d : Nat} (hD : 0 ≤ d) {x1 x2 x3 x4 x5 x6 y0 : Int} {M : MM} (hM : LM M) {V : VV} {o : AV × MM} {P : ((Int × Int) ⊕ (Int)) → Prop} (c0 : ∀ s : Int × Int, P (.inl s) → Sem g d YX16_edge 10 [(1, 156), (0, x1), (0, x2), (0, x3), (0, x4), (0, s.1), (0, s.2)] [] (wr M V) o) (r0 : ∀ r : Int, P (.inr r) → o = ((0, r), (wr M V))) {z : (Int × Int) ⊕ (Int)} (h : j_X16_edge_76 x1 x2 x3 x4 x5 x6 y0 V = some z) (hz : P z) : Sem g d YX16_edge 76 [(1, 156), (0, x1), (0, x2), (0, x3), (0, x4), (0, x5), (0, x6)] [(0, y0)] (wr M V) o := by
  delta j_X16_edge_76 at h
  refine S_iload dX16_edge_76 rfl ?_
  refine P_icmp_ne (tgt := 85) dX16_edge_78 rfl h (fun h => ?_) (fun h => ?_)
  · exact s_X16_edge_85 hD hM c0 r0 h hz
  · refine S_weak (ls' := [(1, 156), (0, x1), (0, x2), (0, x3), (0, x4), (9, 0), (0, x6)]) ⟨Or.inr rfl, ⟨Or.inr rfl, ⟨Or.inr rfl, ⟨Or.inr rfl, ⟨Or.inr rfl, ⟨Or.inl rfl, ⟨Or.inr rfl, trivial⟩⟩⟩⟩⟩⟩⟩ ?_
    exact s_X16_edge_81 hD hM c0 r0 h hz
theorem s_X16_edge_10 {g : GG} {d : Nat} (hD : 0 ≤ d) {x1 x2 x3 x4 x5 x6 : Int} {M : MM} (hM : LM M) {V : VV} {o : AV × MM} {P : ((Int × Int) ⊕ (Int)) → Prop} (c0 : ∀ s : Int × Int, P (.inl s) → Sem g d YX16_edge 10 [(1, 156), (0, x1), (0, x2), (0, x3), (0, x4), (0, s.1), (0, s.2)] [] (wr M V) o) (r0 : ∀ r : Int, P (.inr r) → o = ((0, r), (wr M V))) {z : (Int × Int) ⊕ (Int)} (h : b_X16_edge_10 x1 x2 x3 x4 x5 x6 V = some z) (hz : P z) : Sem g d YX16_edge 10 [(1, 156), (0, x1), (0, x2), (0, x3), (0, x4), (0, x5), (0, x6)] [] (wr M V) o := by
  delta b_X16_edge_10 at h
  refine S_iload dX16_edge_10 rfl ?_
  refine S_sipush (z := 1100) dX16_edge_12 rfl ?_
  refine S_iload_n (i := 1) dX16_edge_15 rfl rfl ?_
  refine S_imul dX16_edge_16 ?_
  refine S_aload_n (i := 0) dX16_edge_17 rfl rfl ?_
  refine P2_gfr hM (a := 189) FLX16_110 rfl ⟨rfl, rfl⟩ dX16_edge_18 ?_
  refine S_iload_n (i := 1) dX16_edge_21 rfl rfl ?_
  refine P2_lai hM (a := 189) (n := 32) rfl dX16_edge_22 h (fun v1 h => ?_)
  refine S_iadd dX16_edge_23 ?_
  refine P_icmp_ge (tgt := 91) dX16_edge_24 rfl h (fun h => ?_) (fun h => ?_)
  · obtain ⟨z0, h, hz⟩ := xit_some' (P := fun r => P r) h hz
    refine S_iload dX16_edge_91 rfl ?_
    obtain rfl := r0 _ (some_P (P := fun r => P (.inr r)) h hz)
    exact P_ret dX16_edge_93 rfl (Or.inl rfl)
  · refine S_aload_n (i := 0) dX16_edge_27 rfl rfl ?_
    refine P2_gfr hM (a := 192) FLX16_121 rfl ⟨rfl, rfl⟩ dX16_edge_28 ?_
    refine S_iload dX16_edge_31 rfl ?_
    refine P2_lai hM (a := 192) (n := 35200) rfl dX16_edge_33 h (fun v2 h => ?_)
    refine S_iload_n (i := 2) dX16_edge_34 rfl rfl ?_
    refine P_icmp_ne (tgt := 85) dX16_edge_35 rfl h (fun h => ?_) (fun h => ?_)
    · exact s_X16_edge_85 hD hM c0 r0 h hz
    · refine S_aload_n (i := 0) dX16_edge_38 rfl rfl ?_
      refine P2_gfr hM (a := 193) FLX16_124 rfl ⟨rfl, rfl⟩ dX16_edge_39 ?_
      refine S_iload dX16_edge_42 rfl ?_
      refine P2_laz hM (a := 193) (n := 35200) rfl dX16_edge_44 h (fun v3 h => ?_)
      refine S_iload_n (i := 3) dX16_edge_45 rfl rfl ?_
      refine P_icmp_ne (tgt := 85) dX16_edge_46 rfl h (fun h => ?_) (fun h => ?_)
      · exact s_X16_edge_85 hD hM c0 r0 h hz
      · refine S_iload dX16_edge_49 rfl ?_
        refine P_if_lt (tgt := 81) dX16_edge_51 rfl h (fun h => ?_) (fun h => ?_)
        · refine S_weak (ls' := [(1, 156), (0, x1), (0, x2), (0, x3), (0, x4), (9, 0), (0, x6)]) ⟨Or.inr rfl, ⟨Or.inr rfl, ⟨Or.inr rfl, ⟨Or.inr rfl, ⟨Or.inr rfl, ⟨Or.inl rfl, ⟨Or.inr rfl, trivial⟩⟩⟩⟩⟩⟩⟩ ?_
          exact s_X16_edge_81 hD hM c0 r0 h hz
        · refine S_aload_n (i := 0) dX16_edge_54 rfl rfl ?_
          refine P2_gfr hM (a := 194) FLX16_128 rfl ⟨rfl, rfl⟩ dX16_edge_55 ?_
          refine S_iload dX16_edge_58 rfl ?_
          refine P2_lai hM (a := 194) (n := 35200) rfl dX16_edge_60 h (fun v4 h => ?_)
          refine S_aload_n (i := 0) dX16_edge_61 rfl rfl ?_
          refine P2_gfr hM (a := 194) FLX16_128 rfl ⟨rfl, rfl⟩ dX16_edge_62 ?_
          refine S_iload dX16_edge_65 rfl ?_
          refine P2_lai hM (a := 194) (n := 35200) rfl dX16_edge_67 h (fun v5 h => ?_)
          refine P_icmp_ge (tgt := 75) dX16_edge_68 rfl h (fun h => ?_) (fun h => ?_)
          · refine S_iconst dX16_edge_75 rfl ?_
            exact s_X16_edge_76 hD hM c0 r0 h hz
          · refine S_iconst dX16_edge_71 rfl ?_
            refine S_goto (tgt := 76) dX16_edge_72 rfl ?_
            exact s_X16_edge_76 hD hM c0 r0 h hz
theorem sl_X16_edge_10 {g : GG} {d : Nat} (hD : 0 ≤ d) {x1 x2 x3 x4 x5 x6 : Int} {M : MM} (hM : LM M) {V : VV} {o : AV × MM} {P : (Int) → Prop} (r0 : ∀ r : Int, P r → o = ((0, r), (wr M V))) {z : Int} (h : l_X16_edge_10 x1 x2 x3 x4 x5 x6 V = some z) (hz : P z) : Sem g d YX16_edge 10 [(1, 156), (0, x1), (0, x2), (0, x3), (0, x4), (0, x5), (0, x6)] [] (wr M V) o := by
  refine lp_sound (S := fun s : Int × Int => Sem g d YX16_edge 10 [(1, 156), (0, x1), (0, x2), (0, x3), (0, x4), (0, s.1), (0, s.2)] [] (wr M V) o) (P := P) ?_ FU (x5, x6) z h hz
  intro s x hx hP
  exact s_X16_edge_10 hD hM (P := Sum.elim (fun s : Int × Int => Sem g d YX16_edge 10 [(1, 156), (0, x1), (0, x2), (0, x3), (0, x4), (0, s.1), (0, s.2)] [] (wr M V) o) P) (fun s h => h) (fun s h => r0 s h) hx hP
theorem s_X16_edge_0 {g : GG} {d : Nat} (hD : 0 ≤ d) {x1 x2 x3 x4 : Int} {M : MM} (hM : LM M) {V : VV} {o : AV × MM} {P : (Int) → Prop} (r0 : ∀ r : Int, P r → o = ((0, r), (wr M V))) {z : Int} (h : f_X16_edge x1 x2 x3 x4 V = some z) (hz : P z) : Sem g d YX16_edge 0 [(1, 156), (0, x1), (0, x2), (0, x3), (0, x4), (9, 0), (9, 0)] [] (wr M V) o := by
  delta f_X16_edge at h
  refine S_iconst dX16_edge_0 rfl ?_
  refine S_istore dX16_edge_1 (Nat.le_of_ble_eq_true rfl) rfl rfl ?_
  change Sem g d YX16_edge 3 [(1, 156), (0, x1), (0, x2), (0, x3), (0, x4), (0, (-1)), (9, 0)] [] (wr M V) o
  refine S_sipush (z := 1100) dX16_edge_3 rfl ?_
  refine S_iload_n (i := 1) dX16_edge_6 rfl rfl ?_
  refine S_imul dX16_edge_7 ?_
  refine S_istore dX16_edge_8 (Nat.le_of_ble_eq_true rfl) rfl rfl ?_
  change Sem g d YX16_edge 10 [(1, 156), (0, x1), (0, x2), (0, x3), (0, x4), (0, (-1)), (0, 1100 * x1)] [] (wr M V) o
  exact sl_X16_edge_10 hD hM r0 h hz
theorem F_X16_edge {g : GG} {d : Nat} (hD : 0 ≤ d) {x1 x2 x3 x4 : Int} {M : MM} (hM : LM M) {V : VV} {r : Int} (h : f_X16_edge x1 x2 x3 x4 V = some r) : Sem g d YX16_edge 0 (ini YX16_edge [(1, 156), (0, x1), (0, x2), (0, x3), (0, x4)]) [] (wr M V) ((0, r), (wr M V)) := by
  change Sem g d YX16_edge 0 [(1, 156), (0, x1), (0, x2), (0, x3), (0, x4), (9, 0), (9, 0)] [] (wr M V) ((0, r), (wr M V))
  exact s_X16_edge_0 hD hM (P := fun x => x = r) (fun q e => by rw [e]) h rfl
/-! PeerSearchModel.inBucket(IIZ)I -/
theorem dX16_inBucket_0 : decode cX16_inBucket 0 = .ok (.iconst 0, 1) := by decide +kernel
theorem dX16_inBucket_1 : decode cX16_inBucket 1 = .ok (.istore 4, 2) := by decide +kernel
theorem dX16_inBucket_3 : decode cX16_inBucket 3 = .ok (.sipush 1100, 3) := by decide +kernel
theorem dX16_inBucket_6 : decode cX16_inBucket 6 = .ok (.iload_n 1, 1) := by decide +kernel
theorem dX16_inBucket_7 : decode cX16_inBucket 7 = .ok (.imul, 1) := by decide +kernel
theorem dX16_inBucket_8 : decode cX16_inBucket 8 = .ok (.istore 5, 2) := by decide +kernel
theorem dX16_inBucket_10 : decode cX16_inBucket 10 = .ok (.iload 5, 2) := by decide +kernel
theorem dX16_inBucket_12 : decode cX16_inBucket 12 = .ok (.sipush 1100, 3) := by decide +kernel
theorem dX16_inBucket_15 : decode cX16_inBucket 15 = .ok (.iload_n 1, 1) := by decide +kernel
theorem dX16_inBucket_16 : decode cX16_inBucket 16 = .ok (.imul, 1) := by decide +kernel
theorem dX16_inBucket_17 : decode cX16_inBucket 17 = .ok (.aload_n 0, 1) := by decide +kernel
theorem dX16_inBucket_18 : decode cX16_inBucket 18 = .ok (.getfield 110, 3) := by decide +kernel
theorem dX16_inBucket_21 : decode cX16_inBucket 21 = .ok (.iload_n 1, 1) := by decide +kernel
theorem dX16_inBucket_22 : decode cX16_inBucket 22 = .ok (.iaload, 1) := by decide +kernel
theorem dX16_inBucket_23 : decode cX16_inBucket 23 = .ok (.iadd, 1) := by decide +kernel
theorem dX16_inBucket_24 : decode cX16_inBucket 24 = .ok (.if_icmp .ge 41, 3) := by decide +kernel
theorem dX16_inBucket_27 : decode cX16_inBucket 27 = .ok (.iload 4, 2) := by decide +kernel
theorem dX16_inBucket_29 : decode cX16_inBucket 29 = .ok (.aload_n 0, 1) := by decide +kernel
theorem dX16_inBucket_30 : decode cX16_inBucket 30 = .ok (.getfield 121, 3) := by decide +kernel
theorem dX16_inBucket_33 : decode cX16_inBucket 33 = .ok (.iload 5, 2) := by decide +kernel
theorem dX16_inBucket_35 : decode cX16_inBucket 35 = .ok (.iaload, 1) := by decide +kernel
theorem dX16_inBucket_36 : decode cX16_inBucket 36 = .ok (.iload_n 2, 1) := by decide +kernel
theorem dX16_inBucket_37 : decode cX16_inBucket 37 = .ok (.if_icmp .ne 18, 3) := by decide +kernel
theorem dX16_inBucket_40 : decode cX16_inBucket 40 = .ok (.aload_n 0, 1) := by decide +kernel
theorem dX16_inBucket_41 : decode cX16_inBucket 41 = .ok (.getfield 124, 3) := by decide +kernel
theorem dX16_inBucket_44 : decode cX16_inBucket 44 = .ok (.iload 5, 2) := by decide +kernel
theorem dX16_inBucket_46 : decode cX16_inBucket 46 = .ok (.baload, 1) := by decide +kernel
theorem dX16_inBucket_47 : decode cX16_inBucket 47 = .ok (.iload_n 3, 1) := by decide +kernel
theorem dX16_inBucket_48 : decode cX16_inBucket 48 = .ok (.if_icmp .ne 7, 3) := by decide +kernel
theorem dX16_inBucket_51 : decode cX16_inBucket 51 = .ok (.iconst 1, 1) := by decide +kernel
theorem dX16_inBucket_52 : decode cX16_inBucket 52 = .ok (.goto 4, 3) := by decide +kernel
theorem dX16_inBucket_55 : decode cX16_inBucket 55 = .ok (.iconst 0, 1) := by decide +kernel
theorem dX16_inBucket_56 : decode cX16_inBucket 56 = .ok (.iadd, 1) := by decide +kernel
theorem dX16_inBucket_57 : decode cX16_inBucket 57 = .ok (.istore 4, 2) := by decide +kernel
theorem dX16_inBucket_59 : decode cX16_inBucket 59 = .ok (.iinc 5 1, 3) := by decide +kernel
theorem dX16_inBucket_62 : decode cX16_inBucket 62 = .ok (.goto (-52), 3) := by decide +kernel
theorem dX16_inBucket_65 : decode cX16_inBucket 65 = .ok (.iload 4, 2) := by decide +kernel
theorem dX16_inBucket_67 : decode cX16_inBucket 67 = .ok (.ireturn, 1) := by decide +kernel
def j_X16_inBucket_56 (x1 x2 x3 x5 y0 y1 : Int) (V : VV) : Option ((Int × Int) ⊕ (Int)) :=
  cnt (y0 + y1, x5 + 1)
def j_X16_inBucket_55 (x1 x2 x3 x5 y0 : Int) (V : VV) : Option ((Int × Int) ⊕ (Int)) :=
  j_X16_inBucket_56 x1 x2 x3 x5 y0 0 V
def b_X16_inBucket_10 (x1 x2 x3 x4 x5 : Int) (V : VV) : Option ((Int × Int) ⊕ (Int)) :=
  (l2 189 32 x1 V).bind fun v1 =>
  if w32 x5 < w32 ((1100 * x1) + v1) then
    (l2 192 35200 x5 V).bind fun v2 =>
    if w32 v2 = w32 x2 then
      (l2 193 35200 x5 V).bind fun v3 =>
      if w32 v3 = w32 x3 then
        j_X16_inBucket_56 x1 x2 x3 x5 x4 1 V
      else
        j_X16_inBucket_55 x1 x2 x3 x5 x4 V
    else
      j_X16_inBucket_55 x1 x2 x3 x5 x4 V
  else
    xit (some x4)
def l_X16_inBucket_10 (x1 x2 x3 x4 x5 : Int) (V : VV) : Option (Int) := lpN (fun s : Int × Int => b_X16_inBucket_10 x1 x2 x3 s.1 s.2 V) FU (x4, x5)
def f_X16_inBucket (x1 x2 x3 : Int) (V : VV) : Option (Int) :=
  l_X16_inBucket_10 x1 x2 x3 0 (1100 * x1) V
theorem s_X16_inBucket_56 {g : GG} {d : Nat} (hD : 0 ≤ d) {x1 x2 x3 x5 y0 y1 : Int} {M : MM} (hM : LM M) {V : VV} {o : AV × MM} {P : ((Int × Int) ⊕ (Int)) → Prop} (c0 : ∀ s : Int × Int, P (.inl s) → Sem g d YX16_inBucket 10 [(1, 156), (0, x1), (0, x2), (0, x3), (0, s.1), (0, s.2)] [] (wr M V) o) (r0 : ∀ r : Int, P (.inr r) → o = ((0, r), (wr M V))) {z : (Int × Int) ⊕ (Int)} (h : j_X16_inBucket_56 x1 x2 x3 x5 y0 y1 V = some z) (hz : P z) : Sem g d YX16_inBucket 56 [(1, 156), (0, x1), (0, x2), (0, x3), (9, 0), (0, x5)] [(0, y1), (0, y0)] (wr M V) o := by
  delta j_X16_inBucket_56 at h
  refine S_iadd dX16_inBucket_56 ?_
  refine S_istore dX16_inBucket_57 (Nat.le_of_ble_eq_true rfl) rfl rfl ?_
  change Sem g d YX16_inBucket 59 [(1, 156), (0, x1), (0, x2), (0, x3), (0, y0 + y1), (0, x5)] [] (wr M V) o
  refine S_iinc dX16_inBucket_59 rfl rfl rfl ?_
  change Sem g d YX16_inBucket 62 [(1, 156), (0, x1), (0, x2), (0, x3), (0, y0 + y1), (0, x5 + 1)] [] (wr M V) o
  refine S_goto (tgt := 10) dX16_inBucket_62 rfl ?_
  exact c0 (y0 + y1, x5 + 1) (some_P (P := fun r => P r) h hz)
theorem s_X16_inBucket_55 {g : GG} {d : Nat} (hD : 0 ≤ d) {x1 x2 x3 x5 y0 : Int} {M : MM} (hM : LM M) {V : VV} {o : AV × MM} {P : ((Int × Int) ⊕ (Int)) → Prop} (c0 : ∀ s : Int × Int, P (.inl s) → Sem g d YX16_inBucket 10 [(1, 156), (0, x1), (0, x2), (0, x3), (0, s.1), (0, s.2)] [] (wr M V) o) (r0 : ∀ r : Int, P (.inr r) → o = ((0, r), (wr M V))) {z : (Int × Int) ⊕ (Int)} (h : j_X16_inBucket_55 x1 x2 x3 x5 y0 V = some z) (hz : P z) : Sem g d YX16_inBucket 55 [(1, 156), (0, x1), (0, x2), (0, x3), (9, 0), (0, x5)] [(0, y0)] (wr M V) o := by
  delta j_X16_inBucket_55 at h
  refine S_iconst dX16_inBucket_55 rfl ?_
  exact s_X16_inBucket_56 hD hM c0 r0 h hz
theorem s_X16_inBucket_10 {g : GG} {d : Nat} (hD : 0 ≤ d) {x1 x2 x3 x4 x5 : Int} {M : MM} (hM : LM M) {V : VV} {o : AV × MM} {P : ((Int × Int) ⊕ (Int)) → Prop} (c0 : ∀ s : Int × Int, P (.inl s) → Sem g d YX16_inBucket 10 [(1, 156), (0, x1), (0, x2), (0, x3), (0, s.1), (0, s.2)] [] (wr M V) o) (r0 : ∀ r : Int, P (.inr r) → o = ((0, r), (wr M V))) {z : (Int × Int) ⊕ (Int)} (h : b_X16_inBucket_10 x1 x2 x3 x4 x5 V = some z) (hz : P z) : Sem g d YX16_inBucket 10 [(1, 156), (0, x1), (0, x2), (0, x3), (0, x4), (0, x5)] [] (wr M V) o := by
  delta b_X16_inBucket_10 at h
  refine S_iload dX16_inBucket_10 rfl ?_
  refine S_sipush (z := 1100) dX16_inBucket_12 rfl ?_
  refine S_iload_n (i := 1) dX16_inBucket_15 rfl rfl ?_
  refine S_imul dX16_inBucket_16 ?_
  refine S_aload_n (i := 0) dX16_inBucket_17 rfl rfl ?_
  refine P2_gfr hM (a := 189) FLX16_110 rfl ⟨rfl, rfl⟩ dX16_inBucket_18 ?_
  refine S_iload_n (i := 1) dX16_inBucket_21 rfl rfl ?_
  refine P2_lai hM (a := 189) (n := 32) rfl dX16_inBucket_22 h (fun v1 h => ?_)
  refine S_iadd dX16_inBucket_23 ?_
  refine P_icmp_ge (tgt := 65) dX16_inBucket_24 rfl h (fun h => ?_) (fun h => ?_)
  · obtain ⟨z0, h, hz⟩ := xit_some' (P := fun r => P r) h hz
    refine S_iload dX16_inBucket_65 rfl ?_
    obtain rfl := r0 _ (some_P (P := fun r => P (.inr r)) h hz)
    exact P_ret dX16_inBucket_67 rfl (Or.inl rfl)
  · refine S_iload dX16_inBucket_27 rfl ?_
    refine S_aload_n (i := 0) dX16_inBucket_29 rfl rfl ?_
    refine P2_gfr hM (a := 192) FLX16_121 rfl ⟨rfl, rfl⟩ dX16_inBucket_30 ?_
    refine S_iload dX16_inBucket_33 rfl ?_
    refine P2_lai hM (a := 192) (n := 35200) rfl dX16_inBucket_35 h (fun v2 h => ?_)
    refine S_iload_n (i := 2) dX16_inBucket_36 rfl rfl ?_
    refine P_icmp_ne (tgt := 55) dX16_inBucket_37 rfl h (fun h => ?_) (fun h => ?_)
    · refine S_weak (ls' := [(1, 156), (0, x1), (0, x2), (0, x3), (9, 0), (0, x5)]) ⟨Or.inr rfl, ⟨Or.inr rfl, ⟨Or.inr rfl, ⟨Or.inr rfl, ⟨Or.inl rfl, ⟨Or.inr rfl, trivial⟩⟩⟩⟩⟩⟩ ?_
      exact s_X16_inBucket_55 hD hM c0 r0 h hz
    · refine S_aload_n (i := 0) dX16_inBucket_40 rfl rfl ?_
      refine P2_gfr hM (a := 193) FLX16_124 rfl ⟨rfl, rfl⟩ dX16_inBucket_41 ?_
      refine S_iload dX16_inBucket_44 rfl ?_
      refine P2_laz hM (a := 193) (n := 35200) rfl dX16_inBucket_46 h (fun v3 h => ?_)
      refine S_iload_n (i := 3) dX16_inBucket_47 rfl rfl ?_
      refine P_icmp_ne (tgt := 55) dX16_inBucket_48 rfl h (fun h => ?_) (fun h => ?_)
      · refine S_weak (ls' := [(1, 156), (0, x1), (0, x2), (0, x3), (9, 0), (0, x5)]) ⟨Or.inr rfl, ⟨Or.inr rfl, ⟨Or.inr rfl, ⟨Or.inr rfl, ⟨Or.inl rfl, ⟨Or.inr rfl, trivial⟩⟩⟩⟩⟩⟩ ?_
        exact s_X16_inBucket_55 hD hM c0 r0 h hz
      · refine S_iconst dX16_inBucket_51 rfl ?_
        refine S_goto (tgt := 56) dX16_inBucket_52 rfl ?_
        refine S_weak (ls' := [(1, 156), (0, x1), (0, x2), (0, x3), (9, 0), (0, x5)]) ⟨Or.inr rfl, ⟨Or.inr rfl, ⟨Or.inr rfl, ⟨Or.inr rfl, ⟨Or.inl rfl, ⟨Or.inr rfl, trivial⟩⟩⟩⟩⟩⟩ ?_
        exact s_X16_inBucket_56 hD hM c0 r0 h hz
theorem sl_X16_inBucket_10 {g : GG} {d : Nat} (hD : 0 ≤ d) {x1 x2 x3 x4 x5 : Int} {M : MM} (hM : LM M) {V : VV} {o : AV × MM} {P : (Int) → Prop} (r0 : ∀ r : Int, P r → o = ((0, r), (wr M V))) {z : Int} (h : l_X16_inBucket_10 x1 x2 x3 x4 x5 V = some z) (hz : P z) : Sem g d YX16_inBucket 10 [(1, 156), (0, x1), (0, x2), (0, x3), (0, x4), (0, x5)] [] (wr M V) o := by
  refine lp_sound (S := fun s : Int × Int => Sem g d YX16_inBucket 10 [(1, 156), (0, x1), (0, x2), (0, x3), (0, s.1), (0, s.2)] [] (wr M V) o) (P := P) ?_ FU (x4, x5) z h hz
  intro s x hx hP
  exact s_X16_inBucket_10 hD hM (P := Sum.elim (fun s : Int × Int => Sem g d YX16_inBucket 10 [(1, 156), (0, x1), (0, x2), (0, x3), (0, s.1), (0, s.2)] [] (wr M V) o) P) (fun s h => h) (fun s h => r0 s h) hx hP
theorem s_X16_inBucket_0 {g : GG} {d : Nat} (hD : 0 ≤ d) {x1 x2 x3 : Int} {M : MM} (hM : LM M) {V : VV} {o : AV × MM} {P : (Int) → Prop} (r0 : ∀ r : Int, P r → o = ((0, r), (wr M V))) {z : Int} (h : f_X16_inBucket x1 x2 x3 V = some z) (hz : P z) : Sem g d YX16_inBucket 0 [(1, 156), (0, x1), (0, x2), (0, x3), (9, 0), (9, 0)] [] (wr M V) o := by
  delta f_X16_inBucket at h
  refine S_iconst dX16_inBucket_0 rfl ?_
  refine S_istore dX16_inBucket_1 (Nat.le_of_ble_eq_true rfl) rfl rfl ?_
  change Sem g d YX16_inBucket 3 [(1, 156), (0, x1), (0, x2), (0, x3), (0, 0), (9, 0)] [] (wr M V) o
  refine S_sipush (z := 1100) dX16_inBucket_3 rfl ?_
  refine S_iload_n (i := 1) dX16_inBucket_6 rfl rfl ?_
  refine S_imul dX16_inBucket_7 ?_
  refine S_istore dX16_inBucket_8 (Nat.le_of_ble_eq_true rfl) rfl rfl ?_
  change Sem g d YX16_inBucket 10 [(1, 156), (0, x1), (0, x2), (0, x3), (0, 0), (0, 1100 * x1)] [] (wr M V) o
  exact sl_X16_inBucket_10 hD hM r0 h hz
theorem F_X16_inBucket {g : GG} {d : Nat} (hD : 0 ≤ d) {x1 x2 x3 : Int} {M : MM} (hM : LM M) {V : VV} {r : Int} (h : f_X16_inBucket x1 x2 x3 V = some r) : Sem g d YX16_inBucket 0 (ini YX16_inBucket [(1, 156), (0, x1), (0, x2), (0, x3)]) [] (wr M V) ((0, r), (wr M V)) := by
  change Sem g d YX16_inBucket 0 [(1, 156), (0, x1), (0, x2), (0, x3), (9, 0), (9, 0)] [] (wr M V) ((0, r), (wr M V))
  exact s_X16_inBucket_0 hD hM (P := fun x => x = r) (fun q e => by rw [e]) h rfl
/-! PeerSearchModel.probes(II)Z -/
theorem dX16_probes_0 : decode cX16_probes 0 = .ok (.iconst 0, 1) := by decide +kernel
theorem dX16_probes_1 : decode cX16_probes 1 = .ok (.istore_n 3, 1) := by decide +kernel
theorem dX16_probes_2 : decode cX16_probes 2 = .ok (.bipush 40, 2) := by decide +kernel
theorem dX16_probes_4 : decode cX16_probes 4 = .ok (.iload_n 1, 1) := by decide +kernel
theorem dX16_probes_5 : decode cX16_probes 5 = .ok (.imul, 1) := by decide +kernel
theorem dX16_probes_6 : decode cX16_probes 6 = .ok (.istore 4, 2) := by decide +kernel
theorem dX16_probes_8 : decode cX16_probes 8 = .ok (.iload 4, 2) := by decide +kernel
theorem dX16_probes_10 : decode cX16_probes 10 = .ok (.bipush 40, 2) := by decide +kernel
theorem dX16_probes_12 : decode cX16_probes 12 = .ok (.iload_n 1, 1) := by decide +kernel
theorem dX16_probes_13 : decode cX16_probes 13 = .ok (.imul, 1) := by decide +kernel
theorem dX16_probes_14 : decode cX16_probes 14 = .ok (.bipush 40, 2) := by decide +kernel
theorem dX16_probes_16 : decode cX16_probes 16 = .ok (.iadd, 1) := by decide +kernel
theorem dX16_probes_17 : decode cX16_probes 17 = .ok (.if_icmp .ge 40, 3) := by decide +kernel
theorem dX16_probes_20 : decode cX16_probes 20 = .ok (.iload_n 3, 1) := by decide +kernel
theorem dX16_probes_21 : decode cX16_probes 21 = .ok (.ifCond .ne 24, 3) := by decide +kernel
theorem dX16_probes_24 : decode cX16_probes 24 = .ok (.aload_n 0, 1) := by decide +kernel
theorem dX16_probes_25 : decode cX16_probes 25 = .ok (.getfield 137, 3) := by decide +kernel
theorem dX16_probes_28 : decode cX16_probes 28 = .ok (.iload 4, 2) := by decide +kernel
theorem dX16_probes_30 : decode cX16_probes 30 = .ok (.baload, 1) := by decide +kernel
theorem dX16_probes_31 : decode cX16_probes 31 = .ok (.ifCond .eq 18, 3) := by decide +kernel
theorem dX16_probes_34 : decode cX16_probes 34 = .ok (.aload_n 0, 1) := by decide +kernel
theorem dX16_probes_35 : decode cX16_probes 35 = .ok (.getfield 164, 3) := by decide +kernel
theorem dX16_probes_38 : decode cX16_probes 38 = .ok (.iload 4, 2) := by decide +kernel
theorem dX16_probes_40 : decode cX16_probes 40 = .ok (.iaload, 1) := by decide +kernel
theorem dX16_probes_41 : decode cX16_probes 41 = .ok (.iload_n 2, 1) := by decide +kernel
theorem dX16_probes_42 : decode cX16_probes 42 = .ok (.if_icmp .ne 7, 3) := by decide +kernel
theorem dX16_probes_45 : decode cX16_probes 45 = .ok (.iconst 1, 1) := by decide +kernel
theorem dX16_probes_46 : decode cX16_probes 46 = .ok (.goto 4, 3) := by decide +kernel
theorem dX16_probes_49 : decode cX16_probes 49 = .ok (.iconst 0, 1) := by decide +kernel
theorem dX16_probes_50 : decode cX16_probes 50 = .ok (.istore_n 3, 1) := by decide +kernel
theorem dX16_probes_51 : decode cX16_probes 51 = .ok (.iinc 4 1, 3) := by decide +kernel
theorem dX16_probes_54 : decode cX16_probes 54 = .ok (.goto (-46), 3) := by decide +kernel
theorem dX16_probes_57 : decode cX16_probes 57 = .ok (.iload_n 3, 1) := by decide +kernel
theorem dX16_probes_58 : decode cX16_probes 58 = .ok (.ireturn, 1) := by decide +kernel
def j_X16_probes_50 (x1 x2 x4 y0 : Int) (V : VV) : Option ((Int × Int) ⊕ (Int)) :=
  cnt (y0, x4 + 1)
def j_X16_probes_49 (x1 x2 x4 : Int) (V : VV) : Option ((Int × Int) ⊕ (Int)) :=
  j_X16_probes_50 x1 x2 x4 0 V
def j_X16_probes_45 (x1 x2 x4 : Int) (V : VV) : Option ((Int × Int) ⊕ (Int)) :=
  j_X16_probes_50 x1 x2 x4 1 V
def b_X16_probes_8 (x1 x2 x3 x4 : Int) (V : VV) : Option ((Int × Int) ⊕ (Int)) :=
  if w32 x4 < w32 ((40 * x1) + 40) then
    if w32 x3 = 0 then
      (l2 197 1280 x4 V).bind fun v1 =>
      if w32 v1 = 0 then
        j_X16_probes_49 x1 x2 x4 V
      else
        (l2 206 1280 x4 V).bind fun v2 =>
        if w32 v2 = w32 x2 then
          j_X16_probes_45 x1 x2 x4 V
        else
          j_X16_probes_49 x1 x2 x4 V
    else
      j_X16_probes_45 x1 x2 x4 V
  else
    xit (bz x3 (some x3))
def l_X16_probes_8 (x1 x2 x3 x4 : Int) (V : VV) : Option (Int) := lpN (fun s : Int × Int => b_X16_probes_8 x1 x2 s.1 s.2 V) FU (x3, x4)
def f_X16_probes (x1 x2 : Int) (V : VV) : Option (Int) :=
  l_X16_probes_8 x1 x2 0 (40 * x1) V
theorem s_X16_probes_50 {g : GG} {d : Nat} (hD : 0 ≤ d) {x1 x2 x4 y0 : Int} {M : MM} (hM : LM M) {V : VV} {o : AV × MM} {P : ((Int × Int) ⊕ (Int)) → Prop} (c0 : ∀ s : Int × Int, P (.inl s) → Sem g d YX16_probes 8 [(1, 156), (0, x1), (0, x2), (0, s.1), (0, s.2)] [] (wr M V) o) (r0 : ∀ r : Int, P (.inr r) → o = ((0, r), (wr M V))) {z : (Int × Int) ⊕ (Int)} (h : j_X16_probes_50 x1 x2 x4 y0 V = some z) (hz : P z) : Sem g d YX16_probes 50 [(1, 156), (0, x1), (0, x2), (9, 0), (0, x4)] [(0, y0)] (wr M V) o := by
  delta j_X16_probes_50 at h
  refine S_istore_n (i := 3) dX16_probes_50 rfl (Nat.le_of_ble_eq_true rfl) rfl rfl ?_
  change Sem g d YX16_probes 51 [(1, 156), (0, x1), (0, x2), (0, y0), (0, x4)] [] (wr M V) o
  refine S_iinc dX16_probes_51 rfl rfl rfl ?_
  change Sem g d YX16_probes 54 [(1, 156), (0, x1), (0, x2), (0, y0), (0, x4 + 1)] [] (wr M V) o
  refine S_goto (tgt := 8) dX16_probes_54 rfl ?_
  exact c0 (y0, x4 + 1) (some_P (P := fun r => P r) h hz)
theorem s_X16_probes_49 {g : GG} {d : Nat} (hD : 0 ≤ d) {x1 x2 x4 : Int} {M : MM} (hM : LM M) {V : VV} {o : AV × MM} {P : ((Int × Int) ⊕ (Int)) → Prop} (c0 : ∀ s : Int × Int, P (.inl s) → Sem g d YX16_probes 8 [(1, 156), (0, x1), (0, x2), (0, s.1), (0, s.2)] [] (wr M V) o) (r0 : ∀ r : Int, P (.inr r) → o = ((0, r), (wr M V))) {z : (Int × Int) ⊕ (Int)} (h : j_X16_probes_49 x1 x2 x4 V = some z) (hz : P z) : Sem g d YX16_probes 49 [(1, 156), (0, x1), (0, x2), (9, 0), (0, x4)] [] (wr M V) o := by
  delta j_X16_probes_49 at h
  refine S_iconst dX16_probes_49 rfl ?_
  exact s_X16_probes_50 hD hM c0 r0 h hz
theorem s_X16_probes_45 {g : GG} {d : Nat} (hD : 0 ≤ d) {x1 x2 x4 : Int} {M : MM} (hM : LM M) {V : VV} {o : AV × MM} {P : ((Int × Int) ⊕ (Int)) → Prop} (c0 : ∀ s : Int × Int, P (.inl s) → Sem g d YX16_probes 8 [(1, 156), (0, x1), (0, x2), (0, s.1), (0, s.2)] [] (wr M V) o) (r0 : ∀ r : Int, P (.inr r) → o = ((0, r), (wr M V))) {z : (Int × Int) ⊕ (Int)} (h : j_X16_probes_45 x1 x2 x4 V = some z) (hz : P z) : Sem g d YX16_probes 45 [(1, 156), (0, x1), (0, x2), (9, 0), (0, x4)] [] (wr M V) o := by
  delta j_X16_probes_45 at h
  refine S_iconst dX16_probes_45 rfl ?_
  refine S_goto (tgt := 50) dX16_probes_46 rfl ?_
  exact s_X16_probes_50 hD hM c0 r0 h hz
theorem s_X16_probes_8 {g : GG} {d : Nat} (hD : 0 ≤ d) {x1 x2 x3 x4 : Int} {M : MM} (hM : LM M) {V : VV} {o : AV × MM} {P : ((Int × Int) ⊕ (Int)) → Prop} (c0 : ∀ s : Int × Int, P (.inl s) → Sem g d YX16_probes 8 [(1, 156), (0, x1), (0, x2), (0, s.1), (0, s.2)] [] (wr M V) o) (r0 : ∀ r : Int, P (.inr r) → o = ((0, r), (wr M V))) {z : (Int × Int) ⊕ (Int)} (h : b_X16_probes_8 x1 x2 x3 x4 V = some z) (hz : P z) : Sem g d YX16_probes 8 [(1, 156), (0, x1), (0, x2), (0, x3), (0, x4)] [] (wr M V) o := by
  delta b_X16_probes_8 at h
  refine S_iload dX16_probes_8 rfl ?_
  refine S_bipush (z := 40) dX16_probes_10 rfl ?_
  refine S_iload_n (i := 1) dX16_probes_12 rfl rfl ?_
  refine S_imul dX16_probes_13 ?_
  refine S_bipush (z := 40) dX16_probes_14 rfl ?_
  refine S_iadd dX16_probes_16 ?_
  refine P_icmp_ge (tgt := 57) dX16_probes_17 rfl h (fun h => ?_) (fun h => ?_)
  · obtain ⟨z0, h, hz⟩ := xit_some' (P := fun r => P r) h hz
    refine S_iload_n (i := 3) dX16_probes_57 rfl rfl ?_
    obtain ⟨hb, h⟩ := bz_some h
    obtain rfl := r0 _ (some_P (P := fun r => P (.inr r)) h hz)
    exact P_ret dX16_probes_58 rfl (Or.inr ⟨rfl, hb⟩)
  · refine S_iload_n (i := 3) dX16_probes_20 rfl rfl ?_
    refine P_if_ne (tgt := 45) dX16_probes_21 rfl h (fun h => ?_) (fun h => ?_)
    · refine S_weak (ls' := [(1, 156), (0, x1), (0, x2), (9, 0), (0, x4)]) ⟨Or.inr rfl, ⟨Or.inr rfl, ⟨Or.inr rfl, ⟨Or.inl rfl, ⟨Or.inr rfl, trivial⟩⟩⟩⟩⟩ ?_
      exact s_X16_probes_45 hD hM c0 r0 h hz
    · refine S_aload_n (i := 0) dX16_probes_24 rfl rfl ?_
      refine P2_gfr hM (a := 197) FLX16_137 rfl ⟨rfl, rfl⟩ dX16_probes_25 ?_
      refine S_iload dX16_probes_28 rfl ?_
      refine P2_laz hM (a := 197) (n := 1280) rfl dX16_probes_30 h (fun v1 h => ?_)
      refine P_if_eq (tgt := 49) dX16_probes_31 rfl h (fun h => ?_) (fun h => ?_)
      · refine S_weak (ls' := [(1, 156), (0, x1), (0, x2), (9, 0), (0, x4)]) ⟨Or.inr rfl, ⟨Or.inr rfl, ⟨Or.inr rfl, ⟨Or.inl rfl, ⟨Or.inr rfl, trivial⟩⟩⟩⟩⟩ ?_
        exact s_X16_probes_49 hD hM c0 r0 h hz
      · refine S_aload_n (i := 0) dX16_probes_34 rfl rfl ?_
        refine P2_gfr hM (a := 206) FLX16_164 rfl ⟨rfl, rfl⟩ dX16_probes_35 ?_
        refine S_iload dX16_probes_38 rfl ?_
        refine P2_lai hM (a := 206) (n := 1280) rfl dX16_probes_40 h (fun v2 h => ?_)
        refine S_iload_n (i := 2) dX16_probes_41 rfl rfl ?_
        refine P_icmp_ne (tgt := 49) dX16_probes_42 rfl h (fun h => ?_) (fun h => ?_)
        · refine S_weak (ls' := [(1, 156), (0, x1), (0, x2), (9, 0), (0, x4)]) ⟨Or.inr rfl, ⟨Or.inr rfl, ⟨Or.inr rfl, ⟨Or.inl rfl, ⟨Or.inr rfl, trivial⟩⟩⟩⟩⟩ ?_
          exact s_X16_probes_49 hD hM c0 r0 h hz
        · refine S_weak (ls' := [(1, 156), (0, x1), (0, x2), (9, 0), (0, x4)]) ⟨Or.inr rfl, ⟨Or.inr rfl, ⟨Or.inr rfl, ⟨Or.inl rfl, ⟨Or.inr rfl, trivial⟩⟩⟩⟩⟩ ?_
          exact s_X16_probes_45 hD hM c0 r0 h hz
theorem sl_X16_probes_8 {g : GG} {d : Nat} (hD : 0 ≤ d) {x1 x2 x3 x4 : Int} {M : MM} (hM : LM M) {V : VV} {o : AV × MM} {P : (Int) → Prop} (r0 : ∀ r : Int, P r → o = ((0, r), (wr M V))) {z : Int} (h : l_X16_probes_8 x1 x2 x3 x4 V = some z) (hz : P z) : Sem g d YX16_probes 8 [(1, 156), (0, x1), (0, x2), (0, x3), (0, x4)] [] (wr M V) o := by
  refine lp_sound (S := fun s : Int × Int => Sem g d YX16_probes 8 [(1, 156), (0, x1), (0, x2), (0, s.1), (0, s.2)] [] (wr M V) o) (P := P) ?_ FU (x3, x4) z h hz
  intro s x hx hP
  exact s_X16_probes_8 hD hM (P := Sum.elim (fun s : Int × Int => Sem g d YX16_probes 8 [(1, 156), (0, x1), (0, x2), (0, s.1), (0, s.2)] [] (wr M V) o) P) (fun s h => h) (fun s h => r0 s h) hx hP
theorem s_X16_probes_0 {g : GG} {d : Nat} (hD : 0 ≤ d) {x1 x2 : Int} {M : MM} (hM : LM M) {V : VV} {o : AV × MM} {P : (Int) → Prop} (r0 : ∀ r : Int, P r → o = ((0, r), (wr M V))) {z : Int} (h : f_X16_probes x1 x2 V = some z) (hz : P z) : Sem g d YX16_probes 0 [(1, 156), (0, x1), (0, x2), (9, 0), (9, 0)] [] (wr M V) o := by
  delta f_X16_probes at h
  refine S_iconst dX16_probes_0 rfl ?_
  refine S_istore_n (i := 3) dX16_probes_1 rfl (Nat.le_of_ble_eq_true rfl) rfl rfl ?_
  change Sem g d YX16_probes 2 [(1, 156), (0, x1), (0, x2), (0, 0), (9, 0)] [] (wr M V) o
  refine S_bipush (z := 40) dX16_probes_2 rfl ?_
  refine S_iload_n (i := 1) dX16_probes_4 rfl rfl ?_
  refine S_imul dX16_probes_5 ?_
  refine S_istore dX16_probes_6 (Nat.le_of_ble_eq_true rfl) rfl rfl ?_
  change Sem g d YX16_probes 8 [(1, 156), (0, x1), (0, x2), (0, 0), (0, 40 * x1)] [] (wr M V) o
  exact sl_X16_probes_8 hD hM r0 h hz
theorem F_X16_probes {g : GG} {d : Nat} (hD : 0 ≤ d) {x1 x2 : Int} {M : MM} (hM : LM M) {V : VV} {r : Int} (h : f_X16_probes x1 x2 V = some r) : Sem g d YX16_probes 0 (ini YX16_probes [(1, 156), (0, x1), (0, x2)]) [] (wr M V) ((0, r), (wr M V)) := by
  change Sem g d YX16_probes 0 [(1, 156), (0, x1), (0, x2), (9, 0), (9, 0)] [] (wr M V) ((0, r), (wr M V))
  exact s_X16_probes_0 hD hM (P := fun x => x = r) (fun q e => by rw [e]) h rfl
/-! PeerSearchModel.removeRow(II)V -/
theorem dX16_removeRow_0 : decode cX16_removeRow 0 = .ok (.aload_n 0, 1) := by decide +kernel
theorem dX16_removeRow_1 : decode cX16_removeRow 1 = .ok (.getfield 110, 3) := by decide +kernel
theorem dX16_removeRow_4 : decode cX16_removeRow 4 = .ok (.iload_n 1, 1) := by decide +kernel
theorem dX16_removeRow_5 : decode cX16_removeRow 5 = .ok (.dup2, 1) := by decide +kernel
theorem dX16_removeRow_6 : decode cX16_removeRow 6 = .ok (.iaload, 1) := by decide +kernel
theorem dX16_removeRow_7 : decode cX16_removeRow 7 = .ok (.iconst 1, 1) := by decide +kernel
theorem dX16_removeRow_8 : decode cX16_removeRow 8 = .ok (.isub, 1) := by decide +kernel
theorem dX16_removeRow_9 : decode cX16_removeRow 9 = .ok (.iastore, 1) := by decide +kernel
theorem dX16_removeRow_10 : decode cX16_removeRow 10 = .ok (.sipush 1100, 3) := by decide +kernel
theorem dX16_removeRow_13 : decode cX16_removeRow 13 = .ok (.iload_n 1, 1) := by decide +kernel
theorem dX16_removeRow_14 : decode cX16_removeRow 14 = .ok (.imul, 1) := by decide +kernel
theorem dX16_removeRow_15 : decode cX16_removeRow 15 = .ok (.aload_n 0, 1) := by decide +kernel
theorem dX16_removeRow_16 : decode cX16_removeRow 16 = .ok (.getfield 110, 3) := by decide +kernel
theorem dX16_removeRow_19 : decode cX16_removeRow 19 = .ok (.iload_n 1, 1) := by decide +kernel
theorem dX16_removeRow_20 : decode cX16_removeRow 20 = .ok (.iaload, 1) := by decide +kernel
theorem dX16_removeRow_21 : decode cX16_removeRow 21 = .ok (.iadd, 1) := by decide +kernel
theorem dX16_removeRow_22 : decode cX16_removeRow 22 = .ok (.istore_n 3, 1) := by decide +kernel
theorem dX16_removeRow_23 : decode cX16_removeRow 23 = .ok (.aload_n 0, 1) := by decide +kernel
theorem dX16_removeRow_24 : decode cX16_removeRow 24 = .ok (.getfield 114, 3) := by decide +kernel
theorem dX16_removeRow_27 : decode cX16_removeRow 27 = .ok (.iconst 5, 1) := by decide +kernel
theorem dX16_removeRow_28 : decode cX16_removeRow 28 = .ok (.iload_n 2, 1) := by decide +kernel
theorem dX16_removeRow_29 : decode cX16_removeRow 29 = .ok (.imul, 1) := by decide +kernel
theorem dX16_removeRow_30 : decode cX16_removeRow 30 = .ok (.aload_n 0, 1) := by decide +kernel
theorem dX16_removeRow_31 : decode cX16_removeRow 31 = .ok (.getfield 114, 3) := by decide +kernel
theorem dX16_removeRow_34 : decode cX16_removeRow 34 = .ok (.iconst 5, 1) := by decide +kernel
theorem dX16_removeRow_35 : decode cX16_removeRow 35 = .ok (.iload_n 3, 1) := by decide +kernel
theorem dX16_removeRow_36 : decode cX16_removeRow 36 = .ok (.imul, 1) := by decide +kernel
theorem dX16_removeRow_37 : decode cX16_removeRow 37 = .ok (.invokestatic 438, 3) := by decide +kernel
theorem dX16_removeRow_40 : decode cX16_removeRow 40 = .ok (.aload_n 0, 1) := by decide +kernel
theorem dX16_removeRow_41 : decode cX16_removeRow 41 = .ok (.getfield 118, 3) := by decide +kernel
theorem dX16_removeRow_44 : decode cX16_removeRow 44 = .ok (.iload_n 2, 1) := by decide +kernel
theorem dX16_removeRow_45 : decode cX16_removeRow 45 = .ok (.aload_n 0, 1) := by decide +kernel
theorem dX16_removeRow_46 : decode cX16_removeRow 46 = .ok (.getfield 118, 3) := by decide +kernel
theorem dX16_removeRow_49 : decode cX16_removeRow 49 = .ok (.iload_n 3, 1) := by decide +kernel
theorem dX16_removeRow_50 : decode cX16_removeRow 50 = .ok (.iaload, 1) := by decide +kernel
theorem dX16_removeRow_51 : decode cX16_removeRow 51 = .ok (.iastore, 1) := by decide +kernel
theorem dX16_removeRow_52 : decode cX16_removeRow 52 = .ok (.aload_n 0, 1) := by decide +kernel
theorem dX16_removeRow_53 : decode cX16_removeRow 53 = .ok (.getfield 121, 3) := by decide +kernel
theorem dX16_removeRow_56 : decode cX16_removeRow 56 = .ok (.iload_n 2, 1) := by decide +kernel
theorem dX16_removeRow_57 : decode cX16_removeRow 57 = .ok (.aload_n 0, 1) := by decide +kernel
theorem dX16_removeRow_58 : decode cX16_removeRow 58 = .ok (.getfield 121, 3) := by decide +kernel
theorem dX16_removeRow_61 : decode cX16_removeRow 61 = .ok (.iload_n 3, 1) := by decide +kernel
theorem dX16_removeRow_62 : decode cX16_removeRow 62 = .ok (.iaload, 1) := by decide +kernel
theorem dX16_removeRow_63 : decode cX16_removeRow 63 = .ok (.iastore, 1) := by decide +kernel
theorem dX16_removeRow_64 : decode cX16_removeRow 64 = .ok (.aload_n 0, 1) := by decide +kernel
theorem dX16_removeRow_65 : decode cX16_removeRow 65 = .ok (.getfield 124, 3) := by decide +kernel
theorem dX16_removeRow_68 : decode cX16_removeRow 68 = .ok (.iload_n 2, 1) := by decide +kernel
theorem dX16_removeRow_69 : decode cX16_removeRow 69 = .ok (.aload_n 0, 1) := by decide +kernel
theorem dX16_removeRow_70 : decode cX16_removeRow 70 = .ok (.getfield 124, 3) := by decide +kernel
theorem dX16_removeRow_73 : decode cX16_removeRow 73 = .ok (.iload_n 3, 1) := by decide +kernel
theorem dX16_removeRow_74 : decode cX16_removeRow 74 = .ok (.baload, 1) := by decide +kernel
theorem dX16_removeRow_75 : decode cX16_removeRow 75 = .ok (.bastore, 1) := by decide +kernel
theorem dX16_removeRow_76 : decode cX16_removeRow 76 = .ok (.aload_n 0, 1) := by decide +kernel
theorem dX16_removeRow_77 : decode cX16_removeRow 77 = .ok (.getfield 128, 3) := by decide +kernel
theorem dX16_removeRow_80 : decode cX16_removeRow 80 = .ok (.iload_n 2, 1) := by decide +kernel
theorem dX16_removeRow_81 : decode cX16_removeRow 81 = .ok (.aload_n 0, 1) := by decide +kernel
theorem dX16_removeRow_82 : decode cX16_removeRow 82 = .ok (.getfield 128, 3) := by decide +kernel
theorem dX16_removeRow_85 : decode cX16_removeRow 85 = .ok (.iload_n 3, 1) := by decide +kernel
theorem dX16_removeRow_86 : decode cX16_removeRow 86 = .ok (.iaload, 1) := by decide +kernel
theorem dX16_removeRow_87 : decode cX16_removeRow 87 = .ok (.iastore, 1) := by decide +kernel
theorem dX16_removeRow_88 : decode cX16_removeRow 88 = .ok (.return_, 1) := by decide +kernel
def j_X16_removeRow_88 (V : VV) : Option (VV) :=
  some V
def f_X16_removeRow (x1 x2 : Int) (V : VV) : Option (VV) :=
  (l2 189 32 x1 V).bind fun v1 =>
  (s2 189 32 x1 (v1 - 1) V).bind fun V1 =>
  (l2 189 32 x1 V1).bind fun v2 =>
  (f_X16_put 190 (5 * x2) 190 (5 * ((1100 * x1) + v2)) V1).bind fun V2 =>
  (l2 191 35200 ((1100 * x1) + v2) V2).bind fun v3 =>
  (s2 191 35200 x2 v3 V2).bind fun V3 =>
  (l2 192 35200 ((1100 * x1) + v2) V3).bind fun v4 =>
  (s2 192 35200 x2 v4 V3).bind fun V4 =>
  (l2 193 35200 ((1100 * x1) + v2) V4).bind fun v5 =>
  (s2z 193 35200 x2 v5 V4).bind fun V5 =>
  (l2 194 35200 ((1100 * x1) + v2) V5).bind fun v6 =>
  (s2 194 35200 x2 v6 V5).bind fun V6 =>
  j_X16_removeRow_88 V6
theorem s_X16_removeRow_88 {g : GG} {d : Nat} (hD : 1 ≤ d) {M : MM} (hM : LM M) {V : VV} {o : AV × MM} {P : (VV) → Prop} (r0 : ∀ r : VV, P r → o = ((9, 0), (wr M r))) {z : VV} (h : j_X16_removeRow_88 V = some z) (hz : P z) : Sem g d YX16_removeRow 88 [(9, 0), (9, 0), (9, 0), (9, 0)] [] (wr M V) o := by
  delta j_X16_removeRow_88 at h
  obtain rfl := r0 _ (some_P (P := fun r => P r) h hz)
  exact S_return dX16_removeRow_88 rfl
theorem s_X16_removeRow_0 {g : GG} {d : Nat} (hD : 1 ≤ d) {x1 x2 : Int} {M : MM} (hM : LM M) {V : VV} {o : AV × MM} {P : (VV) → Prop} (r0 : ∀ r : VV, P r → o = ((9, 0), (wr M r))) {z : VV} (h : f_X16_removeRow x1 x2 V = some z) (hz : P z) : Sem g d YX16_removeRow 0 [(1, 156), (0, x1), (0, x2), (9, 0)] [] (wr M V) o := by
  delta f_X16_removeRow at h
  refine S_aload_n (i := 0) dX16_removeRow_0 rfl rfl ?_
  refine P2_gfr hM (a := 189) FLX16_110 rfl ⟨rfl, rfl⟩ dX16_removeRow_1 ?_
  refine S_iload_n (i := 1) dX16_removeRow_4 rfl rfl ?_
  refine S_dup2 dX16_removeRow_5 (Nat.le_of_ble_eq_true rfl) (Nat.le_of_ble_eq_true rfl) ?_
  refine P2_lai hM (a := 189) (n := 32) rfl dX16_removeRow_6 h (fun v1 h => ?_)
  refine S_iconst dX16_removeRow_7 rfl ?_
  refine S_isub dX16_removeRow_8 ?_
  refine P2_sai hM (a := 189) (n := 32) rfl dX16_removeRow_9 h (fun V1 h => ?_)
  refine S_sipush (z := 1100) dX16_removeRow_10 rfl ?_
  refine S_iload_n (i := 1) dX16_removeRow_13 rfl rfl ?_
  refine S_imul dX16_removeRow_14 ?_
  refine S_aload_n (i := 0) dX16_removeRow_15 rfl rfl ?_
  refine P2_gfr hM (a := 189) FLX16_110 rfl ⟨rfl, rfl⟩ dX16_removeRow_16 ?_
  refine S_iload_n (i := 1) dX16_removeRow_19 rfl rfl ?_
  refine P2_lai hM (a := 189) (n := 32) rfl dX16_removeRow_20 h (fun v2 h => ?_)
  refine S_iadd dX16_removeRow_21 ?_
  refine S_istore_n (i := 3) dX16_removeRow_22 rfl (Nat.le_of_ble_eq_true rfl) rfl rfl ?_
  change Sem g d YX16_removeRow 23 [(1, 156), (0, x1), (0, x2), (0, (1100 * x1) + v2)] [] (wr M V1) o
  refine S_aload_n (i := 0) dX16_removeRow_23 rfl rfl ?_
  refine P2_gfr hM (a := 190) FLX16_114 rfl ⟨rfl, rfl⟩ dX16_removeRow_24 ?_
  refine S_iconst dX16_removeRow_27 rfl ?_
  refine S_iload_n (i := 2) dX16_removeRow_28 rfl rfl ?_
  refine S_imul dX16_removeRow_29 ?_
  refine S_aload_n (i := 0) dX16_removeRow_30 rfl rfl ?_
  refine P2_gfr hM (a := 190) FLX16_114 rfl ⟨rfl, rfl⟩ dX16_removeRow_31 ?_
  refine S_iconst dX16_removeRow_34 rfl ?_
  refine S_iload_n (i := 3) dX16_removeRow_35 rfl rfl ?_
  refine S_imul dX16_removeRow_36 ?_
  refine P2_invSm hM [(1, 190), (0, 5 * x2), (1, 190), (0, 5 * ((1100 * x1) + v2))] [] CSX16_put MLX16_438 dX16_removeRow_37 rfl rfl rfl rfl (by omega) h (fun r h => F_X16_put (by omega) hM h) (fun V2 h => ?_)
  refine S_aload_n (i := 0) dX16_removeRow_40 rfl rfl ?_
  refine P2_gfr hM (a := 191) FLX16_118 rfl ⟨rfl, rfl⟩ dX16_removeRow_41 ?_
  refine S_iload_n (i := 2) dX16_removeRow_44 rfl rfl ?_
  refine S_aload_n (i := 0) dX16_removeRow_45 rfl rfl ?_
  refine P2_gfr hM (a := 191) FLX16_118 rfl ⟨rfl, rfl⟩ dX16_removeRow_46 ?_
  refine S_iload_n (i := 3) dX16_removeRow_49 rfl rfl ?_
  refine P2_lai hM (a := 191) (n := 35200) rfl dX16_removeRow_50 h (fun v3 h => ?_)
  refine P2_sai hM (a := 191) (n := 35200) rfl dX16_removeRow_51 h (fun V3 h => ?_)
  refine S_aload_n (i := 0) dX16_removeRow_52 rfl rfl ?_
  refine P2_gfr hM (a := 192) FLX16_121 rfl ⟨rfl, rfl⟩ dX16_removeRow_53 ?_
  refine S_iload_n (i := 2) dX16_removeRow_56 rfl rfl ?_
  refine S_aload_n (i := 0) dX16_removeRow_57 rfl rfl ?_
  refine P2_gfr hM (a := 192) FLX16_121 rfl ⟨rfl, rfl⟩ dX16_removeRow_58 ?_
  refine S_iload_n (i := 3) dX16_removeRow_61 rfl rfl ?_
  refine P2_lai hM (a := 192) (n := 35200) rfl dX16_removeRow_62 h (fun v4 h => ?_)
  refine P2_sai hM (a := 192) (n := 35200) rfl dX16_removeRow_63 h (fun V4 h => ?_)
  refine S_aload_n (i := 0) dX16_removeRow_64 rfl rfl ?_
  refine P2_gfr hM (a := 193) FLX16_124 rfl ⟨rfl, rfl⟩ dX16_removeRow_65 ?_
  refine S_iload_n (i := 2) dX16_removeRow_68 rfl rfl ?_
  refine S_aload_n (i := 0) dX16_removeRow_69 rfl rfl ?_
  refine P2_gfr hM (a := 193) FLX16_124 rfl ⟨rfl, rfl⟩ dX16_removeRow_70 ?_
  refine S_iload_n (i := 3) dX16_removeRow_73 rfl rfl ?_
  refine P2_laz hM (a := 193) (n := 35200) rfl dX16_removeRow_74 h (fun v5 h => ?_)
  refine P2_saz hM (a := 193) (n := 35200) rfl dX16_removeRow_75 h (fun V5 h => ?_)
  refine S_aload_n (i := 0) dX16_removeRow_76 rfl rfl ?_
  refine P2_gfr hM (a := 194) FLX16_128 rfl ⟨rfl, rfl⟩ dX16_removeRow_77 ?_
  refine S_iload_n (i := 2) dX16_removeRow_80 rfl rfl ?_
  refine S_aload_n (i := 0) dX16_removeRow_81 rfl rfl ?_
  refine P2_gfr hM (a := 194) FLX16_128 rfl ⟨rfl, rfl⟩ dX16_removeRow_82 ?_
  refine S_iload_n (i := 3) dX16_removeRow_85 rfl rfl ?_
  refine P2_lai hM (a := 194) (n := 35200) rfl dX16_removeRow_86 h (fun v6 h => ?_)
  refine P2_sai hM (a := 194) (n := 35200) rfl dX16_removeRow_87 h (fun V6 h => ?_)
  refine S_weak (ls' := [(9, 0), (9, 0), (9, 0), (9, 0)]) ⟨Or.inl rfl, ⟨Or.inl rfl, ⟨Or.inl rfl, ⟨Or.inl rfl, trivial⟩⟩⟩⟩ ?_
  exact s_X16_removeRow_88 hD hM r0 h hz
theorem F_X16_removeRow {g : GG} {d : Nat} (hD : 1 ≤ d) {x1 x2 : Int} {M : MM} (hM : LM M) {V : VV} {r : VV} (h : f_X16_removeRow x1 x2 V = some r) : Sem g d YX16_removeRow 0 (ini YX16_removeRow [(1, 156), (0, x1), (0, x2)]) [] (wr M V) ((9, 0), (wr M r)) := by
  change Sem g d YX16_removeRow 0 [(1, 156), (0, x1), (0, x2), (9, 0)] [] (wr M V) ((9, 0), (wr M r))
  exact s_X16_removeRow_0 hD hM (P := fun x => x = r) (fun q e => by rw [e]) h rfl
/-! PeerSearchModel.rowWith(I[II)I -/
theorem dX16_rowWith_0 : decode cX16_rowWith 0 = .ok (.iconst 0, 1) := by decide +kernel
theorem dX16_rowWith_1 : decode cX16_rowWith 1 = .ok (.istore 4, 2) := by decide +kernel
theorem dX16_rowWith_3 : decode cX16_rowWith 3 = .ok (.iload 4, 2) := by decide +kernel
theorem dX16_rowWith_5 : decode cX16_rowWith 5 = .ok (.aload_n 0, 1) := by decide +kernel
theorem dX16_rowWith_6 : decode cX16_rowWith 6 = .ok (.getfield 110, 3) := by decide +kernel
theorem dX16_rowWith_9 : decode cX16_rowWith 9 = .ok (.iload_n 1, 1) := by decide +kernel
theorem dX16_rowWith_10 : decode cX16_rowWith 10 = .ok (.iaload, 1) := by decide +kernel
theorem dX16_rowWith_11 : decode cX16_rowWith 11 = .ok (.if_icmp .ge 40, 3) := by decide +kernel
theorem dX16_rowWith_14 : decode cX16_rowWith 14 = .ok (.aload_n 0, 1) := by decide +kernel
theorem dX16_rowWith_15 : decode cX16_rowWith 15 = .ok (.getfield 114, 3) := by decide +kernel
theorem dX16_rowWith_18 : decode cX16_rowWith 18 = .ok (.iconst 5, 1) := by decide +kernel
theorem dX16_rowWith_19 : decode cX16_rowWith 19 = .ok (.sipush 1100, 3) := by decide +kernel
theorem dX16_rowWith_22 : decode cX16_rowWith 22 = .ok (.iload_n 1, 1) := by decide +kernel
theorem dX16_rowWith_23 : decode cX16_rowWith 23 = .ok (.imul, 1) := by decide +kernel
theorem dX16_rowWith_24 : decode cX16_rowWith 24 = .ok (.iload 4, 2) := by decide +kernel
theorem dX16_rowWith_26 : decode cX16_rowWith 26 = .ok (.iadd, 1) := by decide +kernel
theorem dX16_rowWith_27 : decode cX16_rowWith 27 = .ok (.imul, 1) := by decide +kernel
theorem dX16_rowWith_28 : decode cX16_rowWith 28 = .ok (.aload_n 2, 1) := by decide +kernel
theorem dX16_rowWith_29 : decode cX16_rowWith 29 = .ok (.iload_n 3, 1) := by decide +kernel
theorem dX16_rowWith_30 : decode cX16_rowWith 30 = .ok (.invokestatic 434, 3) := by decide +kernel
theorem dX16_rowWith_33 : decode cX16_rowWith 33 = .ok (.ifCond .eq 12, 3) := by decide +kernel
theorem dX16_rowWith_36 : decode cX16_rowWith 36 = .ok (.sipush 1100, 3) := by decide +kernel
theorem dX16_rowWith_39 : decode cX16_rowWith 39 = .ok (.iload_n 1, 1) := by decide +kernel
theorem dX16_rowWith_40 : decode cX16_rowWith 40 = .ok (.imul, 1) := by decide +kernel
theorem dX16_rowWith_41 : decode cX16_rowWith 41 = .ok (.iload 4, 2) := by decide +kernel
theorem dX16_rowWith_43 : decode cX16_rowWith 43 = .ok (.iadd, 1) := by decide +kernel
theorem dX16_rowWith_44 : decode cX16_rowWith 44 = .ok (.ireturn, 1) := by decide +kernel
theorem dX16_rowWith_45 : decode cX16_rowWith 45 = .ok (.iinc 4 1, 3) := by decide +kernel
theorem dX16_rowWith_48 : decode cX16_rowWith 48 = .ok (.goto (-45), 3) := by decide +kernel
theorem dX16_rowWith_51 : decode cX16_rowWith 51 = .ok (.iconst (-1), 1) := by decide +kernel
theorem dX16_rowWith_52 : decode cX16_rowWith 52 = .ok (.ireturn, 1) := by decide +kernel
def j_X16_rowWith_36 (x1 x4 : Int) (V : VV) : Option (Int) :=
  some ((1100 * x1) + x4)
def b_X16_rowWith_3 (x1 x2 x3 x4 : Int) (V : VV) : Option ((Int) ⊕ (Int)) :=
  (l2 189 32 x1 V).bind fun v1 =>
  if w32 x4 < w32 v1 then
    (f_X16_same 190 (5 * ((1100 * x1) + x4)) x2 x3 V).bind fun v2 =>
    if w32 v2 = 0 then
      cnt (x4 + 1)
    else
      xit (j_X16_rowWith_36 x1 x4 V)
  else
    xit (some (-1))
def l_X16_rowWith_3 (x1 x2 x3 x4 : Int) (V : VV) : Option (Int) := lpN (fun s : Int => b_X16_rowWith_3 x1 x2 x3 s V) FU x4
def f_X16_rowWith (x1 x2 x3 : Int) (V : VV) : Option (Int) :=
  l_X16_rowWith_3 x1 x2 x3 0 V
theorem s_X16_rowWith_36 {g : GG} {d : Nat} (hD : 1 ≤ d) {x1 x4 : Int} {M : MM} (hM : LM M) {V : VV} {o : AV × MM} {P : (Int) → Prop} (r0 : ∀ r : Int, P r → o = ((0, r), (wr M V))) {z : Int} (h : j_X16_rowWith_36 x1 x4 V = some z) (hz : P z) : Sem g d YX16_rowWith 36 [(9, 0), (0, x1), (9, 0), (9, 0), (0, x4)] [] (wr M V) o := by
  delta j_X16_rowWith_36 at h
  refine S_sipush (z := 1100) dX16_rowWith_36 rfl ?_
  refine S_iload_n (i := 1) dX16_rowWith_39 rfl rfl ?_
  refine S_imul dX16_rowWith_40 ?_
  refine S_iload dX16_rowWith_41 rfl ?_
  refine S_iadd dX16_rowWith_43 ?_
  obtain rfl := r0 _ (some_P (P := fun r => P r) h hz)
  exact P_ret dX16_rowWith_44 rfl (Or.inl rfl)
theorem s_X16_rowWith_3 {g : GG} {d : Nat} (hD : 1 ≤ d) {x1 x2 x3 x4 : Int} {M : MM} (hM : LM M) {V : VV} {o : AV × MM} {P : ((Int) ⊕ (Int)) → Prop} (c0 : ∀ s : Int, P (.inl s) → Sem g d YX16_rowWith 3 [(1, 156), (0, x1), (1, x2), (0, x3), (0, s)] [] (wr M V) o) (r0 : ∀ r : Int, P (.inr r) → o = ((0, r), (wr M V))) {z : (Int) ⊕ (Int)} (h : b_X16_rowWith_3 x1 x2 x3 x4 V = some z) (hz : P z) : Sem g d YX16_rowWith 3 [(1, 156), (0, x1), (1, x2), (0, x3), (0, x4)] [] (wr M V) o := by
  delta b_X16_rowWith_3 at h
  refine S_iload dX16_rowWith_3 rfl ?_
  refine S_aload_n (i := 0) dX16_rowWith_5 rfl rfl ?_
  refine P2_gfr hM (a := 189) FLX16_110 rfl ⟨rfl, rfl⟩ dX16_rowWith_6 ?_
  refine S_iload_n (i := 1) dX16_rowWith_9 rfl rfl ?_
  refine P2_lai hM (a := 189) (n := 32) rfl dX16_rowWith_10 h (fun v1 h => ?_)
  refine P_icmp_ge (tgt := 51) dX16_rowWith_11 rfl h (fun h => ?_) (fun h => ?_)
  · obtain ⟨z0, h, hz⟩ := xit_some' (P := fun r => P r) h hz
    refine S_iconst dX16_rowWith_51 rfl ?_
    obtain rfl := r0 _ (some_P (P := fun r => P (.inr r)) h hz)
    exact P_ret dX16_rowWith_52 rfl (Or.inl rfl)
  · refine S_aload_n (i := 0) dX16_rowWith_14 rfl rfl ?_
    refine P2_gfr hM (a := 190) FLX16_114 rfl ⟨rfl, rfl⟩ dX16_rowWith_15 ?_
    refine S_iconst dX16_rowWith_18 rfl ?_
    refine S_sipush (z := 1100) dX16_rowWith_19 rfl ?_
    refine S_iload_n (i := 1) dX16_rowWith_22 rfl rfl ?_
    refine S_imul dX16_rowWith_23 ?_
    refine S_iload dX16_rowWith_24 rfl ?_
    refine S_iadd dX16_rowWith_26 ?_
    refine S_imul dX16_rowWith_27 ?_
    refine S_aload_n (i := 2) dX16_rowWith_28 rfl rfl ?_
    refine S_iload_n (i := 3) dX16_rowWith_29 rfl rfl ?_
    refine P_invSp 0 [(1, 190), (0, 5 * ((1100 * x1) + x4)), (1, x2), (0, x3)] [] CSX16_same MLX16_434 dX16_rowWith_30 rfl rfl rfl rfl rfl (by omega) h (fun r h => F_X16_same (by omega) hM h) (fun v2 h => ?_)
    refine P_if_eq (tgt := 45) dX16_rowWith_33 rfl h (fun h => ?_) (fun h => ?_)
    · refine S_iinc dX16_rowWith_45 rfl rfl rfl ?_
      change Sem g d YX16_rowWith 48 [(1, 156), (0, x1), (1, x2), (0, x3), (0, x4 + 1)] [] (wr M V) o
      refine S_goto (tgt := 3) dX16_rowWith_48 rfl ?_
      exact c0 (x4 + 1) (some_P (P := fun r => P r) h hz)
    · refine S_weak (ls' := [(9, 0), (0, x1), (9, 0), (9, 0), (0, x4)]) ⟨Or.inl rfl, ⟨Or.inr rfl, ⟨Or.inl rfl, ⟨Or.inl rfl, ⟨Or.inr rfl, trivial⟩⟩⟩⟩⟩ ?_
      obtain ⟨z0, h, hz⟩ := xit_some' (P := fun r => P r) h hz
      exact s_X16_rowWith_36 hD hM (P := fun r => P (.inr r)) r0 h hz
theorem sl_X16_rowWith_3 {g : GG} {d : Nat} (hD : 1 ≤ d) {x1 x2 x3 x4 : Int} {M : MM} (hM : LM M) {V : VV} {o : AV × MM} {P : (Int) → Prop} (r0 : ∀ r : Int, P r → o = ((0, r), (wr M V))) {z : Int} (h : l_X16_rowWith_3 x1 x2 x3 x4 V = some z) (hz : P z) : Sem g d YX16_rowWith 3 [(1, 156), (0, x1), (1, x2), (0, x3), (0, x4)] [] (wr M V) o := by
  refine lp_sound (S := fun s : Int => Sem g d YX16_rowWith 3 [(1, 156), (0, x1), (1, x2), (0, x3), (0, s)] [] (wr M V) o) (P := P) ?_ FU x4 z h hz
  intro s x hx hP
  exact s_X16_rowWith_3 hD hM (P := Sum.elim (fun s : Int => Sem g d YX16_rowWith 3 [(1, 156), (0, x1), (1, x2), (0, x3), (0, s)] [] (wr M V) o) P) (fun s h => h) (fun s h => r0 s h) hx hP
theorem s_X16_rowWith_0 {g : GG} {d : Nat} (hD : 1 ≤ d) {x1 x2 x3 : Int} {M : MM} (hM : LM M) {V : VV} {o : AV × MM} {P : (Int) → Prop} (r0 : ∀ r : Int, P r → o = ((0, r), (wr M V))) {z : Int} (h : f_X16_rowWith x1 x2 x3 V = some z) (hz : P z) : Sem g d YX16_rowWith 0 [(1, 156), (0, x1), (1, x2), (0, x3), (9, 0)] [] (wr M V) o := by
  delta f_X16_rowWith at h
  refine S_iconst dX16_rowWith_0 rfl ?_
  refine S_istore dX16_rowWith_1 (Nat.le_of_ble_eq_true rfl) rfl rfl ?_
  change Sem g d YX16_rowWith 3 [(1, 156), (0, x1), (1, x2), (0, x3), (0, 0)] [] (wr M V) o
  exact sl_X16_rowWith_3 hD hM r0 h hz
theorem F_X16_rowWith {g : GG} {d : Nat} (hD : 1 ≤ d) {x1 x2 x3 : Int} {M : MM} (hM : LM M) {V : VV} {r : Int} (h : f_X16_rowWith x1 x2 x3 V = some r) : Sem g d YX16_rowWith 0 (ini YX16_rowWith [(1, 156), (0, x1), (1, x2), (0, x3)]) [] (wr M V) ((0, r), (wr M V)) := by
  change Sem g d YX16_rowWith 0 [(1, 156), (0, x1), (1, x2), (0, x3), (9, 0)] [] (wr M V) ((0, r), (wr M V))
  exact s_X16_rowWith_0 hD hM (P := fun x => x = r) (fun q e => by rw [e]) h rfl
/-! PeerSearchModel.seen(I[III)I -/
theorem dX16_seen_0 : decode cX16_seen 0 = .ok (.aload_n 2, 1) := by decide +kernel
theorem dX16_seen_1 : decode cX16_seen 1 = .ok (.iload_n 3, 1) := by decide +kernel
theorem dX16_seen_2 : decode cX16_seen 2 = .ok (.aload_n 0, 1) := by decide +kernel
theorem dX16_seen_3 : decode cX16_seen 3 = .ok (.getfield 36, 3) := by decide +kernel
theorem dX16_seen_6 : decode cX16_seen 6 = .ok (.iconst 5, 1) := by decide +kernel
theorem dX16_seen_7 : decode cX16_seen 7 = .ok (.iload_n 1, 1) := by decide +kernel
theorem dX16_seen_8 : decode cX16_seen 8 = .ok (.imul, 1) := by decide +kernel
theorem dX16_seen_9 : decode cX16_seen 9 = .ok (.invokestatic 503, 3) := by decide +kernel
theorem dX16_seen_12 : decode cX16_seen 12 = .ok (.istore 5, 2) := by decide +kernel
theorem dX16_seen_14 : decode cX16_seen 14 = .ok (.iload 5, 2) := by decide +kernel
theorem dX16_seen_16 : decode cX16_seen 16 = .ok (.sipush 160, 3) := by decide +kernel
theorem dX16_seen_19 : decode cX16_seen 19 = .ok (.if_icmp .ne 5, 3) := by decide +kernel
theorem dX16_seen_22 : decode cX16_seen 22 = .ok (.iconst (-1), 1) := by decide +kernel
theorem dX16_seen_23 : decode cX16_seen 23 = .ok (.ireturn, 1) := by decide +kernel
theorem dX16_seen_24 : decode cX16_seen 24 = .ok (.aload_n 0, 1) := by decide +kernel
theorem dX16_seen_25 : decode cX16_seen 25 = .ok (.iload_n 1, 1) := by decide +kernel
theorem dX16_seen_26 : decode cX16_seen 26 = .ok (.aload_n 2, 1) := by decide +kernel
theorem dX16_seen_27 : decode cX16_seen 27 = .ok (.iload_n 3, 1) := by decide +kernel
theorem dX16_seen_28 : decode cX16_seen 28 = .ok (.invokevirtual 507, 3) := by decide +kernel
theorem dX16_seen_31 : decode cX16_seen 31 = .ok (.istore 6, 2) := by decide +kernel
theorem dX16_seen_33 : decode cX16_seen 33 = .ok (.iload 6, 2) := by decide +kernel
theorem dX16_seen_35 : decode cX16_seen 35 = .ok (.ifCond .lt 33, 3) := by decide +kernel
theorem dX16_seen_38 : decode cX16_seen 38 = .ok (.aload_n 0, 1) := by decide +kernel
theorem dX16_seen_39 : decode cX16_seen 39 = .ok (.getfield 124, 3) := by decide +kernel
theorem dX16_seen_42 : decode cX16_seen 42 = .ok (.iload 6, 2) := by decide +kernel
theorem dX16_seen_44 : decode cX16_seen 44 = .ok (.baload, 1) := by decide +kernel
theorem dX16_seen_45 : decode cX16_seen 45 = .ok (.ifCond .ne 23, 3) := by decide +kernel
theorem dX16_seen_48 : decode cX16_seen 48 = .ok (.aload_n 0, 1) := by decide +kernel
theorem dX16_seen_49 : decode cX16_seen 49 = .ok (.getfield 118, 3) := by decide +kernel
theorem dX16_seen_52 : decode cX16_seen 52 = .ok (.iload 6, 2) := by decide +kernel
theorem dX16_seen_54 : decode cX16_seen 54 = .ok (.iaload, 1) := by decide +kernel
theorem dX16_seen_55 : decode cX16_seen 55 = .ok (.iload 4, 2) := by decide +kernel
theorem dX16_seen_57 : decode cX16_seen 57 = .ok (.if_icmp .ne 9, 3) := by decide +kernel
theorem dX16_seen_60 : decode cX16_seen 60 = .ok (.aload_n 0, 1) := by decide +kernel
theorem dX16_seen_61 : decode cX16_seen 61 = .ok (.iload 6, 2) := by decide +kernel
theorem dX16_seen_63 : decode cX16_seen 63 = .ok (.invokevirtual 500, 3) := by decide +kernel
theorem dX16_seen_66 : decode cX16_seen 66 = .ok (.iconst (-1), 1) := by decide +kernel
theorem dX16_seen_67 : decode cX16_seen 67 = .ok (.ireturn, 1) := by decide +kernel
theorem dX16_seen_68 : decode cX16_seen 68 = .ok (.aload_n 0, 1) := by decide +kernel
theorem dX16_seen_69 : decode cX16_seen 69 = .ok (.iload_n 1, 1) := by decide +kernel
theorem dX16_seen_70 : decode cX16_seen 70 = .ok (.iload 5, 2) := by decide +kernel
theorem dX16_seen_72 : decode cX16_seen 72 = .ok (.iconst 0, 1) := by decide +kernel
theorem dX16_seen_73 : decode cX16_seen 73 = .ok (.invokevirtual 511, 3) := by decide +kernel
theorem dX16_seen_76 : decode cX16_seen 76 = .ok (.aload_n 0, 1) := by decide +kernel
theorem dX16_seen_77 : decode cX16_seen 77 = .ok (.getfield 376, 3) := by decide +kernel
theorem dX16_seen_80 : decode cX16_seen 80 = .ok (.if_icmp .ge 41, 3) := by decide +kernel
theorem dX16_seen_83 : decode cX16_seen 83 = .ok (.iload 6, 2) := by decide +kernel
theorem dX16_seen_85 : decode cX16_seen 85 = .ok (.ifCond .lt 10, 3) := by decide +kernel
theorem dX16_seen_88 : decode cX16_seen 88 = .ok (.aload_n 0, 1) := by decide +kernel
theorem dX16_seen_89 : decode cX16_seen 89 = .ok (.iload_n 1, 1) := by decide +kernel
theorem dX16_seen_90 : decode cX16_seen 90 = .ok (.iload 6, 2) := by decide +kernel
theorem dX16_seen_92 : decode cX16_seen 92 = .ok (.invokevirtual 515, 3) := by decide +kernel
theorem dX16_seen_95 : decode cX16_seen 95 = .ok (.aload_n 0, 1) := by decide +kernel
theorem dX16_seen_96 : decode cX16_seen 96 = .ok (.iload_n 1, 1) := by decide +kernel
theorem dX16_seen_97 : decode cX16_seen 97 = .ok (.aload_n 2, 1) := by decide +kernel
theorem dX16_seen_98 : decode cX16_seen 98 = .ok (.iload_n 3, 1) := by decide +kernel
theorem dX16_seen_99 : decode cX16_seen 99 = .ok (.iload 4, 2) := by decide +kernel
theorem dX16_seen_101 : decode cX16_seen 101 = .ok (.iload 5, 2) := by decide +kernel
theorem dX16_seen_103 : decode cX16_seen 103 = .ok (.iconst 0, 1) := by decide +kernel
theorem dX16_seen_104 : decode cX16_seen 104 = .ok (.invokevirtual 518, 3) := by decide +kernel
theorem dX16_seen_107 : decode cX16_seen 107 = .ok (.istore 7, 2) := by decide +kernel
theorem dX16_seen_109 : decode cX16_seen 109 = .ok (.iload 7, 2) := by decide +kernel
theorem dX16_seen_111 : decode cX16_seen 111 = .ok (.ifCond .lt 7, 3) := by decide +kernel
theorem dX16_seen_114 : decode cX16_seen 114 = .ok (.iconst (-1), 1) := by decide +kernel
theorem dX16_seen_115 : decode cX16_seen 115 = .ok (.goto 5, 3) := by decide +kernel
theorem dX16_seen_118 : decode cX16_seen 118 = .ok (.iload 7, 2) := by decide +kernel
theorem dX16_seen_120 : decode cX16_seen 120 = .ok (.ireturn, 1) := by decide +kernel
theorem dX16_seen_121 : decode cX16_seen 121 = .ok (.iload 6, 2) := by decide +kernel
theorem dX16_seen_123 : decode cX16_seen 123 = .ok (.ifCond .ge 49, 3) := by decide +kernel
theorem dX16_seen_126 : decode cX16_seen 126 = .ok (.aload_n 0, 1) := by decide +kernel
theorem dX16_seen_127 : decode cX16_seen 127 = .ok (.iload_n 1, 1) := by decide +kernel
theorem dX16_seen_128 : decode cX16_seen 128 = .ok (.iload 5, 2) := by decide +kernel
theorem dX16_seen_130 : decode cX16_seen 130 = .ok (.iconst 1, 1) := by decide +kernel
theorem dX16_seen_131 : decode cX16_seen 131 = .ok (.invokevirtual 511, 3) := by decide +kernel
theorem dX16_seen_134 : decode cX16_seen 134 = .ok (.aload_n 0, 1) := by decide +kernel
theorem dX16_seen_135 : decode cX16_seen 135 = .ok (.getfield 376, 3) := by decide +kernel
theorem dX16_seen_138 : decode cX16_seen 138 = .ok (.if_icmp .ne 17, 3) := by decide +kernel
theorem dX16_seen_141 : decode cX16_seen 141 = .ok (.aload_n 0, 1) := by decide +kernel
theorem dX16_seen_142 : decode cX16_seen 142 = .ok (.iload_n 1, 1) := by decide +kernel
theorem dX16_seen_143 : decode cX16_seen 143 = .ok (.aload_n 0, 1) := by decide +kernel
theorem dX16_seen_144 : decode cX16_seen 144 = .ok (.iload_n 1, 1) := by decide +kernel
theorem dX16_seen_145 : decode cX16_seen 145 = .ok (.iload 5, 2) := by decide +kernel
theorem dX16_seen_147 : decode cX16_seen 147 = .ok (.iconst 1, 1) := by decide +kernel
theorem dX16_seen_148 : decode cX16_seen 148 = .ok (.iconst 1, 1) := by decide +kernel
theorem dX16_seen_149 : decode cX16_seen 149 = .ok (.invokevirtual 522, 3) := by decide +kernel
theorem dX16_seen_152 : decode cX16_seen 152 = .ok (.invokevirtual 515, 3) := by decide +kernel
theorem dX16_seen_155 : decode cX16_seen 155 = .ok (.aload_n 0, 1) := by decide +kernel
theorem dX16_seen_156 : decode cX16_seen 156 = .ok (.iload_n 1, 1) := by decide +kernel
theorem dX16_seen_157 : decode cX16_seen 157 = .ok (.aload_n 2, 1) := by decide +kernel
theorem dX16_seen_158 : decode cX16_seen 158 = .ok (.iload_n 3, 1) := by decide +kernel
theorem dX16_seen_159 : decode cX16_seen 159 = .ok (.iload 4, 2) := by decide +kernel
theorem dX16_seen_161 : decode cX16_seen 161 = .ok (.iload 5, 2) := by decide +kernel
theorem dX16_seen_163 : decode cX16_seen 163 = .ok (.iconst 1, 1) := by decide +kernel
theorem dX16_seen_164 : decode cX16_seen 164 = .ok (.invokevirtual 518, 3) := by decide +kernel
theorem dX16_seen_167 : decode cX16_seen 167 = .ok (.istore 6, 2) := by decide +kernel
theorem dX16_seen_169 : decode cX16_seen 169 = .ok (.goto 21, 3) := by decide +kernel
theorem dX16_seen_172 : decode cX16_seen 172 = .ok (.aload_n 0, 1) := by decide +kernel
theorem dX16_seen_173 : decode cX16_seen 173 = .ok (.getfield 118, 3) := by decide +kernel
theorem dX16_seen_176 : decode cX16_seen 176 = .ok (.iload 6, 2) := by decide +kernel
theorem dX16_seen_178 : decode cX16_seen 178 = .ok (.iaload, 1) := by decide +kernel
theorem dX16_seen_179 : decode cX16_seen 179 = .ok (.iload 4, 2) := by decide +kernel
theorem dX16_seen_181 : decode cX16_seen 181 = .ok (.if_icmp .ne 9, 3) := by decide +kernel
theorem dX16_seen_184 : decode cX16_seen 184 = .ok (.aload_n 0, 1) := by decide +kernel
theorem dX16_seen_185 : decode cX16_seen 185 = .ok (.iload 6, 2) := by decide +kernel
theorem dX16_seen_187 : decode cX16_seen 187 = .ok (.invokevirtual 500, 3) := by decide +kernel
theorem dX16_seen_190 : decode cX16_seen 190 = .ok (.aload_n 0, 1) := by decide +kernel
theorem dX16_seen_191 : decode cX16_seen 191 = .ok (.iload_n 1, 1) := by decide +kernel
theorem dX16_seen_192 : decode cX16_seen 192 = .ok (.iload 5, 2) := by decide +kernel
theorem dX16_seen_194 : decode cX16_seen 194 = .ok (.invokevirtual 526, 3) := by decide +kernel
theorem dX16_seen_197 : decode cX16_seen 197 = .ok (.ifCond .eq 7, 3) := by decide +kernel
theorem dX16_seen_200 : decode cX16_seen 200 = .ok (.iconst (-1), 1) := by decide +kernel
theorem dX16_seen_201 : decode cX16_seen 201 = .ok (.goto 12, 3) := by decide +kernel
theorem dX16_seen_204 : decode cX16_seen 204 = .ok (.aload_n 0, 1) := by decide +kernel
theorem dX16_seen_205 : decode cX16_seen 205 = .ok (.iload_n 1, 1) := by decide +kernel
theorem dX16_seen_206 : decode cX16_seen 206 = .ok (.iload 5, 2) := by decide +kernel
theorem dX16_seen_208 : decode cX16_seen 208 = .ok (.iconst 0, 1) := by decide +kernel
theorem dX16_seen_209 : decode cX16_seen 209 = .ok (.iconst 1, 1) := by decide +kernel
theorem dX16_seen_210 : decode cX16_seen 210 = .ok (.invokevirtual 522, 3) := by decide +kernel
theorem dX16_seen_213 : decode cX16_seen 213 = .ok (.ireturn, 1) := by decide +kernel
def j_X16_seen_213 (y0 : Int) (V : VV) : Option (Int × VV) :=
  some (y0, V)
def j_X16_seen_190 (x1 x5 : Int) (V : VV) : Option (Int × VV) :=
  (f_X16_probes x1 x5 V).bind fun v1 =>
  if w32 v1 = 0 then
    (f_X16_edge x1 x5 0 1 V).bind fun v2 =>
    j_X16_seen_213 v2 V
  else
    j_X16_seen_213 (-1) V
def j_X16_seen_155 (x1 x2 x3 x4 x5 : Int) (V : VV) : Option (Int × VV) :=
  (f_X16_addRow x1 x2 x3 x4 x5 1 V).bind fun r1 =>
  j_X16_seen_190 x1 x5 r1.2
def j_X16_seen_120 (y0 : Int) (V : VV) : Option (Int × VV) :=
  some (y0, V)
def j_X16_seen_95 (x1 x2 x3 x4 x5 : Int) (V : VV) : Option (Int × VV) :=
  (f_X16_addRow x1 x2 x3 x4 x5 0 V).bind fun r1 =>
  if w32 r1.1 < 0 then
    j_X16_seen_120 r1.1 r1.2
  else
    j_X16_seen_120 (-1) r1.2
def j_X16_seen_68 (x1 x2 x3 x4 x5 x6 : Int) (V : VV) : Option (Int × VV) :=
  (f_X16_inBucket x1 x5 0 V).bind fun v1 =>
  if w32 v1 < w32 (w32 (V 156 0)) then
    if w32 x6 < 0 then
      j_X16_seen_95 x1 x2 x3 x4 x5 V
    else
      (f_X16_removeRow x1 x6 V).bind fun V3 =>
      j_X16_seen_95 x1 x2 x3 x4 x5 V3
  else
    if w32 x6 < 0 then
      (f_X16_inBucket x1 x5 1 V).bind fun v3 =>
      if w32 v3 = w32 (w32 (V 156 0)) then
        (f_X16_edge x1 x5 1 1 V).bind fun v4 =>
        (f_X16_removeRow x1 v4 V).bind fun V2 =>
        j_X16_seen_155 x1 x2 x3 x4 x5 V2
      else
        j_X16_seen_155 x1 x2 x3 x4 x5 V
    else
      (l2 191 35200 x6 V).bind fun v2 =>
      if w32 v2 = w32 x4 then
        (f_X16_touch x6 V).bind fun V1 =>
        j_X16_seen_190 x1 x5 V1
      else
        j_X16_seen_190 x1 x5 V
def j_X16_seen_66 (V : VV) : Option (Int × VV) :=
  some ((-1), V)
def f_X16_seen (x1 x2 x3 x4 : Int) (V : VV) : Option (Int × VV) :=
  (f_X16_common x2 x3 165 (5 * x1) V).bind fun v1 =>
  if w32 v1 = w32 160 then
    some ((-1), V)
  else
    (f_X16_rowWith x1 x2 x3 V).bind fun v2 =>
    if w32 v2 < 0 then
      j_X16_seen_68 x1 x2 x3 x4 v1 v2 V
    else
      (l2 193 35200 v2 V).bind fun v3 =>
      if w32 v3 = 0 then
        (l2 191 35200 v2 V).bind fun v4 =>
        if w32 v4 = w32 x4 then
          (f_X16_touch v2 V).bind fun V1 =>
          j_X16_seen_66 V1
        else
          j_X16_seen_66 V
      else
        j_X16_seen_68 x1 x2 x3 x4 v1 v2 V
theorem s_X16_seen_213 {g : GG} {d : Nat} (hD : 2 ≤ d) {y0 : Int} {M : MM} (hM : LM M) {V : VV} {o : AV × MM} {P : (Int × VV) → Prop} (r0 : ∀ r : Int × VV, P r → o = ((0, r.1), (wr M r.2))) {z : Int × VV} (h : j_X16_seen_213 y0 V = some z) (hz : P z) : Sem g d YX16_seen 213 [(9, 0), (9, 0), (9, 0), (9, 0), (9, 0), (9, 0), (9, 0), (9, 0)] [(0, y0)] (wr M V) o := by
  delta j_X16_seen_213 at h
  obtain rfl := r0 _ (some_P (P := fun r => P r) h hz)
  exact P_ret dX16_seen_213 rfl (Or.inl rfl)
theorem s_X16_seen_190 {g : GG} {d : Nat} (hD : 2 ≤ d) {x1 x5 : Int} {M : MM} (hM : LM M) {V : VV} {o : AV × MM} {P : (Int × VV) → Prop} (r0 : ∀ r : Int × VV, P r → o = ((0, r.1), (wr M r.2))) {z : Int × VV} (h : j_X16_seen_190 x1 x5 V = some z) (hz : P z) : Sem g d YX16_seen 190 [(1, 156), (0, x1), (9, 0), (9, 0), (9, 0), (0, x5), (9, 0), (9, 0)] [] (wr M V) o := by
  delta j_X16_seen_190 at h
  refine S_aload_n (i := 0) dX16_seen_190 rfl rfl ?_
  refine S_iload_n (i := 1) dX16_seen_191 rfl rfl ?_
  refine S_iload dX16_seen_192 rfl ?_
  refine P2_invVp hM 0 [(0, x1), (0, x5)] [] CVX16_probes MLX16_526 dX16_seen_194 rfl rfl rfl rfl rfl (by omega) h (fun r h => F_X16_probes (by omega) hM h) (fun v1 h => ?_)
  refine P_if_eq (tgt := 204) dX16_seen_197 rfl h (fun h => ?_) (fun h => ?_)
  · refine S_aload_n (i := 0) dX16_seen_204 rfl rfl ?_
    refine S_iload_n (i := 1) dX16_seen_205 rfl rfl ?_
    refine S_iload dX16_seen_206 rfl ?_
    refine S_iconst dX16_seen_208 rfl ?_
    refine S_iconst dX16_seen_209 rfl ?_
    refine P2_invVp hM 0 [(0, x1), (0, x5), (0, 0), (0, 1)] [] CVX16_edge MLX16_522 dX16_seen_210 rfl rfl rfl rfl rfl (by omega) h (fun r h => F_X16_edge (by omega) hM h) (fun v2 h => ?_)
    refine S_weak (ls' := [(9, 0), (9, 0), (9, 0), (9, 0), (9, 0), (9, 0), (9, 0), (9, 0)]) ⟨Or.inl rfl, ⟨Or.inl rfl, ⟨Or.inl rfl, ⟨Or.inl rfl, ⟨Or.inl rfl, ⟨Or.inl rfl, ⟨Or.inl rfl, ⟨Or.inl rfl, trivial⟩⟩⟩⟩⟩⟩⟩⟩ ?_
    exact s_X16_seen_213 hD hM r0 h hz
  · refine S_iconst dX16_seen_200 rfl ?_
    refine S_goto (tgt := 213) dX16_seen_201 rfl ?_
    refine S_weak (ls' := [(9, 0), (9, 0), (9, 0), (9, 0), (9, 0), (9, 0), (9, 0), (9, 0)]) ⟨Or.inl rfl, ⟨Or.inl rfl, ⟨Or.inl rfl, ⟨Or.inl rfl, ⟨Or.inl rfl, ⟨Or.inl rfl, ⟨Or.inl rfl, ⟨Or.inl rfl, trivial⟩⟩⟩⟩⟩⟩⟩⟩ ?_
    exact s_X16_seen_213 hD hM r0 h hz
theorem s_X16_seen_155 {g : GG} {d : Nat} (hD : 2 ≤ d) {x1 x2 x3 x4 x5 : Int} {M : MM} (hM : LM M) {V : VV} {o : AV × MM} {P : (Int × VV) → Prop} (r0 : ∀ r : Int × VV, P r → o = ((0, r.1), (wr M r.2))) {z : Int × VV} (h : j_X16_seen_155 x1 x2 x3 x4 x5 V = some z) (hz : P z) : Sem g d YX16_seen 155 [(1, 156), (0, x1), (1, x2), (0, x3), (0, x4), (0, x5), (9, 0), (9, 0)] [] (wr M V) o := by
  delta j_X16_seen_155 at h
  refine S_aload_n (i := 0) dX16_seen_155 rfl rfl ?_
  refine S_iload_n (i := 1) dX16_seen_156 rfl rfl ?_
  refine S_aload_n (i := 2) dX16_seen_157 rfl rfl ?_
  refine S_iload_n (i := 3) dX16_seen_158 rfl rfl ?_
  refine S_iload dX16_seen_159 rfl ?_
  refine S_iload dX16_seen_161 rfl ?_
  refine S_iconst dX16_seen_163 rfl ?_
  refine P2_invVe hM 0 [(0, x1), (1, x2), (0, x3), (0, x4), (0, x5), (0, 1)] [] CVX16_addRow MLX16_518 dX16_seen_164 rfl rfl rfl rfl rfl (by omega) h (fun r h => F_X16_addRow (by omega) hM h) (fun r1 h => ?_)
  refine S_istore dX16_seen_167 (Nat.le_of_ble_eq_true rfl) rfl rfl ?_
  change Sem g d YX16_seen 169 [(1, 156), (0, x1), (1, x2), (0, x3), (0, x4), (0, x5), (0, r1.1), (9, 0)] [] (wr M r1.2) o
  refine S_goto (tgt := 190) dX16_seen_169 rfl ?_
  refine S_weak (ls' := [(1, 156), (0, x1), (9, 0), (9, 0), (9, 0), (0, x5), (9, 0), (9, 0)]) ⟨Or.inr rfl, ⟨Or.inr rfl, ⟨Or.inl rfl, ⟨Or.inl rfl, ⟨Or.inl rfl, ⟨Or.inr rfl, ⟨Or.inl rfl, ⟨Or.inl rfl, trivial⟩⟩⟩⟩⟩⟩⟩⟩ ?_
  exact s_X16_seen_190 hD hM r0 h hz
theorem s_X16_seen_120 {g : GG} {d : Nat} (hD : 2 ≤ d) {y0 : Int} {M : MM} (hM : LM M) {V : VV} {o : AV × MM} {P : (Int × VV) → Prop} (r0 : ∀ r : Int × VV, P r → o = ((0, r.1), (wr M r.2))) {z : Int × VV} (h : j_X16_seen_120 y0 V = some z) (hz : P z) : Sem g d YX16_seen 120 [(9, 0), (9, 0), (9, 0), (9, 0), (9, 0), (9, 0), (9, 0), (9, 0)] [(0, y0)] (wr M V) o := by
  delta j_X16_seen_120 at h
  obtain rfl := r0 _ (some_P (P := fun r => P r) h hz)
  exact P_ret dX16_seen_120 rfl (Or.inl rfl)
theorem s_X16_seen_95 {g : GG} {d : Nat} (hD : 2 ≤ d) {x1 x2 x3 x4 x5 : Int} {M : MM} (hM : LM M) {V : VV} {o : AV × MM} {P : (Int × VV) → Prop} (r0 : ∀ r : Int × VV, P r → o = ((0, r.1), (wr M r.2))) {z : Int × VV} (h : j_X16_seen_95 x1 x2 x3 x4 x5 V = some z) (hz : P z) : Sem g d YX16_seen 95 [(1, 156), (0, x1), (1, x2), (0, x3), (0, x4), (0, x5), (9, 0), (9, 0)] [] (wr M V) o := by
  delta j_X16_seen_95 at h
  refine S_aload_n (i := 0) dX16_seen_95 rfl rfl ?_
  refine S_iload_n (i := 1) dX16_seen_96 rfl rfl ?_
  refine S_aload_n (i := 2) dX16_seen_97 rfl rfl ?_
  refine S_iload_n (i := 3) dX16_seen_98 rfl rfl ?_
  refine S_iload dX16_seen_99 rfl ?_
  refine S_iload dX16_seen_101 rfl ?_
  refine S_iconst dX16_seen_103 rfl ?_
  refine P2_invVe hM 0 [(0, x1), (1, x2), (0, x3), (0, x4), (0, x5), (0, 0)] [] CVX16_addRow MLX16_518 dX16_seen_104 rfl rfl rfl rfl rfl (by omega) h (fun r h => F_X16_addRow (by omega) hM h) (fun r1 h => ?_)
  refine S_istore dX16_seen_107 (Nat.le_of_ble_eq_true rfl) rfl rfl ?_
  change Sem g d YX16_seen 109 [(1, 156), (0, x1), (1, x2), (0, x3), (0, x4), (0, x5), (9, 0), (0, r1.1)] [] (wr M r1.2) o
  refine S_iload dX16_seen_109 rfl ?_
  refine P_if_lt (tgt := 118) dX16_seen_111 rfl h (fun h => ?_) (fun h => ?_)
  · refine S_iload dX16_seen_118 rfl ?_
    refine S_weak (ls' := [(9, 0), (9, 0), (9, 0), (9, 0), (9, 0), (9, 0), (9, 0), (9, 0)]) ⟨Or.inl rfl, ⟨Or.inl rfl, ⟨Or.inl rfl, ⟨Or.inl rfl, ⟨Or.inl rfl, ⟨Or.inl rfl, ⟨Or.inl rfl, ⟨Or.inl rfl, trivial⟩⟩⟩⟩⟩⟩⟩⟩ ?_
    exact s_X16_seen_120 hD hM r0 h hz
  · refine S_iconst dX16_seen_114 rfl ?_
    refine S_goto (tgt := 120) dX16_seen_115 rfl ?_
    refine S_weak (ls' := [(9, 0), (9, 0), (9, 0), (9, 0), (9, 0), (9, 0), (9, 0), (9, 0)]) ⟨Or.inl rfl, ⟨Or.inl rfl, ⟨Or.inl rfl, ⟨Or.inl rfl, ⟨Or.inl rfl, ⟨Or.inl rfl, ⟨Or.inl rfl, ⟨Or.inl rfl, trivial⟩⟩⟩⟩⟩⟩⟩⟩ ?_
    exact s_X16_seen_120 hD hM r0 h hz
theorem s_X16_seen_68 {g : GG} {d : Nat} (hD : 2 ≤ d) {x1 x2 x3 x4 x5 x6 : Int} {M : MM} (hM : LM M) {V : VV} {o : AV × MM} {P : (Int × VV) → Prop} (r0 : ∀ r : Int × VV, P r → o = ((0, r.1), (wr M r.2))) {z : Int × VV} (h : j_X16_seen_68 x1 x2 x3 x4 x5 x6 V = some z) (hz : P z) : Sem g d YX16_seen 68 [(1, 156), (0, x1), (1, x2), (0, x3), (0, x4), (0, x5), (0, x6), (9, 0)] [] (wr M V) o := by
  delta j_X16_seen_68 at h
  refine S_aload_n (i := 0) dX16_seen_68 rfl rfl ?_
  refine S_iload_n (i := 1) dX16_seen_69 rfl rfl ?_
  refine S_iload dX16_seen_70 rfl ?_
  refine S_iconst dX16_seen_72 rfl ?_
  refine P2_invVp hM 0 [(0, x1), (0, x5), (0, 0)] [] CVX16_inBucket MLX16_511 dX16_seen_73 rfl rfl rfl rfl rfl (by omega) h (fun r h => F_X16_inBucket (by omega) hM h) (fun v1 h => ?_)
  refine S_aload_n (i := 0) dX16_seen_76 rfl rfl ?_
  refine P2_gfi hM FLX16_376 rfl dX16_seen_77 ?_
  refine P_icmp_ge (tgt := 121) dX16_seen_80 rfl h (fun h => ?_) (fun h => ?_)
  · refine S_iload dX16_seen_121 rfl ?_
    refine P_if_ge (tgt := 172) dX16_seen_123 rfl h (fun h => ?_) (fun h => ?_)
    · refine S_aload_n (i := 0) dX16_seen_172 rfl rfl ?_
      refine P2_gfr hM (a := 191) FLX16_118 rfl ⟨rfl, rfl⟩ dX16_seen_173 ?_
      refine S_iload dX16_seen_176 rfl ?_
      refine P2_lai hM (a := 191) (n := 35200) rfl dX16_seen_178 h (fun v2 h => ?_)
      refine S_iload dX16_seen_179 rfl ?_
      refine P_icmp_ne (tgt := 190) dX16_seen_181 rfl h (fun h => ?_) (fun h => ?_)
      · refine S_weak (ls' := [(1, 156), (0, x1), (9, 0), (9, 0), (9, 0), (0, x5), (9, 0), (9, 0)]) ⟨Or.inr rfl, ⟨Or.inr rfl, ⟨Or.inl rfl, ⟨Or.inl rfl, ⟨Or.inl rfl, ⟨Or.inr rfl, ⟨Or.inl rfl, ⟨Or.inl rfl, trivial⟩⟩⟩⟩⟩⟩⟩⟩ ?_
        exact s_X16_seen_190 hD hM r0 h hz
      · refine S_aload_n (i := 0) dX16_seen_184 rfl rfl ?_
        refine S_iload dX16_seen_185 rfl ?_
        refine P2_invVm hM [(0, x6)] [] CVX16_touch MLX16_500 dX16_seen_187 rfl rfl rfl rfl (by omega) h (fun r h => F_X16_touch (by omega) hM h) (fun V1 h => ?_)
        refine S_weak (ls' := [(1, 156), (0, x1), (9, 0), (9, 0), (9, 0), (0, x5), (9, 0), (9, 0)]) ⟨Or.inr rfl, ⟨Or.inr rfl, ⟨Or.inl rfl, ⟨Or.inl rfl, ⟨Or.inl rfl, ⟨Or.inr rfl, ⟨Or.inl rfl, ⟨Or.inl rfl, trivial⟩⟩⟩⟩⟩⟩⟩⟩ ?_
        exact s_X16_seen_190 hD hM r0 h hz
    · refine S_aload_n (i := 0) dX16_seen_126 rfl rfl ?_
      refine S_iload_n (i := 1) dX16_seen_127 rfl rfl ?_
      refine S_iload dX16_seen_128 rfl ?_
      refine S_iconst dX16_seen_130 rfl ?_
      refine P2_invVp hM 0 [(0, x1), (0, x5), (0, 1)] [] CVX16_inBucket MLX16_511 dX16_seen_131 rfl rfl rfl rfl rfl (by omega) h (fun r h => F_X16_inBucket (by omega) hM h) (fun v3 h => ?_)
      refine S_aload_n (i := 0) dX16_seen_134 rfl rfl ?_
      refine P2_gfi hM FLX16_376 rfl dX16_seen_135 ?_
      refine P_icmp_ne (tgt := 155) dX16_seen_138 rfl h (fun h => ?_) (fun h => ?_)
      · refine S_weak (ls' := [(1, 156), (0, x1), (1, x2), (0, x3), (0, x4), (0, x5), (9, 0), (9, 0)]) ⟨Or.inr rfl, ⟨Or.inr rfl, ⟨Or.inr rfl, ⟨Or.inr rfl, ⟨Or.inr rfl, ⟨Or.inr rfl, ⟨Or.inl rfl, ⟨Or.inl rfl, trivial⟩⟩⟩⟩⟩⟩⟩⟩ ?_
        exact s_X16_seen_155 hD hM r0 h hz
      · refine S_aload_n (i := 0) dX16_seen_141 rfl rfl ?_
        refine S_iload_n (i := 1) dX16_seen_142 rfl rfl ?_
        refine S_aload_n (i := 0) dX16_seen_143 rfl rfl ?_
        refine S_iload_n (i := 1) dX16_seen_144 rfl rfl ?_
        refine S_iload dX16_seen_145 rfl ?_
        refine S_iconst dX16_seen_147 rfl ?_
        refine S_iconst dX16_seen_148 rfl ?_
        refine P2_invVp hM 0 [(0, x1), (0, x5), (0, 1), (0, 1)] [(0, x1), (1, 156)] CVX16_edge MLX16_522 dX16_seen_149 rfl rfl rfl rfl rfl (by omega) h (fun r h => F_X16_edge (by omega) hM h) (fun v4 h => ?_)
        refine P2_invVm hM [(0, x1), (0, v4)] [] CVX16_removeRow MLX16_515 dX16_seen_152 rfl rfl rfl rfl (by omega) h (fun r h => F_X16_removeRow (by omega) hM h) (fun V2 h => ?_)
        refine S_weak (ls' := [(1, 156), (0, x1), (1, x2), (0, x3), (0, x4), (0, x5), (9, 0), (9, 0)]) ⟨Or.inr rfl, ⟨Or.inr rfl, ⟨Or.inr rfl, ⟨Or.inr rfl, ⟨Or.inr rfl, ⟨Or.inr rfl, ⟨Or.inl rfl, ⟨Or.inl rfl, trivial⟩⟩⟩⟩⟩⟩⟩⟩ ?_
        exact s_X16_seen_155 hD hM r0 h hz
  · refine S_iload dX16_seen_83 rfl ?_
    refine P_if_lt (tgt := 95) dX16_seen_85 rfl h (fun h => ?_) (fun h => ?_)
    · refine S_weak (ls' := [(1, 156), (0, x1), (1, x2), (0, x3), (0, x4), (0, x5), (9, 0), (9, 0)]) ⟨Or.inr rfl, ⟨Or.inr rfl, ⟨Or.inr rfl, ⟨Or.inr rfl, ⟨Or.inr rfl, ⟨Or.inr rfl, ⟨Or.inl rfl, ⟨Or.inl rfl, trivial⟩⟩⟩⟩⟩⟩⟩⟩ ?_
      exact s_X16_seen_95 hD hM r0 h hz
    · refine S_aload_n (i := 0) dX16_seen_88 rfl rfl ?_
      refine S_iload_n (i := 1) dX16_seen_89 rfl rfl ?_
      refine S_iload dX16_seen_90 rfl ?_
      refine P2_invVm hM [(0, x1), (0, x6)] [] CVX16_removeRow MLX16_515 dX16_seen_92 rfl rfl rfl rfl (by omega) h (fun r h => F_X16_removeRow (by omega) hM h) (fun V3 h => ?_)
      refine S_weak (ls' := [(1, 156), (0, x1), (1, x2), (0, x3), (0, x4), (0, x5), (9, 0), (9, 0)]) ⟨Or.inr rfl, ⟨Or.inr rfl, ⟨Or.inr rfl, ⟨Or.inr rfl, ⟨Or.inr rfl, ⟨Or.inr rfl, ⟨Or.inl rfl, ⟨Or.inl rfl, trivial⟩⟩⟩⟩⟩⟩⟩⟩ ?_
      exact s_X16_seen_95 hD hM r0 h hz
theorem s_X16_seen_66 {g : GG} {d : Nat} (hD : 2 ≤ d) {M : MM} (hM : LM M) {V : VV} {o : AV × MM} {P : (Int × VV) → Prop} (r0 : ∀ r : Int × VV, P r → o = ((0, r.1), (wr M r.2))) {z : Int × VV} (h : j_X16_seen_66 V = some z) (hz : P z) : Sem g d YX16_seen 66 [(9, 0), (9, 0), (9, 0), (9, 0), (9, 0), (9, 0), (9, 0), (9, 0)] [] (wr M V) o := by
  delta j_X16_seen_66 at h
  refine S_iconst dX16_seen_66 rfl ?_
  obtain rfl := r0 _ (some_P (P := fun r => P r) h hz)
  exact P_ret dX16_seen_67 rfl (Or.inl rfl)
theorem s_X16_seen_0 {g : GG} {d : Nat} (hD : 2 ≤ d) {x1 x2 x3 x4 : Int} {M : MM} (hM : LM M) {V : VV} {o : AV × MM} {P : (Int × VV) → Prop} (r0 : ∀ r : Int × VV, P r → o = ((0, r.1), (wr M r.2))) {z : Int × VV} (h : f_X16_seen x1 x2 x3 x4 V = some z) (hz : P z) : Sem g d YX16_seen 0 [(1, 156), (0, x1), (1, x2), (0, x3), (0, x4), (9, 0), (9, 0), (9, 0)] [] (wr M V) o := by
  delta f_X16_seen at h
  refine S_aload_n (i := 2) dX16_seen_0 rfl rfl ?_
  refine S_iload_n (i := 3) dX16_seen_1 rfl rfl ?_
  refine S_aload_n (i := 0) dX16_seen_2 rfl rfl ?_
  refine P2_gfr hM (a := 165) FLX16_36 rfl ⟨rfl, rfl⟩ dX16_seen_3 ?_
  refine S_iconst dX16_seen_6 rfl ?_
  refine S_iload_n (i := 1) dX16_seen_7 rfl rfl ?_
  refine S_imul dX16_seen_8 ?_
  refine P_invSp 0 [(1, x2), (0, x3), (1, 165), (0, 5 * x1)] [] CSX16_common MLX16_503 dX16_seen_9 rfl rfl rfl rfl rfl (by omega) h (fun r h => F_X16_common (by omega) hM h) (fun v1 h => ?_)
  refine S_istore dX16_seen_12 (Nat.le_of_ble_eq_true rfl) rfl rfl ?_
  change Sem g d YX16_seen 14 [(1, 156), (0, x1), (1, x2), (0, x3), (0, x4), (0, v1), (9, 0), (9, 0)] [] (wr M V) o
  refine S_iload dX16_seen_14 rfl ?_
  refine S_sipush (z := 160) dX16_seen_16 rfl ?_
  refine P_icmp_ne (tgt := 24) dX16_seen_19 rfl h (fun h => ?_) (fun h => ?_)
  · refine S_aload_n (i := 0) dX16_seen_24 rfl rfl ?_
    refine S_iload_n (i := 1) dX16_seen_25 rfl rfl ?_
    refine S_aload_n (i := 2) dX16_seen_26 rfl rfl ?_
    refine S_iload_n (i := 3) dX16_seen_27 rfl rfl ?_
    refine P2_invVp hM 0 [(0, x1), (1, x2), (0, x3)] [] CVX16_rowWith MLX16_507 dX16_seen_28 rfl rfl rfl rfl rfl (by omega) h (fun r h => F_X16_rowWith (by omega) hM h) (fun v2 h => ?_)
    refine S_istore dX16_seen_31 (Nat.le_of_ble_eq_true rfl) rfl rfl ?_
    change Sem g d YX16_seen 33 [(1, 156), (0, x1), (1, x2), (0, x3), (0, x4), (0, v1), (0, v2), (9, 0)] [] (wr M V) o
    refine S_iload dX16_seen_33 rfl ?_
    refine P_if_lt (tgt := 68) dX16_seen_35 rfl h (fun h => ?_) (fun h => ?_)
    · exact s_X16_seen_68 hD hM r0 h hz
    · refine S_aload_n (i := 0) dX16_seen_38 rfl rfl ?_
      refine P2_gfr hM (a := 193) FLX16_124 rfl ⟨rfl, rfl⟩ dX16_seen_39 ?_
      refine S_iload dX16_seen_42 rfl ?_
      refine P2_laz hM (a := 193) (n := 35200) rfl dX16_seen_44 h (fun v3 h => ?_)
      refine P_if_ne (tgt := 68) dX16_seen_45 rfl h (fun h => ?_) (fun h => ?_)
      · exact s_X16_seen_68 hD hM r0 h hz
      · refine S_aload_n (i := 0) dX16_seen_48 rfl rfl ?_
        refine P2_gfr hM (a := 191) FLX16_118 rfl ⟨rfl, rfl⟩ dX16_seen_49 ?_
        refine S_iload dX16_seen_52 rfl ?_
        refine P2_lai hM (a := 191) (n := 35200) rfl dX16_seen_54 h (fun v4 h => ?_)
        refine S_iload dX16_seen_55 rfl ?_
        refine P_icmp_ne (tgt := 66) dX16_seen_57 rfl h (fun h => ?_) (fun h => ?_)
        · refine S_weak (ls' := [(9, 0), (9, 0), (9, 0), (9, 0), (9, 0), (9, 0), (9, 0), (9, 0)]) ⟨Or.inl rfl, ⟨Or.inl rfl, ⟨Or.inl rfl, ⟨Or.inl rfl, ⟨Or.inl rfl, ⟨Or.inl rfl, ⟨Or.inl rfl, ⟨Or.inl rfl, trivial⟩⟩⟩⟩⟩⟩⟩⟩ ?_
          exact s_X16_seen_66 hD hM r0 h hz
        · refine S_aload_n (i := 0) dX16_seen_60 rfl rfl ?_
          refine S_iload dX16_seen_61 rfl ?_
          refine P2_invVm hM [(0, v2)] [] CVX16_touch MLX16_500 dX16_seen_63 rfl rfl rfl rfl (by omega) h (fun r h => F_X16_touch (by omega) hM h) (fun V1 h => ?_)
          refine S_weak (ls' := [(9, 0), (9, 0), (9, 0), (9, 0), (9, 0), (9, 0), (9, 0), (9, 0)]) ⟨Or.inl rfl, ⟨Or.inl rfl, ⟨Or.inl rfl, ⟨Or.inl rfl, ⟨Or.inl rfl, ⟨Or.inl rfl, ⟨Or.inl rfl, ⟨Or.inl rfl, trivial⟩⟩⟩⟩⟩⟩⟩⟩ ?_
          exact s_X16_seen_66 hD hM r0 h hz
  · refine S_iconst dX16_seen_22 rfl ?_
    obtain rfl := r0 _ (some_P (P := fun r => P r) h hz)
    exact P_ret dX16_seen_23 rfl (Or.inl rfl)
theorem F_X16_seen {g : GG} {d : Nat} (hD : 2 ≤ d) {x1 x2 x3 x4 : Int} {M : MM} (hM : LM M) {V : VV} {r : Int × VV} (h : f_X16_seen x1 x2 x3 x4 V = some r) : Sem g d YX16_seen 0 (ini YX16_seen [(1, 156), (0, x1), (1, x2), (0, x3), (0, x4)]) [] (wr M V) ((0, r.1), (wr M r.2)) := by
  change Sem g d YX16_seen 0 [(1, 156), (0, x1), (1, x2), (0, x3), (0, x4), (9, 0), (9, 0), (9, 0)] [] (wr M V) ((0, r.1), (wr M r.2))
  exact s_X16_seen_0 hD hM (P := fun x => x = r) (fun q e => by rw [e]) h rfl
/-! PeerSearchModel.see(I[III)V -/
theorem dX16_see_0 : decode cX16_see 0 = .ok (.aload_n 0, 1) := by decide +kernel
theorem dX16_see_1 : decode cX16_see 1 = .ok (.iload_n 1, 1) := by decide +kernel
theorem dX16_see_2 : decode cX16_see 2 = .ok (.aload_n 2, 1) := by decide +kernel
theorem dX16_see_3 : decode cX16_see 3 = .ok (.iload_n 3, 1) := by decide +kernel
theorem dX16_see_4 : decode cX16_see 4 = .ok (.iload 4, 2) := by decide +kernel
theorem dX16_see_6 : decode cX16_see 6 = .ok (.invokevirtual 530, 3) := by decide +kernel
theorem dX16_see_9 : decode cX16_see 9 = .ok (.istore 5, 2) := by decide +kernel
theorem dX16_see_11 : decode cX16_see 11 = .ok (.iload 5, 2) := by decide +kernel
theorem dX16_see_13 : decode cX16_see 13 = .ok (.ifCond .lt 38, 3) := by decide +kernel
theorem dX16_see_16 : decode cX16_see 16 = .ok (.aload_n 0, 1) := by decide +kernel
theorem dX16_see_17 : decode cX16_see 17 = .ok (.getfield 121, 3) := by decide +kernel
theorem dX16_see_20 : decode cX16_see 20 = .ok (.iload 5, 2) := by decide +kernel
theorem dX16_see_22 : decode cX16_see 22 = .ok (.iaload, 1) := by decide +kernel
theorem dX16_see_23 : decode cX16_see 23 = .ok (.istore 6, 2) := by decide +kernel
theorem dX16_see_25 : decode cX16_see 25 = .ok (.aload_n 0, 1) := by decide +kernel
theorem dX16_see_26 : decode cX16_see 26 = .ok (.iload_n 1, 1) := by decide +kernel
theorem dX16_see_27 : decode cX16_see 27 = .ok (.aload_n 0, 1) := by decide +kernel
theorem dX16_see_28 : decode cX16_see 28 = .ok (.getfield 118, 3) := by decide +kernel
theorem dX16_see_31 : decode cX16_see 31 = .ok (.iload 5, 2) := by decide +kernel
theorem dX16_see_33 : decode cX16_see 33 = .ok (.iaload, 1) := by decide +kernel
theorem dX16_see_34 : decode cX16_see 34 = .ok (.aload_n 0, 1) := by decide +kernel
theorem dX16_see_35 : decode cX16_see 35 = .ok (.getfield 114, 3) := by decide +kernel
theorem dX16_see_38 : decode cX16_see 38 = .ok (.iconst 5, 1) := by decide +kernel
theorem dX16_see_39 : decode cX16_see 39 = .ok (.iload 5, 2) := by decide +kernel
theorem dX16_see_41 : decode cX16_see 41 = .ok (.imul, 1) := by decide +kernel
theorem dX16_see_42 : decode cX16_see 42 = .ok (.iconst 1, 1) := by decide +kernel
theorem dX16_see_43 : decode cX16_see 43 = .ok (.iconst (-1), 1) := by decide +kernel
theorem dX16_see_44 : decode cX16_see 44 = .ok (.iload 6, 2) := by decide +kernel
theorem dX16_see_46 : decode cX16_see 46 = .ok (.invokevirtual 533, 3) := by decide +kernel
theorem dX16_see_49 : decode cX16_see 49 = .ok (.istore 7, 2) := by decide +kernel
theorem dX16_see_51 : decode cX16_see 51 = .ok (.return_, 1) := by decide +kernel
def j_X16_see_51 (V : VV) : Option (VV) :=
  some V
def f_X16_see (x1 x2 x3 x4 : Int) (V : VV) : Option (VV) :=
  (f_X16_seen x1 x2 x3 x4 V).bind fun r1 =>
  if w32 r1.1 < 0 then
    j_X16_see_51 r1.2
  else
    (l2 192 35200 r1.1 r1.2).bind fun v1 =>
    (l2 191 35200 r1.1 r1.2).bind fun v2 =>
    (f_X16_ask x1 v2 190 (5 * r1.1) 1 (-1) v1 r1.2).bind fun r2 =>
    j_X16_see_51 r2.2
theorem s_X16_see_51 {g : GG} {d : Nat} (hD : 5 ≤ d) {M : MM} (hM : LM M) {V : VV} {o : AV × MM} {P : (VV) → Prop} (r0 : ∀ r : VV, P r → o = ((9, 0), (wr M r))) {z : VV} (h : j_X16_see_51 V = some z) (hz : P z) : Sem g d YX16_see 51 [(9, 0), (9, 0), (9, 0), (9, 0), (9, 0), (9, 0), (9, 0), (9, 0)] [] (wr M V) o := by
  delta j_X16_see_51 at h
  obtain rfl := r0 _ (some_P (P := fun r => P r) h hz)
  exact S_return dX16_see_51 rfl
theorem s_X16_see_0 {g : GG} {d : Nat} (hD : 5 ≤ d) {x1 x2 x3 x4 : Int} {M : MM} (hM : LM M) {V : VV} {o : AV × MM} {P : (VV) → Prop} (r0 : ∀ r : VV, P r → o = ((9, 0), (wr M r))) {z : VV} (h : f_X16_see x1 x2 x3 x4 V = some z) (hz : P z) : Sem g d YX16_see 0 [(1, 156), (0, x1), (1, x2), (0, x3), (0, x4), (9, 0), (9, 0), (9, 0)] [] (wr M V) o := by
  delta f_X16_see at h
  refine S_aload_n (i := 0) dX16_see_0 rfl rfl ?_
  refine S_iload_n (i := 1) dX16_see_1 rfl rfl ?_
  refine S_aload_n (i := 2) dX16_see_2 rfl rfl ?_
  refine S_iload_n (i := 3) dX16_see_3 rfl rfl ?_
  refine S_iload dX16_see_4 rfl ?_
  refine P2_invVe hM 0 [(0, x1), (1, x2), (0, x3), (0, x4)] [] CVX16_seen MLX16_530 dX16_see_6 rfl rfl rfl rfl rfl (by omega) h (fun r h => F_X16_seen (by omega) hM h) (fun r1 h => ?_)
  refine S_istore dX16_see_9 (Nat.le_of_ble_eq_true rfl) rfl rfl ?_
  change Sem g d YX16_see 11 [(1, 156), (0, x1), (1, x2), (0, x3), (0, x4), (0, r1.1), (9, 0), (9, 0)] [] (wr M r1.2) o
  refine S_iload dX16_see_11 rfl ?_
  refine P_if_lt (tgt := 51) dX16_see_13 rfl h (fun h => ?_) (fun h => ?_)
  · refine S_weak (ls' := [(9, 0), (9, 0), (9, 0), (9, 0), (9, 0), (9, 0), (9, 0), (9, 0)]) ⟨Or.inl rfl, ⟨Or.inl rfl, ⟨Or.inl rfl, ⟨Or.inl rfl, ⟨Or.inl rfl, ⟨Or.inl rfl, ⟨Or.inl rfl, ⟨Or.inl rfl, trivial⟩⟩⟩⟩⟩⟩⟩⟩ ?_
    exact s_X16_see_51 hD hM r0 h hz
  · refine S_aload_n (i := 0) dX16_see_16 rfl rfl ?_
    refine P2_gfr hM (a := 192) FLX16_121 rfl ⟨rfl, rfl⟩ dX16_see_17 ?_
    refine S_iload dX16_see_20 rfl ?_
    refine P2_lai hM (a := 192) (n := 35200) rfl dX16_see_22 h (fun v1 h => ?_)
    refine S_istore dX16_see_23 (Nat.le_of_ble_eq_true rfl) rfl rfl ?_
    change Sem g d YX16_see 25 [(1, 156), (0, x1), (1, x2), (0, x3), (0, x4), (0, r1.1), (0, v1), (9, 0)] [] (wr M r1.2) o
    refine S_aload_n (i := 0) dX16_see_25 rfl rfl ?_
    refine S_iload_n (i := 1) dX16_see_26 rfl rfl ?_
    refine S_aload_n (i := 0) dX16_see_27 rfl rfl ?_
    refine P2_gfr hM (a := 191) FLX16_118 rfl ⟨rfl, rfl⟩ dX16_see_28 ?_
    refine S_iload dX16_see_31 rfl ?_
    refine P2_lai hM (a := 191) (n := 35200) rfl dX16_see_33 h (fun v2 h => ?_)
    refine S_aload_n (i := 0) dX16_see_34 rfl rfl ?_
    refine P2_gfr hM (a := 190) FLX16_114 rfl ⟨rfl, rfl⟩ dX16_see_35 ?_
    refine S_iconst dX16_see_38 rfl ?_
    refine S_iload dX16_see_39 rfl ?_
    refine S_imul dX16_see_41 ?_
    refine S_iconst dX16_see_42 rfl ?_
    refine S_iconst dX16_see_43 rfl ?_
    refine S_iload dX16_see_44 rfl ?_
    refine P2_invVe hM 0 [(0, x1), (0, v2), (1, 190), (0, 5 * r1.1), (0, 1), (0, (-1)), (0, v1)] [] CVX16_ask MLX16_533 dX16_see_46 rfl rfl rfl rfl rfl (by omega) h (fun r h => F_X16_ask (by omega) hM h) (fun r2 h => ?_)
    refine S_istore dX16_see_49 (Nat.le_of_ble_eq_true rfl) rfl rfl ?_
    change Sem g d YX16_see 51 [(1, 156), (0, x1), (1, x2), (0, x3), (0, x4), (0, r1.1), (0, v1), (0, r2.1)] [] (wr M r2.2) o
    refine S_weak (ls' := [(9, 0), (9, 0), (9, 0), (9, 0), (9, 0), (9, 0), (9, 0), (9, 0)]) ⟨Or.inl rfl, ⟨Or.inl rfl, ⟨Or.inl rfl, ⟨Or.inl rfl, ⟨Or.inl rfl, ⟨Or.inl rfl, ⟨Or.inl rfl, ⟨Or.inl rfl, trivial⟩⟩⟩⟩⟩⟩⟩⟩ ?_
    exact s_X16_see_51 hD hM r0 h hz
theorem F_X16_see {g : GG} {d : Nat} (hD : 5 ≤ d) {x1 x2 x3 x4 : Int} {M : MM} (hM : LM M) {V : VV} {r : VV} (h : f_X16_see x1 x2 x3 x4 V = some r) : Sem g d YX16_see 0 (ini YX16_see [(1, 156), (0, x1), (1, x2), (0, x3), (0, x4)]) [] (wr M V) ((9, 0), (wr M r)) := by
  change Sem g d YX16_see 0 [(1, 156), (0, x1), (1, x2), (0, x3), (0, x4), (9, 0), (9, 0), (9, 0)] [] (wr M V) ((9, 0), (wr M r))
  exact s_X16_see_0 hD hM (P := fun x => x = r) (fun q e => by rw [e]) h rfl
/-! PeerSearchModel.join(II)I -/
theorem dX16_join_0 : decode cX16_join 0 = .ok (.aload_n 0, 1) := by decide +kernel
theorem dX16_join_1 : decode cX16_join 1 = .ok (.invokevirtual 717, 3) := by decide +kernel
theorem dX16_join_4 : decode cX16_join 4 = .ok (.istore_n 3, 1) := by decide +kernel
theorem dX16_join_5 : decode cX16_join 5 = .ok (.aload_n 0, 1) := by decide +kernel
theorem dX16_join_6 : decode cX16_join 6 = .ok (.iload_n 1, 1) := by decide +kernel
theorem dX16_join_7 : decode cX16_join 7 = .ok (.invokevirtual 427, 3) := by decide +kernel
theorem dX16_join_10 : decode cX16_join 10 = .ok (.ifCond .eq 30, 3) := by decide +kernel
theorem dX16_join_13 : decode cX16_join 13 = .ok (.aload_n 0, 1) := by decide +kernel
theorem dX16_join_14 : decode cX16_join 14 = .ok (.iload_n 2, 1) := by decide +kernel
theorem dX16_join_15 : decode cX16_join 15 = .ok (.invokevirtual 427, 3) := by decide +kernel
theorem dX16_join_18 : decode cX16_join 18 = .ok (.ifCond .eq 22, 3) := by decide +kernel
theorem dX16_join_21 : decode cX16_join 21 = .ok (.iload_n 1, 1) := by decide +kernel
theorem dX16_join_22 : decode cX16_join 22 = .ok (.iload_n 2, 1) := by decide +kernel
theorem dX16_join_23 : decode cX16_join 23 = .ok (.if_icmp .eq 17, 3) := by decide +kernel
theorem dX16_join_26 : decode cX16_join 26 = .ok (.aload_n 0, 1) := by decide +kernel
theorem dX16_join_27 : decode cX16_join 27 = .ok (.getfield 42, 3) := by decide +kernel
theorem dX16_join_30 : decode cX16_join 30 = .ok (.iload_n 1, 1) := by decide +kernel
theorem dX16_join_31 : decode cX16_join 31 = .ok (.iaload, 1) := by decide +kernel
theorem dX16_join_32 : decode cX16_join 32 = .ok (.iconst 1, 1) := by decide +kernel
theorem dX16_join_33 : decode cX16_join 33 = .ok (.if_icmp .eq 7, 3) := by decide +kernel
theorem dX16_join_36 : decode cX16_join 36 = .ok (.iload_n 3, 1) := by decide +kernel
theorem dX16_join_37 : decode cX16_join 37 = .ok (.ifCond .ge 5, 3) := by decide +kernel
theorem dX16_join_40 : decode cX16_join 40 = .ok (.iconst (-1), 1) := by decide +kernel
theorem dX16_join_41 : decode cX16_join 41 = .ok (.ireturn, 1) := by decide +kernel
theorem dX16_join_42 : decode cX16_join 42 = .ok (.aload_n 0, 1) := by decide +kernel
theorem dX16_join_43 : decode cX16_join 43 = .ok (.iload_n 1, 1) := by decide +kernel
theorem dX16_join_44 : decode cX16_join 44 = .ok (.invokevirtual 714, 3) := by decide +kernel
theorem dX16_join_47 : decode cX16_join 47 = .ok (.aload_n 0, 1) := by decide +kernel
theorem dX16_join_48 : decode cX16_join 48 = .ok (.iload_n 3, 1) := by decide +kernel
theorem dX16_join_49 : decode cX16_join 49 = .ok (.iconst 0, 1) := by decide +kernel
theorem dX16_join_50 : decode cX16_join 50 = .ok (.iload_n 1, 1) := by decide +kernel
theorem dX16_join_51 : decode cX16_join 51 = .ok (.invokevirtual 720, 3) := by decide +kernel
theorem dX16_join_54 : decode cX16_join 54 = .ok (.aload_n 0, 1) := by decide +kernel
theorem dX16_join_55 : decode cX16_join 55 = .ok (.iload_n 1, 1) := by decide +kernel
theorem dX16_join_56 : decode cX16_join 56 = .ok (.aload_n 0, 1) := by decide +kernel
theorem dX16_join_57 : decode cX16_join 57 = .ok (.getfield 36, 3) := by decide +kernel
theorem dX16_join_60 : decode cX16_join 60 = .ok (.iconst 5, 1) := by decide +kernel
theorem dX16_join_61 : decode cX16_join 61 = .ok (.iload_n 2, 1) := by decide +kernel
theorem dX16_join_62 : decode cX16_join 62 = .ok (.imul, 1) := by decide +kernel
theorem dX16_join_63 : decode cX16_join 63 = .ok (.iload_n 2, 1) := by decide +kernel
theorem dX16_join_64 : decode cX16_join 64 = .ok (.invokevirtual 723, 3) := by decide +kernel
theorem dX16_join_67 : decode cX16_join 67 = .ok (.aload_n 0, 1) := by decide +kernel
theorem dX16_join_68 : decode cX16_join 68 = .ok (.getfield 273, 3) := by decide +kernel
theorem dX16_join_71 : decode cX16_join 71 = .ok (.iload_n 3, 1) := by decide +kernel
theorem dX16_join_72 : decode cX16_join 72 = .ok (.iconst (-1), 1) := by decide +kernel
theorem dX16_join_73 : decode cX16_join 73 = .ok (.iastore, 1) := by decide +kernel
theorem dX16_join_74 : decode cX16_join 74 = .ok (.aload_n 0, 1) := by decide +kernel
theorem dX16_join_75 : decode cX16_join 75 = .ok (.iload_n 3, 1) := by decide +kernel
theorem dX16_join_76 : decode cX16_join 76 = .ok (.aload_n 0, 1) := by decide +kernel
theorem dX16_join_77 : decode cX16_join 77 = .ok (.getfield 36, 3) := by decide +kernel
theorem dX16_join_80 : decode cX16_join 80 = .ok (.iconst 5, 1) := by decide +kernel
theorem dX16_join_81 : decode cX16_join 81 = .ok (.iload_n 1, 1) := by decide +kernel
theorem dX16_join_82 : decode cX16_join 82 = .ok (.imul, 1) := by decide +kernel
theorem dX16_join_83 : decode cX16_join 83 = .ok (.iconst 0, 1) := by decide +kernel
theorem dX16_join_84 : decode cX16_join 84 = .ok (.invokevirtual 668, 3) := by decide +kernel
theorem dX16_join_87 : decode cX16_join 87 = .ok (.aload_n 0, 1) := by decide +kernel
theorem dX16_join_88 : decode cX16_join 88 = .ok (.iload_n 3, 1) := by decide +kernel
theorem dX16_join_89 : decode cX16_join 89 = .ok (.invokevirtual 726, 3) := by decide +kernel
theorem dX16_join_92 : decode cX16_join 92 = .ok (.aload_n 0, 1) := by decide +kernel
theorem dX16_join_93 : decode cX16_join 93 = .ok (.getfield 615, 3) := by decide +kernel
theorem dX16_join_96 : decode cX16_join 96 = .ok (.iconst 1, 1) := by decide +kernel
theorem dX16_join_97 : decode cX16_join 97 = .ok (.isub, 1) := by decide +kernel
theorem dX16_join_98 : decode cX16_join 98 = .ok (.ireturn, 1) := by decide +kernel
def j_X16_join_40 (V : VV) : Option (Int × VV) :=
  some ((-1), V)
def f_X16_join (x1 x2 : Int) (V : VV) : Option (Int × VV) :=
  (f_X16_freePlace V).bind fun v1 =>
  (f_X16_isPeer x1 V).bind fun v2 =>
  if w32 v2 = 0 then
    j_X16_join_40 V
  else
    (f_X16_isPeer x2 V).bind fun v3 =>
    if w32 v3 = 0 then
      j_X16_join_40 V
    else
      if w32 x1 = w32 x2 then
        j_X16_join_40 V
      else
        (l2 167 32 x1 V).bind fun v4 =>
        if w32 v4 = w32 1 then
          j_X16_join_40 V
        else
          if w32 v1 < 0 then
            j_X16_join_40 V
          else
            (f_X16_alive x1 V).bind fun V1 =>
            (f_X16_open v1 0 x1 V1).bind fun V2 =>
            (f_X16_see x1 165 (5 * x2) x2 V2).bind fun V3 =>
            (s2 242 44 v1 (-1) V3).bind fun V4 =>
            (f_X16_beginLookup v1 165 (5 * x1) 0 V4).bind fun V5 =>
            (f_X16_proceed v1 V5).bind fun V6 =>
            some ((w32 (V6 156 91)) - 1, V6)
theorem s_X16_join_40 {g : GG} {d : Nat} (hD : 9 ≤ d) {M : MM} (hM : LM M) {V : VV} {o : AV × MM} {P : (Int × VV) → Prop} (r0 : ∀ r : Int × VV, P r → o = ((0, r.1), (wr M r.2))) {z : Int × VV} (h : j_X16_join_40 V = some z) (hz : P z) : Sem g d YX16_join 40 [(9, 0), (9, 0), (9, 0), (9, 0)] [] (wr M V) o := by
  delta j_X16_join_40 at h
  refine S_iconst dX16_join_40 rfl ?_
  obtain rfl := r0 _ (some_P (P := fun r => P r) h hz)
  exact P_ret dX16_join_41 rfl (Or.inl rfl)
theorem s_X16_join_0 {g : GG} {d : Nat} (hD : 9 ≤ d) {x1 x2 : Int} {M : MM} (hM : LM M) {V : VV} {o : AV × MM} {P : (Int × VV) → Prop} (r0 : ∀ r : Int × VV, P r → o = ((0, r.1), (wr M r.2))) {z : Int × VV} (h : f_X16_join x1 x2 V = some z) (hz : P z) : Sem g d YX16_join 0 [(1, 156), (0, x1), (0, x2), (9, 0)] [] (wr M V) o := by
  delta f_X16_join at h
  refine S_aload_n (i := 0) dX16_join_0 rfl rfl ?_
  refine P2_invVp hM 0 [] [] CVX16_freePlace MLX16_717 dX16_join_1 rfl rfl rfl rfl rfl (by omega) h (fun r h => F_X16_freePlace (by omega) hM h) (fun v1 h => ?_)
  refine S_istore_n (i := 3) dX16_join_4 rfl (Nat.le_of_ble_eq_true rfl) rfl rfl ?_
  change Sem g d YX16_join 5 [(1, 156), (0, x1), (0, x2), (0, v1)] [] (wr M V) o
  refine S_aload_n (i := 0) dX16_join_5 rfl rfl ?_
  refine S_iload_n (i := 1) dX16_join_6 rfl rfl ?_
  refine P2_invVp hM 0 [(0, x1)] [] CVX16_isPeer MLX16_427 dX16_join_7 rfl rfl rfl rfl rfl (by omega) h (fun r h => F_X16_isPeer (by omega) hM h) (fun v2 h => ?_)
  refine P_if_eq (tgt := 40) dX16_join_10 rfl h (fun h => ?_) (fun h => ?_)
  · refine S_weak (ls' := [(9, 0), (9, 0), (9, 0), (9, 0)]) ⟨Or.inl rfl, ⟨Or.inl rfl, ⟨Or.inl rfl, ⟨Or.inl rfl, trivial⟩⟩⟩⟩ ?_
    exact s_X16_join_40 hD hM r0 h hz
  · refine S_aload_n (i := 0) dX16_join_13 rfl rfl ?_
    refine S_iload_n (i := 2) dX16_join_14 rfl rfl ?_
    refine P2_invVp hM 0 [(0, x2)] [] CVX16_isPeer MLX16_427 dX16_join_15 rfl rfl rfl rfl rfl (by omega) h (fun r h => F_X16_isPeer (by omega) hM h) (fun v3 h => ?_)
    refine P_if_eq (tgt := 40) dX16_join_18 rfl h (fun h => ?_) (fun h => ?_)
    · refine S_weak (ls' := [(9, 0), (9, 0), (9, 0), (9, 0)]) ⟨Or.inl rfl, ⟨Or.inl rfl, ⟨Or.inl rfl, ⟨Or.inl rfl, trivial⟩⟩⟩⟩ ?_
      exact s_X16_join_40 hD hM r0 h hz
    · refine S_iload_n (i := 1) dX16_join_21 rfl rfl ?_
      refine S_iload_n (i := 2) dX16_join_22 rfl rfl ?_
      refine P_icmp_eq (tgt := 40) dX16_join_23 rfl h (fun h => ?_) (fun h => ?_)
      · refine S_weak (ls' := [(9, 0), (9, 0), (9, 0), (9, 0)]) ⟨Or.inl rfl, ⟨Or.inl rfl, ⟨Or.inl rfl, ⟨Or.inl rfl, trivial⟩⟩⟩⟩ ?_
        exact s_X16_join_40 hD hM r0 h hz
      · refine S_aload_n (i := 0) dX16_join_26 rfl rfl ?_
        refine P2_gfr hM (a := 167) FLX16_42 rfl ⟨rfl, rfl⟩ dX16_join_27 ?_
        refine S_iload_n (i := 1) dX16_join_30 rfl rfl ?_
        refine P2_lai hM (a := 167) (n := 32) rfl dX16_join_31 h (fun v4 h => ?_)
        refine S_iconst dX16_join_32 rfl ?_
        refine P_icmp_eq (tgt := 40) dX16_join_33 rfl h (fun h => ?_) (fun h => ?_)
        · refine S_weak (ls' := [(9, 0), (9, 0), (9, 0), (9, 0)]) ⟨Or.inl rfl, ⟨Or.inl rfl, ⟨Or.inl rfl, ⟨Or.inl rfl, trivial⟩⟩⟩⟩ ?_
          exact s_X16_join_40 hD hM r0 h hz
        · refine S_iload_n (i := 3) dX16_join_36 rfl rfl ?_
          refine P_if_ge (tgt := 42) dX16_join_37 rfl h (fun h => ?_) (fun h => ?_)
          · refine S_aload_n (i := 0) dX16_join_42 rfl rfl ?_
            refine S_iload_n (i := 1) dX16_join_43 rfl rfl ?_
            refine P2_invVm hM [(0, x1)] [] CVX16_alive MLX16_714 dX16_join_44 rfl rfl rfl rfl (by omega) h (fun r h => F_X16_alive (by omega) hM h) (fun V1 h => ?_)
            refine S_aload_n (i := 0) dX16_join_47 rfl rfl ?_
            refine S_iload_n (i := 3) dX16_join_48 rfl rfl ?_
            refine S_iconst dX16_join_49 rfl ?_
            refine S_iload_n (i := 1) dX16_join_50 rfl rfl ?_
            refine P2_invVm hM [(0, v1), (0, 0), (0, x1)] [] CVX16_open MLX16_720 dX16_join_51 rfl rfl rfl rfl (by omega) h (fun r h => F_X16_open (by omega) hM h) (fun V2 h => ?_)
            refine S_aload_n (i := 0) dX16_join_54 rfl rfl ?_
            refine S_iload_n (i := 1) dX16_join_55 rfl rfl ?_
            refine S_aload_n (i := 0) dX16_join_56 rfl rfl ?_
            refine P2_gfr hM (a := 165) FLX16_36 rfl ⟨rfl, rfl⟩ dX16_join_57 ?_
            refine S_iconst dX16_join_60 rfl ?_
            refine S_iload_n (i := 2) dX16_join_61 rfl rfl ?_
            refine S_imul dX16_join_62 ?_
            refine S_iload_n (i := 2) dX16_join_63 rfl rfl ?_
            refine P2_invVm hM [(0, x1), (1, 165), (0, 5 * x2), (0, x2)] [] CVX16_see MLX16_723 dX16_join_64 rfl rfl rfl rfl (by omega) h (fun r h => F_X16_see (by omega) hM h) (fun V3 h => ?_)
            refine S_aload_n (i := 0) dX16_join_67 rfl rfl ?_
            refine P2_gfr hM (a := 242) FLX16_273 rfl ⟨rfl, rfl⟩ dX16_join_68 ?_
            refine S_iload_n (i := 3) dX16_join_71 rfl rfl ?_
            refine S_iconst dX16_join_72 rfl ?_
            refine P2_sai hM (a := 242) (n := 44) rfl dX16_join_73 h (fun V4 h => ?_)
            refine S_aload_n (i := 0) dX16_join_74 rfl rfl ?_
            refine S_iload_n (i := 3) dX16_join_75 rfl rfl ?_
            refine S_aload_n (i := 0) dX16_join_76 rfl rfl ?_
            refine P2_gfr hM (a := 165) FLX16_36 rfl ⟨rfl, rfl⟩ dX16_join_77 ?_
            refine S_iconst dX16_join_80 rfl ?_
            refine S_iload_n (i := 1) dX16_join_81 rfl rfl ?_
            refine S_imul dX16_join_82 ?_
            refine S_iconst dX16_join_83 rfl ?_
            refine P2_invVm hM [(0, v1), (1, 165), (0, 5 * x1), (0, 0)] [] CVX16_beginLookup MLX16_668 dX16_join_84 rfl rfl rfl rfl (by omega) h (fun r h => F_X16_beginLookup (by omega) hM h) (fun V5 h => ?_)
            refine S_aload_n (i := 0) dX16_join_87 rfl rfl ?_
            refine S_iload_n (i := 3) dX16_join_88 rfl rfl ?_
            refine P2_invVm hM [(0, v1)] [] CVX16_proceed MLX16_726 dX16_join_89 rfl rfl rfl rfl (by omega) h (fun r h => F_X16_proceed (by omega) hM h) (fun V6 h => ?_)
            refine S_aload_n (i := 0) dX16_join_92 rfl rfl ?_
            refine P2_gfi hM FLX16_615 rfl dX16_join_93 ?_
            refine S_iconst dX16_join_96 rfl ?_
            refine S_isub dX16_join_97 ?_
            obtain rfl := r0 _ (some_P (P := fun r => P r) h hz)
            exact P_ret dX16_join_98 rfl (Or.inl rfl)
          · refine S_weak (ls' := [(9, 0), (9, 0), (9, 0), (9, 0)]) ⟨Or.inl rfl, ⟨Or.inl rfl, ⟨Or.inl rfl, ⟨Or.inl rfl, trivial⟩⟩⟩⟩ ?_
            exact s_X16_join_40 hD hM r0 h hz
theorem F_X16_join {g : GG} {d : Nat} (hD : 9 ≤ d) {x1 x2 : Int} {M : MM} (hM : LM M) {V : VV} {r : Int × VV} (h : f_X16_join x1 x2 V = some r) : Sem g d YX16_join 0 (ini YX16_join [(1, 156), (0, x1), (0, x2)]) [] (wr M V) ((0, r.1), (wr M r.2)) := by
  change Sem g d YX16_join 0 [(1, 156), (0, x1), (0, x2), (9, 0)] [] (wr M V) ((0, r.1), (wr M r.2))
  exact s_X16_join_0 hD hM (P := fun x => x = r) (fun q e => by rw [e]) h rfl
/-! PeerSearchModel.key(II)I -/
theorem dX16_key_0 : decode cX16_key 0 = .ok (.aload_n 0, 1) := by decide +kernel
theorem dX16_key_1 : decode cX16_key 1 = .ok (.iload_n 1, 1) := by decide +kernel
theorem dX16_key_2 : decode cX16_key 2 = .ok (.invokevirtual 427, 3) := by decide +kernel
theorem dX16_key_5 : decode cX16_key 5 = .ok (.ifCond .eq 25, 3) := by decide +kernel
theorem dX16_key_8 : decode cX16_key 8 = .ok (.iload_n 2, 1) := by decide +kernel
theorem dX16_key_9 : decode cX16_key 9 = .ok (.ifCond .lt 21, 3) := by decide +kernel
theorem dX16_key_12 : decode cX16_key 12 = .ok (.iload_n 2, 1) := by decide +kernel
theorem dX16_key_13 : decode cX16_key 13 = .ok (.iconst 5, 1) := by decide +kernel
theorem dX16_key_14 : decode cX16_key 14 = .ok (.if_icmp .ge 16, 3) := by decide +kernel
theorem dX16_key_17 : decode cX16_key 17 = .ok (.aload_n 0, 1) := by decide +kernel
theorem dX16_key_18 : decode cX16_key 18 = .ok (.getfield 36, 3) := by decide +kernel
theorem dX16_key_21 : decode cX16_key 21 = .ok (.iconst 5, 1) := by decide +kernel
theorem dX16_key_22 : decode cX16_key 22 = .ok (.iload_n 1, 1) := by decide +kernel
theorem dX16_key_23 : decode cX16_key 23 = .ok (.imul, 1) := by decide +kernel
theorem dX16_key_24 : decode cX16_key 24 = .ok (.iload_n 2, 1) := by decide +kernel
theorem dX16_key_25 : decode cX16_key 25 = .ok (.iadd, 1) := by decide +kernel
theorem dX16_key_26 : decode cX16_key 26 = .ok (.iaload, 1) := by decide +kernel
theorem dX16_key_27 : decode cX16_key 27 = .ok (.goto 4, 3) := by decide +kernel
theorem dX16_key_30 : decode cX16_key 30 = .ok (.iconst 0, 1) := by decide +kernel
theorem dX16_key_31 : decode cX16_key 31 = .ok (.ireturn, 1) := by decide +kernel
def j_X16_key_31 (y0 : Int) (V : VV) : Option (Int) :=
  some y0
def j_X16_key_30 (V : VV) : Option (Int) :=
  j_X16_key_31 0 V
def f_X16_key (x1 x2 : Int) (V : VV) : Option (Int) :=
  (f_X16_isPeer x1 V).bind fun v1 =>
  if w32 v1 = 0 then
    j_X16_key_30 V
  else
    if w32 x2 < 0 then
      j_X16_key_30 V
    else
      if w32 x2 < w32 5 then
        (l2 165 160 ((5 * x1) + x2) V).bind fun v2 =>
        j_X16_key_31 v2 V
      else
        j_X16_key_30 V
theorem s_X16_key_31 {g : GG} {d : Nat} (hD : 1 ≤ d) {y0 : Int} {M : MM} (hM : LM M) {V : VV} {o : AV × MM} {P : (Int) → Prop} (r0 : ∀ r : Int, P r → o = ((0, r), (wr M V))) {z : Int} (h : j_X16_key_31 y0 V = some z) (hz : P z) : Sem g d YX16_key 31 [(9, 0), (9, 0), (9, 0)] [(0, y0)] (wr M V) o := by
  delta j_X16_key_31 at h
  obtain rfl := r0 _ (some_P (P := fun r => P r) h hz)
  exact P_ret dX16_key_31 rfl (Or.inl rfl)
theorem s_X16_key_30 {g : GG} {d : Nat} (hD : 1 ≤ d) {M : MM} (hM : LM M) {V : VV} {o : AV × MM} {P : (Int) → Prop} (r0 : ∀ r : Int, P r → o = ((0, r), (wr M V))) {z : Int} (h : j_X16_key_30 V = some z) (hz : P z) : Sem g d YX16_key 30 [(9, 0), (9, 0), (9, 0)] [] (wr M V) o := by
  delta j_X16_key_30 at h
  refine S_iconst dX16_key_30 rfl ?_
  exact s_X16_key_31 hD hM r0 h hz
theorem s_X16_key_0 {g : GG} {d : Nat} (hD : 1 ≤ d) {x1 x2 : Int} {M : MM} (hM : LM M) {V : VV} {o : AV × MM} {P : (Int) → Prop} (r0 : ∀ r : Int, P r → o = ((0, r), (wr M V))) {z : Int} (h : f_X16_key x1 x2 V = some z) (hz : P z) : Sem g d YX16_key 0 [(1, 156), (0, x1), (0, x2)] [] (wr M V) o := by
  delta f_X16_key at h
  refine S_aload_n (i := 0) dX16_key_0 rfl rfl ?_
  refine S_iload_n (i := 1) dX16_key_1 rfl rfl ?_
  refine P2_invVp hM 0 [(0, x1)] [] CVX16_isPeer MLX16_427 dX16_key_2 rfl rfl rfl rfl rfl (by omega) h (fun r h => F_X16_isPeer (by omega) hM h) (fun v1 h => ?_)
  refine P_if_eq (tgt := 30) dX16_key_5 rfl h (fun h => ?_) (fun h => ?_)
  · refine S_weak (ls' := [(9, 0), (9, 0), (9, 0)]) ⟨Or.inl rfl, ⟨Or.inl rfl, ⟨Or.inl rfl, trivial⟩⟩⟩ ?_
    exact s_X16_key_30 hD hM r0 h hz
  · refine S_iload_n (i := 2) dX16_key_8 rfl rfl ?_
    refine P_if_lt (tgt := 30) dX16_key_9 rfl h (fun h => ?_) (fun h => ?_)
    · refine S_weak (ls' := [(9, 0), (9, 0), (9, 0)]) ⟨Or.inl rfl, ⟨Or.inl rfl, ⟨Or.inl rfl, trivial⟩⟩⟩ ?_
      exact s_X16_key_30 hD hM r0 h hz
    · refine S_iload_n (i := 2) dX16_key_12 rfl rfl ?_
      refine S_iconst dX16_key_13 rfl ?_
      refine P_icmp_ge (tgt := 30) dX16_key_14 rfl h (fun h => ?_) (fun h => ?_)
      · refine S_weak (ls' := [(9, 0), (9, 0), (9, 0)]) ⟨Or.inl rfl, ⟨Or.inl rfl, ⟨Or.inl rfl, trivial⟩⟩⟩ ?_
        exact s_X16_key_30 hD hM r0 h hz
      · refine S_aload_n (i := 0) dX16_key_17 rfl rfl ?_
        refine P2_gfr hM (a := 165) FLX16_36 rfl ⟨rfl, rfl⟩ dX16_key_18 ?_
        refine S_iconst dX16_key_21 rfl ?_
        refine S_iload_n (i := 1) dX16_key_22 rfl rfl ?_
        refine S_imul dX16_key_23 ?_
        refine S_iload_n (i := 2) dX16_key_24 rfl rfl ?_
        refine S_iadd dX16_key_25 ?_
        refine P2_lai hM (a := 165) (n := 160) rfl dX16_key_26 h (fun v2 h => ?_)
        refine S_goto (tgt := 31) dX16_key_27 rfl ?_
        refine S_weak (ls' := [(9, 0), (9, 0), (9, 0)]) ⟨Or.inl rfl, ⟨Or.inl rfl, ⟨Or.inl rfl, trivial⟩⟩⟩ ?_
        exact s_X16_key_31 hD hM r0 h hz
theorem F_X16_key {g : GG} {d : Nat} (hD : 1 ≤ d) {x1 x2 : Int} {M : MM} (hM : LM M) {V : VV} {r : Int} (h : f_X16_key x1 x2 V = some r) : Sem g d YX16_key 0 (ini YX16_key [(1, 156), (0, x1), (0, x2)]) [] (wr M V) ((0, r), (wr M V)) := by
  change Sem g d YX16_key 0 [(1, 156), (0, x1), (0, x2)] [] (wr M V) ((0, r), (wr M V))
  exact s_X16_key_0 hD hM (P := fun x => x = r) (fun q e => by rw [e]) h rfl
