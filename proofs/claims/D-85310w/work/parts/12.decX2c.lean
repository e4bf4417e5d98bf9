/-! decode rows (out of claim/names) -/
set_option maxRecDepth 100000
def dkwX2_value_10 : List UInt8 := [167, 0, 9, 42, 180, 1, 26, 3, 46, 172]
abbrev dktX2_value_10 : List UInt8 := dkwX2_value_10 ++ []
def dkwX2_value_9 : List UInt8 := [180, 0, 190, 29, 46, 182, 1, 226, 132, 3, 1, 167, 255, 38, 42, 180, 1, 213, 153, 0, 7, 3]
abbrev dktX2_value_9 : List UInt8 := dkwX2_value_9 ++ dktX2_value_10
def dkwX2_value_8 : List UInt8 := [42, 180, 1, 210, 4, 100, 42, 180, 1, 26, 42, 180, 1, 210, 4, 100, 46, 116, 79, 167, 0, 13, 42, 42]
abbrev dktX2_value_8 : List UInt8 := dkwX2_value_8 ++ dktX2_value_9
def dkwX2_value_7 : List UInt8 := [180, 0, 193, 29, 46, 42, 180, 0, 196, 29, 46, 182, 1, 223, 182, 1, 216, 167, 0, 39, 42, 180, 1, 26]
abbrev dktX2_value_7 : List UInt8 := dkwX2_value_7 ++ dktX2_value_8
def dkwX2_value_6 : List UInt8 := [167, 0, 80, 42, 42, 28, 42, 180, 0, 193, 29, 46, 182, 1, 223, 182, 1, 216, 167, 0, 62, 42, 42, 42]
abbrev dktX2_value_6 : List UInt8 := dkwX2_value_6 ++ dktX2_value_7
def dkwX2_value_5 : List UInt8 := [167, 0, 102, 42, 42, 180, 1, 219, 182, 1, 216, 167, 0, 91, 42, 42, 180, 1, 221, 182, 1, 216]
abbrev dktX2_value_5 : List UInt8 := dkwX2_value_5 ++ dktX2_value_6
def dkwX2_value_4 : List UInt8 := [180, 0, 193, 29, 46, 96, 46, 182, 1, 216, 167, 0, 115, 42, 42, 180, 0, 237, 28, 46, 182, 1, 216]
abbrev dktX2_value_4 : List UInt8 := dkwX2_value_4 ++ dktX2_value_5
def dkwX2_value_3 : List UInt8 := [42, 42, 180, 0, 193, 29, 46, 182, 1, 216, 167, 0, 137, 42, 42, 180, 0, 251, 7, 28, 104, 42]
abbrev dktX2_value_3 : List UInt8 := dkwX2_value_3 ++ dktX2_value_4
def dkwX2_value_2 : List UInt8 := [170, 0, 0, 0, 0, 183, 0, 0, 0, 1, 0, 0, 0, 8, 0, 0, 0, 46, 0, 0, 0, 59, 0, 0, 0, 81, 0, 0, 0, 94, 0, 0, 0, 105, 0, 0, 0, 116, 0, 0, 0, 134, 0, 0, 0, 157]
abbrev dktX2_value_2 : List UInt8 := dkwX2_value_2 ++ dktX2_value_3
def dkwX2_value_1 : List UInt8 := [180, 1, 213, 154, 0, 208, 42, 180, 0, 190, 29, 46]
abbrev dktX2_value_1 : List UInt8 := dkwX2_value_1 ++ dktX2_value_2
def dkwX2_value_0 : List UInt8 := [42, 3, 181, 1, 210, 42, 3, 181, 1, 213, 27, 62, 42, 180, 0, 190, 29, 46, 153, 0, 215, 42]
abbrev dktX2_value_0 : List UInt8 := dkwX2_value_0 ++ dktX2_value_1
theorem dksX2_value_0 : cX2_value.data.toList.drop 0 = dktX2_value_0 := by decide +kernel
theorem dksX2_value_1 : cX2_value.data.toList.drop 22 = dktX2_value_1 := dk_seg dksX2_value_0 22 rfl rfl
theorem dksX2_value_2 : cX2_value.data.toList.drop 34 = dktX2_value_2 := dk_seg dksX2_value_1 12 rfl rfl
theorem dksX2_value_3 : cX2_value.data.toList.drop 80 = dktX2_value_3 := dk_seg dksX2_value_2 46 rfl rfl
theorem dksX2_value_4 : cX2_value.data.toList.drop 102 = dktX2_value_4 := dk_seg dksX2_value_3 22 rfl rfl
theorem dksX2_value_5 : cX2_value.data.toList.drop 125 = dktX2_value_5 := dk_seg dksX2_value_4 23 rfl rfl
theorem dksX2_value_6 : cX2_value.data.toList.drop 147 = dktX2_value_6 := dk_seg dksX2_value_5 22 rfl rfl
theorem dksX2_value_7 : cX2_value.data.toList.drop 171 = dktX2_value_7 := dk_seg dksX2_value_6 24 rfl rfl
theorem dksX2_value_8 : cX2_value.data.toList.drop 195 = dktX2_value_8 := dk_seg dksX2_value_7 24 rfl rfl
theorem dksX2_value_9 : cX2_value.data.toList.drop 219 = dktX2_value_9 := dk_seg dksX2_value_8 24 rfl rfl
theorem dksX2_value_10 : cX2_value.data.toList.drop 241 = dktX2_value_10 := dk_seg dksX2_value_9 22 rfl rfl
theorem dX2_value_0 : decode cX2_value 0 = .ok (.aload_n 0, 1) := dk_42 (dk_at dksX2_value_0 0 rfl rfl)
theorem dX2_value_1 : decode cX2_value 1 = .ok (.iconst 0, 1) := dk_3 (dk_at dksX2_value_0 1 rfl rfl)
theorem dX2_value_2 : decode cX2_value 2 = .ok (.putfield 466, 3) := dk_181 1 210 (dk_at dksX2_value_0 2 rfl rfl)
theorem dX2_value_5 : decode cX2_value 5 = .ok (.aload_n 0, 1) := dk_42 (dk_at dksX2_value_0 5 rfl rfl)
theorem dX2_value_6 : decode cX2_value 6 = .ok (.iconst 0, 1) := dk_3 (dk_at dksX2_value_0 6 rfl rfl)
theorem dX2_value_7 : decode cX2_value 7 = .ok (.putfield 469, 3) := dk_181 1 213 (dk_at dksX2_value_0 7 rfl rfl)
theorem dX2_value_10 : decode cX2_value 10 = .ok (.iload_n 1, 1) := dk_27 (dk_at dksX2_value_0 10 rfl rfl)
theorem dX2_value_11 : decode cX2_value 11 = .ok (.istore_n 3, 1) := dk_62 (dk_at dksX2_value_0 11 rfl rfl)
theorem dX2_value_12 : decode cX2_value 12 = .ok (.aload_n 0, 1) := dk_42 (dk_at dksX2_value_0 12 rfl rfl)
theorem dX2_value_13 : decode cX2_value 13 = .ok (.getfield 190, 3) := dk_180 0 190 (dk_at dksX2_value_0 13 rfl rfl)
theorem dX2_value_16 : decode cX2_value 16 = .ok (.iload_n 3, 1) := dk_29 (dk_at dksX2_value_0 16 rfl rfl)
theorem dX2_value_17 : decode cX2_value 17 = .ok (.iaload, 1) := dk_46 (dk_at dksX2_value_0 17 rfl rfl)
theorem dX2_value_18 : decode cX2_value 18 = .ok (.ifCond .eq 215, 3) := dk_153 0 215 (dk_at dksX2_value_0 18 rfl rfl)
theorem dX2_value_21 : decode cX2_value 21 = .ok (.aload_n 0, 1) := dk_42 (dk_at dksX2_value_0 21 rfl rfl)
theorem dX2_value_22 : decode cX2_value 22 = .ok (.getfield 469, 3) := dk_180 1 213 (dk_at dksX2_value_1 0 rfl rfl)
theorem dX2_value_25 : decode cX2_value 25 = .ok (.ifCond .ne 208, 3) := dk_154 0 208 (dk_at dksX2_value_1 3 rfl rfl)
theorem dX2_value_28 : decode cX2_value 28 = .ok (.aload_n 0, 1) := dk_42 (dk_at dksX2_value_1 6 rfl rfl)
theorem dX2_value_29 : decode cX2_value 29 = .ok (.getfield 190, 3) := dk_180 0 190 (dk_at dksX2_value_1 7 rfl rfl)
theorem dX2_value_32 : decode cX2_value 32 = .ok (.iload_n 3, 1) := dk_29 (dk_at dksX2_value_1 10 rfl rfl)
theorem dX2_value_33 : decode cX2_value 33 = .ok (.iaload, 1) := dk_46 (dk_at dksX2_value_1 11 rfl rfl)
theorem dX2_value_34 : decode cX2_value 34 = .ok (.tableswitch 183 1 8 #[46, 59, 81, 94, 105, 116, 134, 157], 46) := by decide +kernel
theorem dX2_value_80 : decode cX2_value 80 = .ok (.aload_n 0, 1) := dk_42 (dk_at dksX2_value_3 0 rfl rfl)
theorem dX2_value_81 : decode cX2_value 81 = .ok (.aload_n 0, 1) := dk_42 (dk_at dksX2_value_3 1 rfl rfl)
theorem dX2_value_82 : decode cX2_value 82 = .ok (.getfield 193, 3) := dk_180 0 193 (dk_at dksX2_value_3 2 rfl rfl)
theorem dX2_value_85 : decode cX2_value 85 = .ok (.iload_n 3, 1) := dk_29 (dk_at dksX2_value_3 5 rfl rfl)
theorem dX2_value_86 : decode cX2_value 86 = .ok (.iaload, 1) := dk_46 (dk_at dksX2_value_3 6 rfl rfl)
theorem dX2_value_87 : decode cX2_value 87 = .ok (.invokevirtual 472, 3) := dk_182 1 216 (dk_at dksX2_value_3 7 rfl rfl)
theorem dX2_value_90 : decode cX2_value 90 = .ok (.goto 137, 3) := dk_167 0 137 (dk_at dksX2_value_3 10 rfl rfl)
theorem dX2_value_93 : decode cX2_value 93 = .ok (.aload_n 0, 1) := dk_42 (dk_at dksX2_value_3 13 rfl rfl)
theorem dX2_value_94 : decode cX2_value 94 = .ok (.aload_n 0, 1) := dk_42 (dk_at dksX2_value_3 14 rfl rfl)
theorem dX2_value_95 : decode cX2_value 95 = .ok (.getfield 251, 3) := dk_180 0 251 (dk_at dksX2_value_3 15 rfl rfl)
theorem dX2_value_98 : decode cX2_value 98 = .ok (.iconst 4, 1) := dk_7 (dk_at dksX2_value_3 18 rfl rfl)
theorem dX2_value_99 : decode cX2_value 99 = .ok (.iload_n 2, 1) := dk_28 (dk_at dksX2_value_3 19 rfl rfl)
theorem dX2_value_100 : decode cX2_value 100 = .ok (.imul, 1) := dk_104 (dk_at dksX2_value_3 20 rfl rfl)
theorem dX2_value_101 : decode cX2_value 101 = .ok (.aload_n 0, 1) := dk_42 (dk_at dksX2_value_3 21 rfl rfl)
theorem dX2_value_102 : decode cX2_value 102 = .ok (.getfield 193, 3) := dk_180 0 193 (dk_at dksX2_value_4 0 rfl rfl)
theorem dX2_value_105 : decode cX2_value 105 = .ok (.iload_n 3, 1) := dk_29 (dk_at dksX2_value_4 3 rfl rfl)
theorem dX2_value_106 : decode cX2_value 106 = .ok (.iaload, 1) := dk_46 (dk_at dksX2_value_4 4 rfl rfl)
theorem dX2_value_107 : decode cX2_value 107 = .ok (.iadd, 1) := dk_96 (dk_at dksX2_value_4 5 rfl rfl)
theorem dX2_value_108 : decode cX2_value 108 = .ok (.iaload, 1) := dk_46 (dk_at dksX2_value_4 6 rfl rfl)
theorem dX2_value_109 : decode cX2_value 109 = .ok (.invokevirtual 472, 3) := dk_182 1 216 (dk_at dksX2_value_4 7 rfl rfl)
theorem dX2_value_112 : decode cX2_value 112 = .ok (.goto 115, 3) := dk_167 0 115 (dk_at dksX2_value_4 10 rfl rfl)
theorem dX2_value_115 : decode cX2_value 115 = .ok (.aload_n 0, 1) := dk_42 (dk_at dksX2_value_4 13 rfl rfl)
theorem dX2_value_116 : decode cX2_value 116 = .ok (.aload_n 0, 1) := dk_42 (dk_at dksX2_value_4 14 rfl rfl)
theorem dX2_value_117 : decode cX2_value 117 = .ok (.getfield 237, 3) := dk_180 0 237 (dk_at dksX2_value_4 15 rfl rfl)
theorem dX2_value_120 : decode cX2_value 120 = .ok (.iload_n 2, 1) := dk_28 (dk_at dksX2_value_4 18 rfl rfl)
theorem dX2_value_121 : decode cX2_value 121 = .ok (.iaload, 1) := dk_46 (dk_at dksX2_value_4 19 rfl rfl)
theorem dX2_value_122 : decode cX2_value 122 = .ok (.invokevirtual 472, 3) := dk_182 1 216 (dk_at dksX2_value_4 20 rfl rfl)
theorem dX2_value_125 : decode cX2_value 125 = .ok (.goto 102, 3) := dk_167 0 102 (dk_at dksX2_value_5 0 rfl rfl)
theorem dX2_value_128 : decode cX2_value 128 = .ok (.aload_n 0, 1) := dk_42 (dk_at dksX2_value_5 3 rfl rfl)
theorem dX2_value_129 : decode cX2_value 129 = .ok (.aload_n 0, 1) := dk_42 (dk_at dksX2_value_5 4 rfl rfl)
theorem dX2_value_130 : decode cX2_value 130 = .ok (.getfield 475, 3) := dk_180 1 219 (dk_at dksX2_value_5 5 rfl rfl)
theorem dX2_value_133 : decode cX2_value 133 = .ok (.invokevirtual 472, 3) := dk_182 1 216 (dk_at dksX2_value_5 8 rfl rfl)
theorem dX2_value_136 : decode cX2_value 136 = .ok (.goto 91, 3) := dk_167 0 91 (dk_at dksX2_value_5 11 rfl rfl)
theorem dX2_value_139 : decode cX2_value 139 = .ok (.aload_n 0, 1) := dk_42 (dk_at dksX2_value_5 14 rfl rfl)
theorem dX2_value_140 : decode cX2_value 140 = .ok (.aload_n 0, 1) := dk_42 (dk_at dksX2_value_5 15 rfl rfl)
theorem dX2_value_141 : decode cX2_value 141 = .ok (.getfield 477, 3) := dk_180 1 221 (dk_at dksX2_value_5 16 rfl rfl)
theorem dX2_value_144 : decode cX2_value 144 = .ok (.invokevirtual 472, 3) := dk_182 1 216 (dk_at dksX2_value_5 19 rfl rfl)
theorem dX2_value_147 : decode cX2_value 147 = .ok (.goto 80, 3) := dk_167 0 80 (dk_at dksX2_value_6 0 rfl rfl)
theorem dX2_value_150 : decode cX2_value 150 = .ok (.aload_n 0, 1) := dk_42 (dk_at dksX2_value_6 3 rfl rfl)
theorem dX2_value_151 : decode cX2_value 151 = .ok (.aload_n 0, 1) := dk_42 (dk_at dksX2_value_6 4 rfl rfl)
theorem dX2_value_152 : decode cX2_value 152 = .ok (.iload_n 2, 1) := dk_28 (dk_at dksX2_value_6 5 rfl rfl)
theorem dX2_value_153 : decode cX2_value 153 = .ok (.aload_n 0, 1) := dk_42 (dk_at dksX2_value_6 6 rfl rfl)
theorem dX2_value_154 : decode cX2_value 154 = .ok (.getfield 193, 3) := dk_180 0 193 (dk_at dksX2_value_6 7 rfl rfl)
theorem dX2_value_157 : decode cX2_value 157 = .ok (.iload_n 3, 1) := dk_29 (dk_at dksX2_value_6 10 rfl rfl)
theorem dX2_value_158 : decode cX2_value 158 = .ok (.iaload, 1) := dk_46 (dk_at dksX2_value_6 11 rfl rfl)
theorem dX2_value_159 : decode cX2_value 159 = .ok (.invokevirtual 479, 3) := dk_182 1 223 (dk_at dksX2_value_6 12 rfl rfl)
theorem dX2_value_162 : decode cX2_value 162 = .ok (.invokevirtual 472, 3) := dk_182 1 216 (dk_at dksX2_value_6 15 rfl rfl)
theorem dX2_value_165 : decode cX2_value 165 = .ok (.goto 62, 3) := dk_167 0 62 (dk_at dksX2_value_6 18 rfl rfl)
theorem dX2_value_168 : decode cX2_value 168 = .ok (.aload_n 0, 1) := dk_42 (dk_at dksX2_value_6 21 rfl rfl)
theorem dX2_value_169 : decode cX2_value 169 = .ok (.aload_n 0, 1) := dk_42 (dk_at dksX2_value_6 22 rfl rfl)
theorem dX2_value_170 : decode cX2_value 170 = .ok (.aload_n 0, 1) := dk_42 (dk_at dksX2_value_6 23 rfl rfl)
theorem dX2_value_171 : decode cX2_value 171 = .ok (.getfield 193, 3) := dk_180 0 193 (dk_at dksX2_value_7 0 rfl rfl)
theorem dX2_value_174 : decode cX2_value 174 = .ok (.iload_n 3, 1) := dk_29 (dk_at dksX2_value_7 3 rfl rfl)
theorem dX2_value_175 : decode cX2_value 175 = .ok (.iaload, 1) := dk_46 (dk_at dksX2_value_7 4 rfl rfl)
theorem dX2_value_176 : decode cX2_value 176 = .ok (.aload_n 0, 1) := dk_42 (dk_at dksX2_value_7 5 rfl rfl)
theorem dX2_value_177 : decode cX2_value 177 = .ok (.getfield 196, 3) := dk_180 0 196 (dk_at dksX2_value_7 6 rfl rfl)
theorem dX2_value_180 : decode cX2_value 180 = .ok (.iload_n 3, 1) := dk_29 (dk_at dksX2_value_7 9 rfl rfl)
theorem dX2_value_181 : decode cX2_value 181 = .ok (.iaload, 1) := dk_46 (dk_at dksX2_value_7 10 rfl rfl)
theorem dX2_value_182 : decode cX2_value 182 = .ok (.invokevirtual 479, 3) := dk_182 1 223 (dk_at dksX2_value_7 11 rfl rfl)
theorem dX2_value_185 : decode cX2_value 185 = .ok (.invokevirtual 472, 3) := dk_182 1 216 (dk_at dksX2_value_7 14 rfl rfl)
theorem dX2_value_188 : decode cX2_value 188 = .ok (.goto 39, 3) := dk_167 0 39 (dk_at dksX2_value_7 17 rfl rfl)
theorem dX2_value_191 : decode cX2_value 191 = .ok (.aload_n 0, 1) := dk_42 (dk_at dksX2_value_7 20 rfl rfl)
theorem dX2_value_192 : decode cX2_value 192 = .ok (.getfield 282, 3) := dk_180 1 26 (dk_at dksX2_value_7 21 rfl rfl)
theorem dX2_value_195 : decode cX2_value 195 = .ok (.aload_n 0, 1) := dk_42 (dk_at dksX2_value_8 0 rfl rfl)
theorem dX2_value_196 : decode cX2_value 196 = .ok (.getfield 466, 3) := dk_180 1 210 (dk_at dksX2_value_8 1 rfl rfl)
theorem dX2_value_199 : decode cX2_value 199 = .ok (.iconst 1, 1) := dk_4 (dk_at dksX2_value_8 4 rfl rfl)
theorem dX2_value_200 : decode cX2_value 200 = .ok (.isub, 1) := dk_100 (dk_at dksX2_value_8 5 rfl rfl)
theorem dX2_value_201 : decode cX2_value 201 = .ok (.aload_n 0, 1) := dk_42 (dk_at dksX2_value_8 6 rfl rfl)
theorem dX2_value_202 : decode cX2_value 202 = .ok (.getfield 282, 3) := dk_180 1 26 (dk_at dksX2_value_8 7 rfl rfl)
theorem dX2_value_205 : decode cX2_value 205 = .ok (.aload_n 0, 1) := dk_42 (dk_at dksX2_value_8 10 rfl rfl)
theorem dX2_value_206 : decode cX2_value 206 = .ok (.getfield 466, 3) := dk_180 1 210 (dk_at dksX2_value_8 11 rfl rfl)
theorem dX2_value_209 : decode cX2_value 209 = .ok (.iconst 1, 1) := dk_4 (dk_at dksX2_value_8 14 rfl rfl)
theorem dX2_value_210 : decode cX2_value 210 = .ok (.isub, 1) := dk_100 (dk_at dksX2_value_8 15 rfl rfl)
theorem dX2_value_211 : decode cX2_value 211 = .ok (.iaload, 1) := dk_46 (dk_at dksX2_value_8 16 rfl rfl)
theorem dX2_value_212 : decode cX2_value 212 = .ok (.ineg, 1) := dk_116 (dk_at dksX2_value_8 17 rfl rfl)
theorem dX2_value_213 : decode cX2_value 213 = .ok (.iastore, 1) := dk_79 (dk_at dksX2_value_8 18 rfl rfl)
theorem dX2_value_214 : decode cX2_value 214 = .ok (.goto 13, 3) := dk_167 0 13 (dk_at dksX2_value_8 19 rfl rfl)
theorem dX2_value_217 : decode cX2_value 217 = .ok (.aload_n 0, 1) := dk_42 (dk_at dksX2_value_8 22 rfl rfl)
theorem dX2_value_218 : decode cX2_value 218 = .ok (.aload_n 0, 1) := dk_42 (dk_at dksX2_value_8 23 rfl rfl)
theorem dX2_value_219 : decode cX2_value 219 = .ok (.getfield 190, 3) := dk_180 0 190 (dk_at dksX2_value_9 0 rfl rfl)
theorem dX2_value_222 : decode cX2_value 222 = .ok (.iload_n 3, 1) := dk_29 (dk_at dksX2_value_9 3 rfl rfl)
theorem dX2_value_223 : decode cX2_value 223 = .ok (.iaload, 1) := dk_46 (dk_at dksX2_value_9 4 rfl rfl)
theorem dX2_value_224 : decode cX2_value 224 = .ok (.invokevirtual 482, 3) := dk_182 1 226 (dk_at dksX2_value_9 5 rfl rfl)
theorem dX2_value_227 : decode cX2_value 227 = .ok (.iinc 3 1, 3) := dk_132 3 1 (dk_at dksX2_value_9 8 rfl rfl)
theorem dX2_value_230 : decode cX2_value 230 = .ok (.goto (-218), 3) := dk_167 255 38 (dk_at dksX2_value_9 11 rfl rfl)
theorem dX2_value_233 : decode cX2_value 233 = .ok (.aload_n 0, 1) := dk_42 (dk_at dksX2_value_9 14 rfl rfl)
theorem dX2_value_234 : decode cX2_value 234 = .ok (.getfield 469, 3) := dk_180 1 213 (dk_at dksX2_value_9 15 rfl rfl)
theorem dX2_value_237 : decode cX2_value 237 = .ok (.ifCond .eq 7, 3) := dk_153 0 7 (dk_at dksX2_value_9 18 rfl rfl)
theorem dX2_value_240 : decode cX2_value 240 = .ok (.iconst 0, 1) := dk_3 (dk_at dksX2_value_9 21 rfl rfl)
theorem dX2_value_241 : decode cX2_value 241 = .ok (.goto 9, 3) := dk_167 0 9 (dk_at dksX2_value_10 0 rfl rfl)
theorem dX2_value_244 : decode cX2_value 244 = .ok (.aload_n 0, 1) := dk_42 (dk_at dksX2_value_10 3 rfl rfl)
theorem dX2_value_245 : decode cX2_value 245 = .ok (.getfield 282, 3) := dk_180 1 26 (dk_at dksX2_value_10 4 rfl rfl)
theorem dX2_value_248 : decode cX2_value 248 = .ok (.iconst 0, 1) := dk_3 (dk_at dksX2_value_10 7 rfl rfl)
theorem dX2_value_249 : decode cX2_value 249 = .ok (.iaload, 1) := dk_46 (dk_at dksX2_value_10 8 rfl rfl)
theorem dX2_value_250 : decode cX2_value 250 = .ok (.ireturn, 1) := dk_172 (dk_at dksX2_value_10 9 rfl rfl)
def dkwX2_push_0 : List UInt8 := [42, 180, 1, 26, 42, 180, 1, 210, 27, 79, 42, 89, 180, 1, 210, 4, 96, 181, 1, 210, 177]
abbrev dktX2_push_0 : List UInt8 := dkwX2_push_0 ++ []
theorem dksX2_push_0 : cX2_push.data.toList.drop 0 = dktX2_push_0 := by decide +kernel
theorem dX2_push_0 : decode cX2_push 0 = .ok (.aload_n 0, 1) := dk_42 (dk_at dksX2_push_0 0 rfl rfl)
theorem dX2_push_1 : decode cX2_push 1 = .ok (.getfield 282, 3) := dk_180 1 26 (dk_at dksX2_push_0 1 rfl rfl)
theorem dX2_push_4 : decode cX2_push 4 = .ok (.aload_n 0, 1) := dk_42 (dk_at dksX2_push_0 4 rfl rfl)
theorem dX2_push_5 : decode cX2_push 5 = .ok (.getfield 466, 3) := dk_180 1 210 (dk_at dksX2_push_0 5 rfl rfl)
theorem dX2_push_8 : decode cX2_push 8 = .ok (.iload_n 1, 1) := dk_27 (dk_at dksX2_push_0 8 rfl rfl)
theorem dX2_push_9 : decode cX2_push 9 = .ok (.iastore, 1) := dk_79 (dk_at dksX2_push_0 9 rfl rfl)
theorem dX2_push_10 : decode cX2_push 10 = .ok (.aload_n 0, 1) := dk_42 (dk_at dksX2_push_0 10 rfl rfl)
theorem dX2_push_11 : decode cX2_push 11 = .ok (.dup, 1) := dk_89 (dk_at dksX2_push_0 11 rfl rfl)
theorem dX2_push_12 : decode cX2_push 12 = .ok (.getfield 466, 3) := dk_180 1 210 (dk_at dksX2_push_0 12 rfl rfl)
theorem dX2_push_15 : decode cX2_push 15 = .ok (.iconst 1, 1) := dk_4 (dk_at dksX2_push_0 15 rfl rfl)
theorem dX2_push_16 : decode cX2_push 16 = .ok (.iadd, 1) := dk_96 (dk_at dksX2_push_0 16 rfl rfl)
theorem dX2_push_17 : decode cX2_push 17 = .ok (.putfield 466, 3) := dk_181 1 210 (dk_at dksX2_push_0 17 rfl rfl)
theorem dX2_push_20 : decode cX2_push 20 = .ok (.return_, 1) := dk_177 (dk_at dksX2_push_0 20 rfl rfl)
def dkwX2_measured_4 : List UInt8 := [182, 1, 208, 172]
abbrev dktX2_measured_4 : List UInt8 := dkwX2_measured_4 ++ []
def dkwX2_measured_3 : List UInt8 := [180, 0, 228, 27, 46, 172, 42, 180, 0, 230, 27, 46, 172, 42, 180, 0, 232, 27, 46, 172, 42, 27]
abbrev dktX2_measured_3 : List UInt8 := dkwX2_measured_3 ++ dktX2_measured_4
def dkwX2_measured_2 : List UInt8 := [42, 180, 0, 214, 27, 46, 172, 42, 180, 0, 219, 27, 46, 172, 42, 180, 0, 226, 27, 46, 172, 42]
abbrev dktX2_measured_2 : List UInt8 := dkwX2_measured_2 ++ dktX2_measured_3
def dkwX2_measured_1 : List UInt8 := [170, 0, 0, 0, 0, 0, 81, 0, 0, 0, 0, 0, 0, 0, 5, 0, 0, 0, 39, 0, 0, 0, 46, 0, 0, 0, 53, 0, 0, 0, 60, 0, 0, 0, 67, 0, 0, 0, 74]
abbrev dktX2_measured_1 : List UInt8 := dkwX2_measured_1 ++ dktX2_measured_2
def dkwX2_measured_0 : List UInt8 := [28]
abbrev dktX2_measured_0 : List UInt8 := dkwX2_measured_0 ++ dktX2_measured_1
theorem dksX2_measured_0 : cX2_measured.data.toList.drop 0 = dktX2_measured_0 := by decide +kernel
theorem dksX2_measured_1 : cX2_measured.data.toList.drop 1 = dktX2_measured_1 := dk_seg dksX2_measured_0 1 rfl rfl
theorem dksX2_measured_2 : cX2_measured.data.toList.drop 40 = dktX2_measured_2 := dk_seg dksX2_measured_1 39 rfl rfl
theorem dksX2_measured_3 : cX2_measured.data.toList.drop 62 = dktX2_measured_3 := dk_seg dksX2_measured_2 22 rfl rfl
theorem dksX2_measured_4 : cX2_measured.data.toList.drop 84 = dktX2_measured_4 := dk_seg dksX2_measured_3 22 rfl rfl
theorem dX2_measured_0 : decode cX2_measured 0 = .ok (.iload_n 2, 1) := dk_28 (dk_at dksX2_measured_0 0 rfl rfl)
theorem dX2_measured_1 : decode cX2_measured 1 = .ok (.tableswitch 81 0 5 #[39, 46, 53, 60, 67, 74], 39) := by decide +kernel
theorem dX2_measured_40 : decode cX2_measured 40 = .ok (.aload_n 0, 1) := dk_42 (dk_at dksX2_measured_2 0 rfl rfl)
theorem dX2_measured_41 : decode cX2_measured 41 = .ok (.getfield 214, 3) := dk_180 0 214 (dk_at dksX2_measured_2 1 rfl rfl)
theorem dX2_measured_44 : decode cX2_measured 44 = .ok (.iload_n 1, 1) := dk_27 (dk_at dksX2_measured_2 4 rfl rfl)
theorem dX2_measured_45 : decode cX2_measured 45 = .ok (.iaload, 1) := dk_46 (dk_at dksX2_measured_2 5 rfl rfl)
theorem dX2_measured_46 : decode cX2_measured 46 = .ok (.ireturn, 1) := dk_172 (dk_at dksX2_measured_2 6 rfl rfl)
theorem dX2_measured_47 : decode cX2_measured 47 = .ok (.aload_n 0, 1) := dk_42 (dk_at dksX2_measured_2 7 rfl rfl)
theorem dX2_measured_48 : decode cX2_measured 48 = .ok (.getfield 219, 3) := dk_180 0 219 (dk_at dksX2_measured_2 8 rfl rfl)
theorem dX2_measured_51 : decode cX2_measured 51 = .ok (.iload_n 1, 1) := dk_27 (dk_at dksX2_measured_2 11 rfl rfl)
theorem dX2_measured_52 : decode cX2_measured 52 = .ok (.iaload, 1) := dk_46 (dk_at dksX2_measured_2 12 rfl rfl)
theorem dX2_measured_53 : decode cX2_measured 53 = .ok (.ireturn, 1) := dk_172 (dk_at dksX2_measured_2 13 rfl rfl)
theorem dX2_measured_54 : decode cX2_measured 54 = .ok (.aload_n 0, 1) := dk_42 (dk_at dksX2_measured_2 14 rfl rfl)
theorem dX2_measured_55 : decode cX2_measured 55 = .ok (.getfield 226, 3) := dk_180 0 226 (dk_at dksX2_measured_2 15 rfl rfl)
theorem dX2_measured_58 : decode cX2_measured 58 = .ok (.iload_n 1, 1) := dk_27 (dk_at dksX2_measured_2 18 rfl rfl)
theorem dX2_measured_59 : decode cX2_measured 59 = .ok (.iaload, 1) := dk_46 (dk_at dksX2_measured_2 19 rfl rfl)
theorem dX2_measured_60 : decode cX2_measured 60 = .ok (.ireturn, 1) := dk_172 (dk_at dksX2_measured_2 20 rfl rfl)
theorem dX2_measured_61 : decode cX2_measured 61 = .ok (.aload_n 0, 1) := dk_42 (dk_at dksX2_measured_2 21 rfl rfl)
theorem dX2_measured_62 : decode cX2_measured 62 = .ok (.getfield 228, 3) := dk_180 0 228 (dk_at dksX2_measured_3 0 rfl rfl)
theorem dX2_measured_65 : decode cX2_measured 65 = .ok (.iload_n 1, 1) := dk_27 (dk_at dksX2_measured_3 3 rfl rfl)
theorem dX2_measured_66 : decode cX2_measured 66 = .ok (.iaload, 1) := dk_46 (dk_at dksX2_measured_3 4 rfl rfl)
theorem dX2_measured_67 : decode cX2_measured 67 = .ok (.ireturn, 1) := dk_172 (dk_at dksX2_measured_3 5 rfl rfl)
theorem dX2_measured_68 : decode cX2_measured 68 = .ok (.aload_n 0, 1) := dk_42 (dk_at dksX2_measured_3 6 rfl rfl)
theorem dX2_measured_69 : decode cX2_measured 69 = .ok (.getfield 230, 3) := dk_180 0 230 (dk_at dksX2_measured_3 7 rfl rfl)
theorem dX2_measured_72 : decode cX2_measured 72 = .ok (.iload_n 1, 1) := dk_27 (dk_at dksX2_measured_3 10 rfl rfl)
theorem dX2_measured_73 : decode cX2_measured 73 = .ok (.iaload, 1) := dk_46 (dk_at dksX2_measured_3 11 rfl rfl)
theorem dX2_measured_74 : decode cX2_measured 74 = .ok (.ireturn, 1) := dk_172 (dk_at dksX2_measured_3 12 rfl rfl)
theorem dX2_measured_75 : decode cX2_measured 75 = .ok (.aload_n 0, 1) := dk_42 (dk_at dksX2_measured_3 13 rfl rfl)
theorem dX2_measured_76 : decode cX2_measured 76 = .ok (.getfield 232, 3) := dk_180 0 232 (dk_at dksX2_measured_3 14 rfl rfl)
theorem dX2_measured_79 : decode cX2_measured 79 = .ok (.iload_n 1, 1) := dk_27 (dk_at dksX2_measured_3 17 rfl rfl)
theorem dX2_measured_80 : decode cX2_measured 80 = .ok (.iaload, 1) := dk_46 (dk_at dksX2_measured_3 18 rfl rfl)
theorem dX2_measured_81 : decode cX2_measured 81 = .ok (.ireturn, 1) := dk_172 (dk_at dksX2_measured_3 19 rfl rfl)
theorem dX2_measured_82 : decode cX2_measured 82 = .ok (.aload_n 0, 1) := dk_42 (dk_at dksX2_measured_3 20 rfl rfl)
theorem dX2_measured_83 : decode cX2_measured 83 = .ok (.iload_n 1, 1) := dk_27 (dk_at dksX2_measured_3 21 rfl rfl)
theorem dX2_measured_84 : decode cX2_measured 84 = .ok (.invokevirtual 464, 3) := dk_182 1 208 (dk_at dksX2_measured_4 0 rfl rfl)
theorem dX2_measured_87 : decode cX2_measured 87 = .ok (.ireturn, 1) := dk_172 (dk_at dksX2_measured_4 3 rfl rfl)
def dkwX2_two_4 : List UInt8 := [2, 160, 0, 8, 29, 116, 167, 0, 6, 29, 28, 108, 79, 177]
abbrev dktX2_two_4 : List UInt8 := dkwX2_two_4 ++ []
def dkwX2_two_3 : List UInt8 := [16, 10, 160, 0, 9, 29, 28, 100, 167, 0, 28, 27, 16, 11, 160, 0, 9, 29, 28, 104, 167, 0, 16, 28]
abbrev dktX2_two_3 : List UInt8 := dkwX2_two_3 ++ dktX2_two_4
def dkwX2_two_2 : List UInt8 := [42, 180, 1, 26, 42, 180, 1, 210, 4, 100, 27, 16, 9, 160, 0, 9, 29, 28, 96, 167, 0, 40, 27]
abbrev dktX2_two_2 : List UInt8 := dkwX2_two_2 ++ dktX2_two_3
def dkwX2_two_1 : List UInt8 := [42, 180, 1, 210, 4, 100, 46, 62, 27, 16, 12, 160, 0, 13, 28, 154, 0, 9, 42, 4, 181, 1, 213, 177]
abbrev dktX2_two_1 : List UInt8 := dkwX2_two_1 ++ dktX2_two_2
def dkwX2_two_0 : List UInt8 := [42, 89, 180, 1, 210, 4, 100, 181, 1, 210, 42, 180, 1, 26, 42, 180, 1, 210, 46, 61, 42, 180, 1, 26]
abbrev dktX2_two_0 : List UInt8 := dkwX2_two_0 ++ dktX2_two_1
theorem dksX2_two_0 : cX2_two.data.toList.drop 0 = dktX2_two_0 := by decide +kernel
theorem dksX2_two_1 : cX2_two.data.toList.drop 24 = dktX2_two_1 := dk_seg dksX2_two_0 24 rfl rfl
theorem dksX2_two_2 : cX2_two.data.toList.drop 48 = dktX2_two_2 := dk_seg dksX2_two_1 24 rfl rfl
theorem dksX2_two_3 : cX2_two.data.toList.drop 71 = dktX2_two_3 := dk_seg dksX2_two_2 23 rfl rfl
theorem dksX2_two_4 : cX2_two.data.toList.drop 95 = dktX2_two_4 := dk_seg dksX2_two_3 24 rfl rfl
theorem dX2_two_0 : decode cX2_two 0 = .ok (.aload_n 0, 1) := dk_42 (dk_at dksX2_two_0 0 rfl rfl)
theorem dX2_two_1 : decode cX2_two 1 = .ok (.dup, 1) := dk_89 (dk_at dksX2_two_0 1 rfl rfl)
theorem dX2_two_2 : decode cX2_two 2 = .ok (.getfield 466, 3) := dk_180 1 210 (dk_at dksX2_two_0 2 rfl rfl)
theorem dX2_two_5 : decode cX2_two 5 = .ok (.iconst 1, 1) := dk_4 (dk_at dksX2_two_0 5 rfl rfl)
theorem dX2_two_6 : decode cX2_two 6 = .ok (.isub, 1) := dk_100 (dk_at dksX2_two_0 6 rfl rfl)
theorem dX2_two_7 : decode cX2_two 7 = .ok (.putfield 466, 3) := dk_181 1 210 (dk_at dksX2_two_0 7 rfl rfl)
theorem dX2_two_10 : decode cX2_two 10 = .ok (.aload_n 0, 1) := dk_42 (dk_at dksX2_two_0 10 rfl rfl)
theorem dX2_two_11 : decode cX2_two 11 = .ok (.getfield 282, 3) := dk_180 1 26 (dk_at dksX2_two_0 11 rfl rfl)
theorem dX2_two_14 : decode cX2_two 14 = .ok (.aload_n 0, 1) := dk_42 (dk_at dksX2_two_0 14 rfl rfl)
theorem dX2_two_15 : decode cX2_two 15 = .ok (.getfield 466, 3) := dk_180 1 210 (dk_at dksX2_two_0 15 rfl rfl)
theorem dX2_two_18 : decode cX2_two 18 = .ok (.iaload, 1) := dk_46 (dk_at dksX2_two_0 18 rfl rfl)
theorem dX2_two_19 : decode cX2_two 19 = .ok (.istore_n 2, 1) := dk_61 (dk_at dksX2_two_0 19 rfl rfl)
theorem dX2_two_20 : decode cX2_two 20 = .ok (.aload_n 0, 1) := dk_42 (dk_at dksX2_two_0 20 rfl rfl)
theorem dX2_two_21 : decode cX2_two 21 = .ok (.getfield 282, 3) := dk_180 1 26 (dk_at dksX2_two_0 21 rfl rfl)
theorem dX2_two_24 : decode cX2_two 24 = .ok (.aload_n 0, 1) := dk_42 (dk_at dksX2_two_1 0 rfl rfl)
theorem dX2_two_25 : decode cX2_two 25 = .ok (.getfield 466, 3) := dk_180 1 210 (dk_at dksX2_two_1 1 rfl rfl)
theorem dX2_two_28 : decode cX2_two 28 = .ok (.iconst 1, 1) := dk_4 (dk_at dksX2_two_1 4 rfl rfl)
theorem dX2_two_29 : decode cX2_two 29 = .ok (.isub, 1) := dk_100 (dk_at dksX2_two_1 5 rfl rfl)
theorem dX2_two_30 : decode cX2_two 30 = .ok (.iaload, 1) := dk_46 (dk_at dksX2_two_1 6 rfl rfl)
theorem dX2_two_31 : decode cX2_two 31 = .ok (.istore_n 3, 1) := dk_62 (dk_at dksX2_two_1 7 rfl rfl)
theorem dX2_two_32 : decode cX2_two 32 = .ok (.iload_n 1, 1) := dk_27 (dk_at dksX2_two_1 8 rfl rfl)
theorem dX2_two_33 : decode cX2_two 33 = .ok (.bipush 12, 2) := dk_16 12 (dk_at dksX2_two_1 9 rfl rfl)
theorem dX2_two_35 : decode cX2_two 35 = .ok (.if_icmp .ne 13, 3) := dk_160 0 13 (dk_at dksX2_two_1 11 rfl rfl)
theorem dX2_two_38 : decode cX2_two 38 = .ok (.iload_n 2, 1) := dk_28 (dk_at dksX2_two_1 14 rfl rfl)
theorem dX2_two_39 : decode cX2_two 39 = .ok (.ifCond .ne 9, 3) := dk_154 0 9 (dk_at dksX2_two_1 15 rfl rfl)
theorem dX2_two_42 : decode cX2_two 42 = .ok (.aload_n 0, 1) := dk_42 (dk_at dksX2_two_1 18 rfl rfl)
theorem dX2_two_43 : decode cX2_two 43 = .ok (.iconst 1, 1) := dk_4 (dk_at dksX2_two_1 19 rfl rfl)
theorem dX2_two_44 : decode cX2_two 44 = .ok (.putfield 469, 3) := dk_181 1 213 (dk_at dksX2_two_1 20 rfl rfl)
theorem dX2_two_47 : decode cX2_two 47 = .ok (.return_, 1) := dk_177 (dk_at dksX2_two_1 23 rfl rfl)
theorem dX2_two_48 : decode cX2_two 48 = .ok (.aload_n 0, 1) := dk_42 (dk_at dksX2_two_2 0 rfl rfl)
theorem dX2_two_49 : decode cX2_two 49 = .ok (.getfield 282, 3) := dk_180 1 26 (dk_at dksX2_two_2 1 rfl rfl)
theorem dX2_two_52 : decode cX2_two 52 = .ok (.aload_n 0, 1) := dk_42 (dk_at dksX2_two_2 4 rfl rfl)
theorem dX2_two_53 : decode cX2_two 53 = .ok (.getfield 466, 3) := dk_180 1 210 (dk_at dksX2_two_2 5 rfl rfl)
theorem dX2_two_56 : decode cX2_two 56 = .ok (.iconst 1, 1) := dk_4 (dk_at dksX2_two_2 8 rfl rfl)
theorem dX2_two_57 : decode cX2_two 57 = .ok (.isub, 1) := dk_100 (dk_at dksX2_two_2 9 rfl rfl)
theorem dX2_two_58 : decode cX2_two 58 = .ok (.iload_n 1, 1) := dk_27 (dk_at dksX2_two_2 10 rfl rfl)
theorem dX2_two_59 : decode cX2_two 59 = .ok (.bipush 9, 2) := dk_16 9 (dk_at dksX2_two_2 11 rfl rfl)
theorem dX2_two_61 : decode cX2_two 61 = .ok (.if_icmp .ne 9, 3) := dk_160 0 9 (dk_at dksX2_two_2 13 rfl rfl)
theorem dX2_two_64 : decode cX2_two 64 = .ok (.iload_n 3, 1) := dk_29 (dk_at dksX2_two_2 16 rfl rfl)
theorem dX2_two_65 : decode cX2_two 65 = .ok (.iload_n 2, 1) := dk_28 (dk_at dksX2_two_2 17 rfl rfl)
theorem dX2_two_66 : decode cX2_two 66 = .ok (.iadd, 1) := dk_96 (dk_at dksX2_two_2 18 rfl rfl)
theorem dX2_two_67 : decode cX2_two 67 = .ok (.goto 40, 3) := dk_167 0 40 (dk_at dksX2_two_2 19 rfl rfl)
theorem dX2_two_70 : decode cX2_two 70 = .ok (.iload_n 1, 1) := dk_27 (dk_at dksX2_two_2 22 rfl rfl)
theorem dX2_two_71 : decode cX2_two 71 = .ok (.bipush 10, 2) := dk_16 10 (dk_at dksX2_two_3 0 rfl rfl)
theorem dX2_two_73 : decode cX2_two 73 = .ok (.if_icmp .ne 9, 3) := dk_160 0 9 (dk_at dksX2_two_3 2 rfl rfl)
theorem dX2_two_76 : decode cX2_two 76 = .ok (.iload_n 3, 1) := dk_29 (dk_at dksX2_two_3 5 rfl rfl)
theorem dX2_two_77 : decode cX2_two 77 = .ok (.iload_n 2, 1) := dk_28 (dk_at dksX2_two_3 6 rfl rfl)
theorem dX2_two_78 : decode cX2_two 78 = .ok (.isub, 1) := dk_100 (dk_at dksX2_two_3 7 rfl rfl)
theorem dX2_two_79 : decode cX2_two 79 = .ok (.goto 28, 3) := dk_167 0 28 (dk_at dksX2_two_3 8 rfl rfl)
theorem dX2_two_82 : decode cX2_two 82 = .ok (.iload_n 1, 1) := dk_27 (dk_at dksX2_two_3 11 rfl rfl)
theorem dX2_two_83 : decode cX2_two 83 = .ok (.bipush 11, 2) := dk_16 11 (dk_at dksX2_two_3 12 rfl rfl)
theorem dX2_two_85 : decode cX2_two 85 = .ok (.if_icmp .ne 9, 3) := dk_160 0 9 (dk_at dksX2_two_3 14 rfl rfl)
theorem dX2_two_88 : decode cX2_two 88 = .ok (.iload_n 3, 1) := dk_29 (dk_at dksX2_two_3 17 rfl rfl)
theorem dX2_two_89 : decode cX2_two 89 = .ok (.iload_n 2, 1) := dk_28 (dk_at dksX2_two_3 18 rfl rfl)
theorem dX2_two_90 : decode cX2_two 90 = .ok (.imul, 1) := dk_104 (dk_at dksX2_two_3 19 rfl rfl)
theorem dX2_two_91 : decode cX2_two 91 = .ok (.goto 16, 3) := dk_167 0 16 (dk_at dksX2_two_3 20 rfl rfl)
theorem dX2_two_94 : decode cX2_two 94 = .ok (.iload_n 2, 1) := dk_28 (dk_at dksX2_two_3 23 rfl rfl)
theorem dX2_two_95 : decode cX2_two 95 = .ok (.iconst (-1), 1) := dk_2 (dk_at dksX2_two_4 0 rfl rfl)
theorem dX2_two_96 : decode cX2_two 96 = .ok (.if_icmp .ne 8, 3) := dk_160 0 8 (dk_at dksX2_two_4 1 rfl rfl)
theorem dX2_two_99 : decode cX2_two 99 = .ok (.iload_n 3, 1) := dk_29 (dk_at dksX2_two_4 4 rfl rfl)
theorem dX2_two_100 : decode cX2_two 100 = .ok (.ineg, 1) := dk_116 (dk_at dksX2_two_4 5 rfl rfl)
theorem dX2_two_101 : decode cX2_two 101 = .ok (.goto 6, 3) := dk_167 0 6 (dk_at dksX2_two_4 6 rfl rfl)
theorem dX2_two_104 : decode cX2_two 104 = .ok (.iload_n 3, 1) := dk_29 (dk_at dksX2_two_4 9 rfl rfl)
theorem dX2_two_105 : decode cX2_two 105 = .ok (.iload_n 2, 1) := dk_28 (dk_at dksX2_two_4 10 rfl rfl)
theorem dX2_two_106 : decode cX2_two 106 = .ok (.idiv, 1) := dk_108 (dk_at dksX2_two_4 11 rfl rfl)
theorem dX2_two_107 : decode cX2_two 107 = .ok (.iastore, 1) := dk_79 (dk_at dksX2_two_4 12 rfl rfl)
theorem dX2_two_108 : decode cX2_two 108 = .ok (.return_, 1) := dk_177 (dk_at dksX2_two_4 13 rfl rfl)
def dkwX2_stalls_5 : List UInt8 := [29, 46, 182, 2, 3, 177]
abbrev dktX2_stalls_5 : List UInt8 := dkwX2_stalls_5 ++ []
def dkwX2_stalls_4 : List UInt8 := [182, 2, 0, 177, 42, 180, 0, 237, 27, 28, 79, 42, 4, 27, 28, 182, 2, 0, 42, 27, 42, 180, 0, 181]
abbrev dktX2_stalls_4 : List UInt8 := dkwX2_stalls_4 ++ dktX2_stalls_5
def dkwX2_stalls_3 : List UInt8 := [180, 1, 1, 16, 6, 27, 104, 21, 4, 96, 3, 79, 132, 4, 1, 167, 255, 211, 42, 5, 27, 28]
abbrev dktX2_stalls_3 : List UInt8 := dkwX2_stalls_3 ++ dktX2_stalls_4
def dkwX2_stalls_2 : List UInt8 := [42, 180, 1, 4, 21, 4, 92, 46, 42, 180, 1, 1, 16, 6, 27, 104, 21, 4, 96, 46, 96, 79, 42]
abbrev dktX2_stalls_2 : List UInt8 := dkwX2_stalls_2 ++ dktX2_stalls_3
def dkwX2_stalls_1 : List UInt8 := [46, 62, 29, 2, 160, 0, 69, 42, 180, 0, 234, 27, 5, 79, 3, 54, 4, 21, 4, 16, 6, 162, 0, 44]
abbrev dktX2_stalls_1 : List UInt8 := dkwX2_stalls_1 ++ dktX2_stalls_2
def dkwX2_stalls_0 : List UInt8 := [42, 180, 0, 216, 27, 3, 79, 42, 180, 0, 221, 27, 3, 79, 42, 180, 0, 187, 42, 180, 0, 239, 27, 46]
abbrev dktX2_stalls_0 : List UInt8 := dkwX2_stalls_0 ++ dktX2_stalls_1
theorem dksX2_stalls_0 : cX2_stalls.data.toList.drop 0 = dktX2_stalls_0 := by decide +kernel
theorem dksX2_stalls_1 : cX2_stalls.data.toList.drop 24 = dktX2_stalls_1 := dk_seg dksX2_stalls_0 24 rfl rfl
theorem dksX2_stalls_2 : cX2_stalls.data.toList.drop 48 = dktX2_stalls_2 := dk_seg dksX2_stalls_1 24 rfl rfl
theorem dksX2_stalls_3 : cX2_stalls.data.toList.drop 71 = dktX2_stalls_3 := dk_seg dksX2_stalls_2 23 rfl rfl
theorem dksX2_stalls_4 : cX2_stalls.data.toList.drop 93 = dktX2_stalls_4 := dk_seg dksX2_stalls_3 22 rfl rfl
theorem dksX2_stalls_5 : cX2_stalls.data.toList.drop 117 = dktX2_stalls_5 := dk_seg dksX2_stalls_4 24 rfl rfl
theorem dX2_stalls_0 : decode cX2_stalls 0 = .ok (.aload_n 0, 1) := dk_42 (dk_at dksX2_stalls_0 0 rfl rfl)
theorem dX2_stalls_1 : decode cX2_stalls 1 = .ok (.getfield 216, 3) := dk_180 0 216 (dk_at dksX2_stalls_0 1 rfl rfl)
theorem dX2_stalls_4 : decode cX2_stalls 4 = .ok (.iload_n 1, 1) := dk_27 (dk_at dksX2_stalls_0 4 rfl rfl)
theorem dX2_stalls_5 : decode cX2_stalls 5 = .ok (.iconst 0, 1) := dk_3 (dk_at dksX2_stalls_0 5 rfl rfl)
theorem dX2_stalls_6 : decode cX2_stalls 6 = .ok (.iastore, 1) := dk_79 (dk_at dksX2_stalls_0 6 rfl rfl)
theorem dX2_stalls_7 : decode cX2_stalls 7 = .ok (.aload_n 0, 1) := dk_42 (dk_at dksX2_stalls_0 7 rfl rfl)
theorem dX2_stalls_8 : decode cX2_stalls 8 = .ok (.getfield 221, 3) := dk_180 0 221 (dk_at dksX2_stalls_0 8 rfl rfl)
theorem dX2_stalls_11 : decode cX2_stalls 11 = .ok (.iload_n 1, 1) := dk_27 (dk_at dksX2_stalls_0 11 rfl rfl)
theorem dX2_stalls_12 : decode cX2_stalls 12 = .ok (.iconst 0, 1) := dk_3 (dk_at dksX2_stalls_0 12 rfl rfl)
theorem dX2_stalls_13 : decode cX2_stalls 13 = .ok (.iastore, 1) := dk_79 (dk_at dksX2_stalls_0 13 rfl rfl)
theorem dX2_stalls_14 : decode cX2_stalls 14 = .ok (.aload_n 0, 1) := dk_42 (dk_at dksX2_stalls_0 14 rfl rfl)
theorem dX2_stalls_15 : decode cX2_stalls 15 = .ok (.getfield 187, 3) := dk_180 0 187 (dk_at dksX2_stalls_0 15 rfl rfl)
theorem dX2_stalls_18 : decode cX2_stalls 18 = .ok (.aload_n 0, 1) := dk_42 (dk_at dksX2_stalls_0 18 rfl rfl)
theorem dX2_stalls_19 : decode cX2_stalls 19 = .ok (.getfield 239, 3) := dk_180 0 239 (dk_at dksX2_stalls_0 19 rfl rfl)
theorem dX2_stalls_22 : decode cX2_stalls 22 = .ok (.iload_n 1, 1) := dk_27 (dk_at dksX2_stalls_0 22 rfl rfl)
theorem dX2_stalls_23 : decode cX2_stalls 23 = .ok (.iaload, 1) := dk_46 (dk_at dksX2_stalls_0 23 rfl rfl)
theorem dX2_stalls_24 : decode cX2_stalls 24 = .ok (.iaload, 1) := dk_46 (dk_at dksX2_stalls_1 0 rfl rfl)
theorem dX2_stalls_25 : decode cX2_stalls 25 = .ok (.istore_n 3, 1) := dk_62 (dk_at dksX2_stalls_1 1 rfl rfl)
theorem dX2_stalls_26 : decode cX2_stalls 26 = .ok (.iload_n 3, 1) := dk_29 (dk_at dksX2_stalls_1 2 rfl rfl)
theorem dX2_stalls_27 : decode cX2_stalls 27 = .ok (.iconst (-1), 1) := dk_2 (dk_at dksX2_stalls_1 3 rfl rfl)
theorem dX2_stalls_28 : decode cX2_stalls 28 = .ok (.if_icmp .ne 69, 3) := dk_160 0 69 (dk_at dksX2_stalls_1 4 rfl rfl)
theorem dX2_stalls_31 : decode cX2_stalls 31 = .ok (.aload_n 0, 1) := dk_42 (dk_at dksX2_stalls_1 7 rfl rfl)
theorem dX2_stalls_32 : decode cX2_stalls 32 = .ok (.getfield 234, 3) := dk_180 0 234 (dk_at dksX2_stalls_1 8 rfl rfl)
theorem dX2_stalls_35 : decode cX2_stalls 35 = .ok (.iload_n 1, 1) := dk_27 (dk_at dksX2_stalls_1 11 rfl rfl)
theorem dX2_stalls_36 : decode cX2_stalls 36 = .ok (.iconst 2, 1) := dk_5 (dk_at dksX2_stalls_1 12 rfl rfl)
theorem dX2_stalls_37 : decode cX2_stalls 37 = .ok (.iastore, 1) := dk_79 (dk_at dksX2_stalls_1 13 rfl rfl)
theorem dX2_stalls_38 : decode cX2_stalls 38 = .ok (.iconst 0, 1) := dk_3 (dk_at dksX2_stalls_1 14 rfl rfl)
theorem dX2_stalls_39 : decode cX2_stalls 39 = .ok (.istore 4, 2) := dk_54 4 (dk_at dksX2_stalls_1 15 rfl rfl)
theorem dX2_stalls_41 : decode cX2_stalls 41 = .ok (.iload 4, 2) := dk_21 4 (dk_at dksX2_stalls_1 17 rfl rfl)
theorem dX2_stalls_43 : decode cX2_stalls 43 = .ok (.bipush 6, 2) := dk_16 6 (dk_at dksX2_stalls_1 19 rfl rfl)
theorem dX2_stalls_45 : decode cX2_stalls 45 = .ok (.if_icmp .ge 44, 3) := dk_162 0 44 (dk_at dksX2_stalls_1 21 rfl rfl)
theorem dX2_stalls_48 : decode cX2_stalls 48 = .ok (.aload_n 0, 1) := dk_42 (dk_at dksX2_stalls_2 0 rfl rfl)
theorem dX2_stalls_49 : decode cX2_stalls 49 = .ok (.getfield 260, 3) := dk_180 1 4 (dk_at dksX2_stalls_2 1 rfl rfl)
theorem dX2_stalls_52 : decode cX2_stalls 52 = .ok (.iload 4, 2) := dk_21 4 (dk_at dksX2_stalls_2 4 rfl rfl)
theorem dX2_stalls_54 : decode cX2_stalls 54 = .ok (.dup2, 1) := dk_92 (dk_at dksX2_stalls_2 6 rfl rfl)
theorem dX2_stalls_55 : decode cX2_stalls 55 = .ok (.iaload, 1) := dk_46 (dk_at dksX2_stalls_2 7 rfl rfl)
theorem dX2_stalls_56 : decode cX2_stalls 56 = .ok (.aload_n 0, 1) := dk_42 (dk_at dksX2_stalls_2 8 rfl rfl)
theorem dX2_stalls_57 : decode cX2_stalls 57 = .ok (.getfield 257, 3) := dk_180 1 1 (dk_at dksX2_stalls_2 9 rfl rfl)
theorem dX2_stalls_60 : decode cX2_stalls 60 = .ok (.bipush 6, 2) := dk_16 6 (dk_at dksX2_stalls_2 12 rfl rfl)
theorem dX2_stalls_62 : decode cX2_stalls 62 = .ok (.iload_n 1, 1) := dk_27 (dk_at dksX2_stalls_2 14 rfl rfl)
theorem dX2_stalls_63 : decode cX2_stalls 63 = .ok (.imul, 1) := dk_104 (dk_at dksX2_stalls_2 15 rfl rfl)
theorem dX2_stalls_64 : decode cX2_stalls 64 = .ok (.iload 4, 2) := dk_21 4 (dk_at dksX2_stalls_2 16 rfl rfl)
theorem dX2_stalls_66 : decode cX2_stalls 66 = .ok (.iadd, 1) := dk_96 (dk_at dksX2_stalls_2 18 rfl rfl)
theorem dX2_stalls_67 : decode cX2_stalls 67 = .ok (.iaload, 1) := dk_46 (dk_at dksX2_stalls_2 19 rfl rfl)
theorem dX2_stalls_68 : decode cX2_stalls 68 = .ok (.iadd, 1) := dk_96 (dk_at dksX2_stalls_2 20 rfl rfl)
theorem dX2_stalls_69 : decode cX2_stalls 69 = .ok (.iastore, 1) := dk_79 (dk_at dksX2_stalls_2 21 rfl rfl)
theorem dX2_stalls_70 : decode cX2_stalls 70 = .ok (.aload_n 0, 1) := dk_42 (dk_at dksX2_stalls_2 22 rfl rfl)
theorem dX2_stalls_71 : decode cX2_stalls 71 = .ok (.getfield 257, 3) := dk_180 1 1 (dk_at dksX2_stalls_3 0 rfl rfl)
theorem dX2_stalls_74 : decode cX2_stalls 74 = .ok (.bipush 6, 2) := dk_16 6 (dk_at dksX2_stalls_3 3 rfl rfl)
theorem dX2_stalls_76 : decode cX2_stalls 76 = .ok (.iload_n 1, 1) := dk_27 (dk_at dksX2_stalls_3 5 rfl rfl)
theorem dX2_stalls_77 : decode cX2_stalls 77 = .ok (.imul, 1) := dk_104 (dk_at dksX2_stalls_3 6 rfl rfl)
theorem dX2_stalls_78 : decode cX2_stalls 78 = .ok (.iload 4, 2) := dk_21 4 (dk_at dksX2_stalls_3 7 rfl rfl)
theorem dX2_stalls_80 : decode cX2_stalls 80 = .ok (.iadd, 1) := dk_96 (dk_at dksX2_stalls_3 9 rfl rfl)
theorem dX2_stalls_81 : decode cX2_stalls 81 = .ok (.iconst 0, 1) := dk_3 (dk_at dksX2_stalls_3 10 rfl rfl)
theorem dX2_stalls_82 : decode cX2_stalls 82 = .ok (.iastore, 1) := dk_79 (dk_at dksX2_stalls_3 11 rfl rfl)
theorem dX2_stalls_83 : decode cX2_stalls 83 = .ok (.iinc 4 1, 3) := dk_132 4 1 (dk_at dksX2_stalls_3 12 rfl rfl)
theorem dX2_stalls_86 : decode cX2_stalls 86 = .ok (.goto (-45), 3) := dk_167 255 211 (dk_at dksX2_stalls_3 15 rfl rfl)
theorem dX2_stalls_89 : decode cX2_stalls 89 = .ok (.aload_n 0, 1) := dk_42 (dk_at dksX2_stalls_3 18 rfl rfl)
theorem dX2_stalls_90 : decode cX2_stalls 90 = .ok (.iconst 2, 1) := dk_5 (dk_at dksX2_stalls_3 19 rfl rfl)
theorem dX2_stalls_91 : decode cX2_stalls 91 = .ok (.iload_n 1, 1) := dk_27 (dk_at dksX2_stalls_3 20 rfl rfl)
theorem dX2_stalls_92 : decode cX2_stalls 92 = .ok (.iload_n 2, 1) := dk_28 (dk_at dksX2_stalls_3 21 rfl rfl)
theorem dX2_stalls_93 : decode cX2_stalls 93 = .ok (.invokevirtual 512, 3) := dk_182 2 0 (dk_at dksX2_stalls_4 0 rfl rfl)
theorem dX2_stalls_96 : decode cX2_stalls 96 = .ok (.return_, 1) := dk_177 (dk_at dksX2_stalls_4 3 rfl rfl)
theorem dX2_stalls_97 : decode cX2_stalls 97 = .ok (.aload_n 0, 1) := dk_42 (dk_at dksX2_stalls_4 4 rfl rfl)
theorem dX2_stalls_98 : decode cX2_stalls 98 = .ok (.getfield 237, 3) := dk_180 0 237 (dk_at dksX2_stalls_4 5 rfl rfl)
theorem dX2_stalls_101 : decode cX2_stalls 101 = .ok (.iload_n 1, 1) := dk_27 (dk_at dksX2_stalls_4 8 rfl rfl)
theorem dX2_stalls_102 : decode cX2_stalls 102 = .ok (.iload_n 2, 1) := dk_28 (dk_at dksX2_stalls_4 9 rfl rfl)
theorem dX2_stalls_103 : decode cX2_stalls 103 = .ok (.iastore, 1) := dk_79 (dk_at dksX2_stalls_4 10 rfl rfl)
theorem dX2_stalls_104 : decode cX2_stalls 104 = .ok (.aload_n 0, 1) := dk_42 (dk_at dksX2_stalls_4 11 rfl rfl)
theorem dX2_stalls_105 : decode cX2_stalls 105 = .ok (.iconst 1, 1) := dk_4 (dk_at dksX2_stalls_4 12 rfl rfl)
theorem dX2_stalls_106 : decode cX2_stalls 106 = .ok (.iload_n 1, 1) := dk_27 (dk_at dksX2_stalls_4 13 rfl rfl)
theorem dX2_stalls_107 : decode cX2_stalls 107 = .ok (.iload_n 2, 1) := dk_28 (dk_at dksX2_stalls_4 14 rfl rfl)
theorem dX2_stalls_108 : decode cX2_stalls 108 = .ok (.invokevirtual 512, 3) := dk_182 2 0 (dk_at dksX2_stalls_4 15 rfl rfl)
theorem dX2_stalls_111 : decode cX2_stalls 111 = .ok (.aload_n 0, 1) := dk_42 (dk_at dksX2_stalls_4 18 rfl rfl)
theorem dX2_stalls_112 : decode cX2_stalls 112 = .ok (.iload_n 1, 1) := dk_27 (dk_at dksX2_stalls_4 19 rfl rfl)
theorem dX2_stalls_113 : decode cX2_stalls 113 = .ok (.aload_n 0, 1) := dk_42 (dk_at dksX2_stalls_4 20 rfl rfl)
theorem dX2_stalls_114 : decode cX2_stalls 114 = .ok (.getfield 181, 3) := dk_180 0 181 (dk_at dksX2_stalls_4 21 rfl rfl)
theorem dX2_stalls_117 : decode cX2_stalls 117 = .ok (.iload_n 3, 1) := dk_29 (dk_at dksX2_stalls_5 0 rfl rfl)
theorem dX2_stalls_118 : decode cX2_stalls 118 = .ok (.iaload, 1) := dk_46 (dk_at dksX2_stalls_5 1 rfl rfl)
theorem dX2_stalls_119 : decode cX2_stalls 119 = .ok (.invokevirtual 515, 3) := dk_182 2 3 (dk_at dksX2_stalls_5 2 rfl rfl)
theorem dX2_stalls_122 : decode cX2_stalls 122 = .ok (.return_, 1) := dk_177 (dk_at dksX2_stalls_5 5 rfl rfl)
def dkwX2_goTo_4 : List UInt8 := [46, 16, 54, 160, 0, 8, 42, 27, 182, 1, 253, 177]
abbrev dktX2_goTo_4 : List UInt8 := dkwX2_goTo_4 ++ []
def dkwX2_goTo_3 : List UInt8 := [54, 4, 167, 255, 190, 42, 180, 0, 239, 27, 29, 79, 42, 180, 0, 248, 27, 3, 79, 42, 180, 0, 172, 29]
abbrev dktX2_goTo_3 : List UInt8 := dkwX2_goTo_3 ++ dktX2_goTo_4
def dkwX2_goTo_2 : List UInt8 := [16, 11, 27, 104, 42, 180, 0, 184, 29, 46, 96, 46, 5, 162, 0, 9, 132, 3, 1, 167, 255, 196, 3]
abbrev dktX2_goTo_2 : List UInt8 := dkwX2_goTo_2 ++ dktX2_goTo_3
def dkwX2_goTo_1 : List UInt8 := [180, 0, 181, 29, 46, 62, 167, 255, 233, 42, 180, 0, 172, 29, 46, 16, 52, 160, 0, 29, 42, 180, 0, 254]
abbrev dktX2_goTo_1 : List UInt8 := dkwX2_goTo_1 ++ dktX2_goTo_2
def dkwX2_goTo_0 : List UInt8 := [28, 62, 4, 54, 4, 21, 4, 153, 0, 67, 42, 180, 0, 172, 29, 46, 16, 51, 160, 0, 13, 42]
abbrev dktX2_goTo_0 : List UInt8 := dkwX2_goTo_0 ++ dktX2_goTo_1
theorem dksX2_goTo_0 : cX2_goTo.data.toList.drop 0 = dktX2_goTo_0 := by decide +kernel
theorem dksX2_goTo_1 : cX2_goTo.data.toList.drop 22 = dktX2_goTo_1 := dk_seg dksX2_goTo_0 22 rfl rfl
theorem dksX2_goTo_2 : cX2_goTo.data.toList.drop 46 = dktX2_goTo_2 := dk_seg dksX2_goTo_1 24 rfl rfl
theorem dksX2_goTo_3 : cX2_goTo.data.toList.drop 69 = dktX2_goTo_3 := dk_seg dksX2_goTo_2 23 rfl rfl
theorem dksX2_goTo_4 : cX2_goTo.data.toList.drop 93 = dktX2_goTo_4 := dk_seg dksX2_goTo_3 24 rfl rfl
theorem dX2_goTo_0 : decode cX2_goTo 0 = .ok (.iload_n 2, 1) := dk_28 (dk_at dksX2_goTo_0 0 rfl rfl)
theorem dX2_goTo_1 : decode cX2_goTo 1 = .ok (.istore_n 3, 1) := dk_62 (dk_at dksX2_goTo_0 1 rfl rfl)
theorem dX2_goTo_2 : decode cX2_goTo 2 = .ok (.iconst 1, 1) := dk_4 (dk_at dksX2_goTo_0 2 rfl rfl)
theorem dX2_goTo_3 : decode cX2_goTo 3 = .ok (.istore 4, 2) := dk_54 4 (dk_at dksX2_goTo_0 3 rfl rfl)
theorem dX2_goTo_5 : decode cX2_goTo 5 = .ok (.iload 4, 2) := dk_21 4 (dk_at dksX2_goTo_0 5 rfl rfl)
theorem dX2_goTo_7 : decode cX2_goTo 7 = .ok (.ifCond .eq 67, 3) := dk_153 0 67 (dk_at dksX2_goTo_0 7 rfl rfl)
theorem dX2_goTo_10 : decode cX2_goTo 10 = .ok (.aload_n 0, 1) := dk_42 (dk_at dksX2_goTo_0 10 rfl rfl)
theorem dX2_goTo_11 : decode cX2_goTo 11 = .ok (.getfield 172, 3) := dk_180 0 172 (dk_at dksX2_goTo_0 11 rfl rfl)
theorem dX2_goTo_14 : decode cX2_goTo 14 = .ok (.iload_n 3, 1) := dk_29 (dk_at dksX2_goTo_0 14 rfl rfl)
theorem dX2_goTo_15 : decode cX2_goTo 15 = .ok (.iaload, 1) := dk_46 (dk_at dksX2_goTo_0 15 rfl rfl)
theorem dX2_goTo_16 : decode cX2_goTo 16 = .ok (.bipush 51, 2) := dk_16 51 (dk_at dksX2_goTo_0 16 rfl rfl)
theorem dX2_goTo_18 : decode cX2_goTo 18 = .ok (.if_icmp .ne 13, 3) := dk_160 0 13 (dk_at dksX2_goTo_0 18 rfl rfl)
theorem dX2_goTo_21 : decode cX2_goTo 21 = .ok (.aload_n 0, 1) := dk_42 (dk_at dksX2_goTo_0 21 rfl rfl)
theorem dX2_goTo_22 : decode cX2_goTo 22 = .ok (.getfield 181, 3) := dk_180 0 181 (dk_at dksX2_goTo_1 0 rfl rfl)
theorem dX2_goTo_25 : decode cX2_goTo 25 = .ok (.iload_n 3, 1) := dk_29 (dk_at dksX2_goTo_1 3 rfl rfl)
theorem dX2_goTo_26 : decode cX2_goTo 26 = .ok (.iaload, 1) := dk_46 (dk_at dksX2_goTo_1 4 rfl rfl)
theorem dX2_goTo_27 : decode cX2_goTo 27 = .ok (.istore_n 3, 1) := dk_62 (dk_at dksX2_goTo_1 5 rfl rfl)
theorem dX2_goTo_28 : decode cX2_goTo 28 = .ok (.goto (-23), 3) := dk_167 255 233 (dk_at dksX2_goTo_1 6 rfl rfl)
theorem dX2_goTo_31 : decode cX2_goTo 31 = .ok (.aload_n 0, 1) := dk_42 (dk_at dksX2_goTo_1 9 rfl rfl)
theorem dX2_goTo_32 : decode cX2_goTo 32 = .ok (.getfield 172, 3) := dk_180 0 172 (dk_at dksX2_goTo_1 10 rfl rfl)
theorem dX2_goTo_35 : decode cX2_goTo 35 = .ok (.iload_n 3, 1) := dk_29 (dk_at dksX2_goTo_1 13 rfl rfl)
theorem dX2_goTo_36 : decode cX2_goTo 36 = .ok (.iaload, 1) := dk_46 (dk_at dksX2_goTo_1 14 rfl rfl)
theorem dX2_goTo_37 : decode cX2_goTo 37 = .ok (.bipush 52, 2) := dk_16 52 (dk_at dksX2_goTo_1 15 rfl rfl)
theorem dX2_goTo_39 : decode cX2_goTo 39 = .ok (.if_icmp .ne 29, 3) := dk_160 0 29 (dk_at dksX2_goTo_1 17 rfl rfl)
theorem dX2_goTo_42 : decode cX2_goTo 42 = .ok (.aload_n 0, 1) := dk_42 (dk_at dksX2_goTo_1 20 rfl rfl)
theorem dX2_goTo_43 : decode cX2_goTo 43 = .ok (.getfield 254, 3) := dk_180 0 254 (dk_at dksX2_goTo_1 21 rfl rfl)
theorem dX2_goTo_46 : decode cX2_goTo 46 = .ok (.bipush 11, 2) := dk_16 11 (dk_at dksX2_goTo_2 0 rfl rfl)
theorem dX2_goTo_48 : decode cX2_goTo 48 = .ok (.iload_n 1, 1) := dk_27 (dk_at dksX2_goTo_2 2 rfl rfl)
theorem dX2_goTo_49 : decode cX2_goTo 49 = .ok (.imul, 1) := dk_104 (dk_at dksX2_goTo_2 3 rfl rfl)
theorem dX2_goTo_50 : decode cX2_goTo 50 = .ok (.aload_n 0, 1) := dk_42 (dk_at dksX2_goTo_2 4 rfl rfl)
theorem dX2_goTo_51 : decode cX2_goTo 51 = .ok (.getfield 184, 3) := dk_180 0 184 (dk_at dksX2_goTo_2 5 rfl rfl)
theorem dX2_goTo_54 : decode cX2_goTo 54 = .ok (.iload_n 3, 1) := dk_29 (dk_at dksX2_goTo_2 8 rfl rfl)
theorem dX2_goTo_55 : decode cX2_goTo 55 = .ok (.iaload, 1) := dk_46 (dk_at dksX2_goTo_2 9 rfl rfl)
theorem dX2_goTo_56 : decode cX2_goTo 56 = .ok (.iadd, 1) := dk_96 (dk_at dksX2_goTo_2 10 rfl rfl)
theorem dX2_goTo_57 : decode cX2_goTo 57 = .ok (.iaload, 1) := dk_46 (dk_at dksX2_goTo_2 11 rfl rfl)
theorem dX2_goTo_58 : decode cX2_goTo 58 = .ok (.iconst 2, 1) := dk_5 (dk_at dksX2_goTo_2 12 rfl rfl)
theorem dX2_goTo_59 : decode cX2_goTo 59 = .ok (.if_icmp .ge 9, 3) := dk_162 0 9 (dk_at dksX2_goTo_2 13 rfl rfl)
theorem dX2_goTo_62 : decode cX2_goTo 62 = .ok (.iinc 3 1, 3) := dk_132 3 1 (dk_at dksX2_goTo_2 16 rfl rfl)
theorem dX2_goTo_65 : decode cX2_goTo 65 = .ok (.goto (-60), 3) := dk_167 255 196 (dk_at dksX2_goTo_2 19 rfl rfl)
theorem dX2_goTo_68 : decode cX2_goTo 68 = .ok (.iconst 0, 1) := dk_3 (dk_at dksX2_goTo_2 22 rfl rfl)
theorem dX2_goTo_69 : decode cX2_goTo 69 = .ok (.istore 4, 2) := dk_54 4 (dk_at dksX2_goTo_3 0 rfl rfl)
theorem dX2_goTo_71 : decode cX2_goTo 71 = .ok (.goto (-66), 3) := dk_167 255 190 (dk_at dksX2_goTo_3 2 rfl rfl)
theorem dX2_goTo_74 : decode cX2_goTo 74 = .ok (.aload_n 0, 1) := dk_42 (dk_at dksX2_goTo_3 5 rfl rfl)
theorem dX2_goTo_75 : decode cX2_goTo 75 = .ok (.getfield 239, 3) := dk_180 0 239 (dk_at dksX2_goTo_3 6 rfl rfl)
theorem dX2_goTo_78 : decode cX2_goTo 78 = .ok (.iload_n 1, 1) := dk_27 (dk_at dksX2_goTo_3 9 rfl rfl)
theorem dX2_goTo_79 : decode cX2_goTo 79 = .ok (.iload_n 3, 1) := dk_29 (dk_at dksX2_goTo_3 10 rfl rfl)
theorem dX2_goTo_80 : decode cX2_goTo 80 = .ok (.iastore, 1) := dk_79 (dk_at dksX2_goTo_3 11 rfl rfl)
theorem dX2_goTo_81 : decode cX2_goTo 81 = .ok (.aload_n 0, 1) := dk_42 (dk_at dksX2_goTo_3 12 rfl rfl)
theorem dX2_goTo_82 : decode cX2_goTo 82 = .ok (.getfield 248, 3) := dk_180 0 248 (dk_at dksX2_goTo_3 13 rfl rfl)
theorem dX2_goTo_85 : decode cX2_goTo 85 = .ok (.iload_n 1, 1) := dk_27 (dk_at dksX2_goTo_3 16 rfl rfl)
theorem dX2_goTo_86 : decode cX2_goTo 86 = .ok (.iconst 0, 1) := dk_3 (dk_at dksX2_goTo_3 17 rfl rfl)
theorem dX2_goTo_87 : decode cX2_goTo 87 = .ok (.iastore, 1) := dk_79 (dk_at dksX2_goTo_3 18 rfl rfl)
theorem dX2_goTo_88 : decode cX2_goTo 88 = .ok (.aload_n 0, 1) := dk_42 (dk_at dksX2_goTo_3 19 rfl rfl)
theorem dX2_goTo_89 : decode cX2_goTo 89 = .ok (.getfield 172, 3) := dk_180 0 172 (dk_at dksX2_goTo_3 20 rfl rfl)
theorem dX2_goTo_92 : decode cX2_goTo 92 = .ok (.iload_n 3, 1) := dk_29 (dk_at dksX2_goTo_3 23 rfl rfl)
theorem dX2_goTo_93 : decode cX2_goTo 93 = .ok (.iaload, 1) := dk_46 (dk_at dksX2_goTo_4 0 rfl rfl)
theorem dX2_goTo_94 : decode cX2_goTo 94 = .ok (.bipush 54, 2) := dk_16 54 (dk_at dksX2_goTo_4 1 rfl rfl)
theorem dX2_goTo_96 : decode cX2_goTo 96 = .ok (.if_icmp .ne 8, 3) := dk_160 0 8 (dk_at dksX2_goTo_4 3 rfl rfl)
theorem dX2_goTo_99 : decode cX2_goTo 99 = .ok (.aload_n 0, 1) := dk_42 (dk_at dksX2_goTo_4 6 rfl rfl)
theorem dX2_goTo_100 : decode cX2_goTo 100 = .ok (.iload_n 1, 1) := dk_27 (dk_at dksX2_goTo_4 7 rfl rfl)
theorem dX2_goTo_101 : decode cX2_goTo 101 = .ok (.invokevirtual 509, 3) := dk_182 1 253 (dk_at dksX2_goTo_4 8 rfl rfl)
theorem dX2_goTo_104 : decode cX2_goTo 104 = .ok (.return_, 1) := dk_177 (dk_at dksX2_goTo_4 11 rfl rfl)
def dkwX2_isCalm_8 : List UInt8 := [167, 0, 4, 3, 172]
abbrev dktX2_isCalm_8 : List UInt8 := dkwX2_isCalm_8 ++ []
def dkwX2_isCalm_7 : List UInt8 := [161, 0, 7, 4, 167, 0, 4, 3, 172, 28, 153, 0, 16, 29, 153, 0, 12, 21, 4, 153, 0, 7, 4]
abbrev dktX2_isCalm_7 : List UInt8 := dkwX2_isCalm_7 ++ dktX2_isCalm_8
def dkwX2_isCalm_6 : List UInt8 := [3, 172, 28, 153, 0, 27, 29, 153, 0, 23, 21, 4, 153, 0, 18, 42, 180, 0, 228, 27, 46, 16, 20]
abbrev dktX2_isCalm_6 : List UInt8 := dkwX2_isCalm_6 ++ dktX2_isCalm_7
def dkwX2_isCalm_5 : List UInt8 := [4, 172, 29, 172, 42, 180, 0, 228, 27, 46, 16, 50, 161, 0, 12, 21, 4, 153, 0, 7, 4, 167, 0, 4]
abbrev dktX2_isCalm_5 : List UInt8 := dkwX2_isCalm_5 ++ dktX2_isCalm_6
def dkwX2_isCalm_4 : List UInt8 := [170, 0, 0, 0, 0, 90, 0, 0, 0, 3, 0, 0, 0, 7, 0, 0, 0, 34, 0, 0, 0, 90, 0, 0, 0, 36, 0, 0, 0, 38, 0, 0, 0, 60]
abbrev dktX2_isCalm_4 : List UInt8 := dkwX2_isCalm_4 ++ dktX2_isCalm_5
def dkwX2_isCalm_3 : List UInt8 := [167, 0, 4, 3, 54, 4, 42, 180, 0, 143, 27, 46]
abbrev dktX2_isCalm_3 : List UInt8 := dkwX2_isCalm_3 ++ dktX2_isCalm_4
def dkwX2_isCalm_2 : List UInt8 := [42, 27, 16, 16, 182, 1, 235, 153, 0, 14, 42, 180, 0, 230, 27, 46, 16, 50, 163, 0, 7, 4]
abbrev dktX2_isCalm_2 : List UInt8 := dkwX2_isCalm_2 ++ dktX2_isCalm_3
def dkwX2_isCalm_1 : List UInt8 := [42, 27, 5, 182, 1, 235, 153, 0, 12, 42, 180, 0, 219, 27, 46, 154, 0, 7, 4, 167, 0, 4, 3, 62]
abbrev dktX2_isCalm_1 : List UInt8 := dkwX2_isCalm_1 ++ dktX2_isCalm_2
def dkwX2_isCalm_0 : List UInt8 := [42, 27, 4, 182, 1, 235, 153, 0, 12, 42, 180, 0, 214, 27, 46, 154, 0, 7, 4, 167, 0, 4, 3, 61]
abbrev dktX2_isCalm_0 : List UInt8 := dkwX2_isCalm_0 ++ dktX2_isCalm_1
theorem dksX2_isCalm_0 : cX2_isCalm.data.toList.drop 0 = dktX2_isCalm_0 := by decide +kernel
theorem dksX2_isCalm_1 : cX2_isCalm.data.toList.drop 24 = dktX2_isCalm_1 := dk_seg dksX2_isCalm_0 24 rfl rfl
theorem dksX2_isCalm_2 : cX2_isCalm.data.toList.drop 48 = dktX2_isCalm_2 := dk_seg dksX2_isCalm_1 24 rfl rfl
theorem dksX2_isCalm_3 : cX2_isCalm.data.toList.drop 70 = dktX2_isCalm_3 := dk_seg dksX2_isCalm_2 22 rfl rfl
theorem dksX2_isCalm_4 : cX2_isCalm.data.toList.drop 82 = dktX2_isCalm_4 := dk_seg dksX2_isCalm_3 12 rfl rfl
theorem dksX2_isCalm_5 : cX2_isCalm.data.toList.drop 116 = dktX2_isCalm_5 := dk_seg dksX2_isCalm_4 34 rfl rfl
theorem dksX2_isCalm_6 : cX2_isCalm.data.toList.drop 140 = dktX2_isCalm_6 := dk_seg dksX2_isCalm_5 24 rfl rfl
theorem dksX2_isCalm_7 : cX2_isCalm.data.toList.drop 163 = dktX2_isCalm_7 := dk_seg dksX2_isCalm_6 23 rfl rfl
theorem dksX2_isCalm_8 : cX2_isCalm.data.toList.drop 186 = dktX2_isCalm_8 := dk_seg dksX2_isCalm_7 23 rfl rfl
theorem dX2_isCalm_0 : decode cX2_isCalm 0 = .ok (.aload_n 0, 1) := dk_42 (dk_at dksX2_isCalm_0 0 rfl rfl)
theorem dX2_isCalm_1 : decode cX2_isCalm 1 = .ok (.iload_n 1, 1) := dk_27 (dk_at dksX2_isCalm_0 1 rfl rfl)
theorem dX2_isCalm_2 : decode cX2_isCalm 2 = .ok (.iconst 1, 1) := dk_4 (dk_at dksX2_isCalm_0 2 rfl rfl)
theorem dX2_isCalm_3 : decode cX2_isCalm 3 = .ok (.invokevirtual 491, 3) := dk_182 1 235 (dk_at dksX2_isCalm_0 3 rfl rfl)
theorem dX2_isCalm_6 : decode cX2_isCalm 6 = .ok (.ifCond .eq 12, 3) := dk_153 0 12 (dk_at dksX2_isCalm_0 6 rfl rfl)
theorem dX2_isCalm_9 : decode cX2_isCalm 9 = .ok (.aload_n 0, 1) := dk_42 (dk_at dksX2_isCalm_0 9 rfl rfl)
theorem dX2_isCalm_10 : decode cX2_isCalm 10 = .ok (.getfield 214, 3) := dk_180 0 214 (dk_at dksX2_isCalm_0 10 rfl rfl)
theorem dX2_isCalm_13 : decode cX2_isCalm 13 = .ok (.iload_n 1, 1) := dk_27 (dk_at dksX2_isCalm_0 13 rfl rfl)
theorem dX2_isCalm_14 : decode cX2_isCalm 14 = .ok (.iaload, 1) := dk_46 (dk_at dksX2_isCalm_0 14 rfl rfl)
theorem dX2_isCalm_15 : decode cX2_isCalm 15 = .ok (.ifCond .ne 7, 3) := dk_154 0 7 (dk_at dksX2_isCalm_0 15 rfl rfl)
theorem dX2_isCalm_18 : decode cX2_isCalm 18 = .ok (.iconst 1, 1) := dk_4 (dk_at dksX2_isCalm_0 18 rfl rfl)
theorem dX2_isCalm_19 : decode cX2_isCalm 19 = .ok (.goto 4, 3) := dk_167 0 4 (dk_at dksX2_isCalm_0 19 rfl rfl)
theorem dX2_isCalm_22 : decode cX2_isCalm 22 = .ok (.iconst 0, 1) := dk_3 (dk_at dksX2_isCalm_0 22 rfl rfl)
theorem dX2_isCalm_23 : decode cX2_isCalm 23 = .ok (.istore_n 2, 1) := dk_61 (dk_at dksX2_isCalm_0 23 rfl rfl)
theorem dX2_isCalm_24 : decode cX2_isCalm 24 = .ok (.aload_n 0, 1) := dk_42 (dk_at dksX2_isCalm_1 0 rfl rfl)
theorem dX2_isCalm_25 : decode cX2_isCalm 25 = .ok (.iload_n 1, 1) := dk_27 (dk_at dksX2_isCalm_1 1 rfl rfl)
theorem dX2_isCalm_26 : decode cX2_isCalm 26 = .ok (.iconst 2, 1) := dk_5 (dk_at dksX2_isCalm_1 2 rfl rfl)
theorem dX2_isCalm_27 : decode cX2_isCalm 27 = .ok (.invokevirtual 491, 3) := dk_182 1 235 (dk_at dksX2_isCalm_1 3 rfl rfl)
theorem dX2_isCalm_30 : decode cX2_isCalm 30 = .ok (.ifCond .eq 12, 3) := dk_153 0 12 (dk_at dksX2_isCalm_1 6 rfl rfl)
theorem dX2_isCalm_33 : decode cX2_isCalm 33 = .ok (.aload_n 0, 1) := dk_42 (dk_at dksX2_isCalm_1 9 rfl rfl)
theorem dX2_isCalm_34 : decode cX2_isCalm 34 = .ok (.getfield 219, 3) := dk_180 0 219 (dk_at dksX2_isCalm_1 10 rfl rfl)
theorem dX2_isCalm_37 : decode cX2_isCalm 37 = .ok (.iload_n 1, 1) := dk_27 (dk_at dksX2_isCalm_1 13 rfl rfl)
theorem dX2_isCalm_38 : decode cX2_isCalm 38 = .ok (.iaload, 1) := dk_46 (dk_at dksX2_isCalm_1 14 rfl rfl)
theorem dX2_isCalm_39 : decode cX2_isCalm 39 = .ok (.ifCond .ne 7, 3) := dk_154 0 7 (dk_at dksX2_isCalm_1 15 rfl rfl)
theorem dX2_isCalm_42 : decode cX2_isCalm 42 = .ok (.iconst 1, 1) := dk_4 (dk_at dksX2_isCalm_1 18 rfl rfl)
theorem dX2_isCalm_43 : decode cX2_isCalm 43 = .ok (.goto 4, 3) := dk_167 0 4 (dk_at dksX2_isCalm_1 19 rfl rfl)
theorem dX2_isCalm_46 : decode cX2_isCalm 46 = .ok (.iconst 0, 1) := dk_3 (dk_at dksX2_isCalm_1 22 rfl rfl)
theorem dX2_isCalm_47 : decode cX2_isCalm 47 = .ok (.istore_n 3, 1) := dk_62 (dk_at dksX2_isCalm_1 23 rfl rfl)
theorem dX2_isCalm_48 : decode cX2_isCalm 48 = .ok (.aload_n 0, 1) := dk_42 (dk_at dksX2_isCalm_2 0 rfl rfl)
theorem dX2_isCalm_49 : decode cX2_isCalm 49 = .ok (.iload_n 1, 1) := dk_27 (dk_at dksX2_isCalm_2 1 rfl rfl)
theorem dX2_isCalm_50 : decode cX2_isCalm 50 = .ok (.bipush 16, 2) := dk_16 16 (dk_at dksX2_isCalm_2 2 rfl rfl)
theorem dX2_isCalm_52 : decode cX2_isCalm 52 = .ok (.invokevirtual 491, 3) := dk_182 1 235 (dk_at dksX2_isCalm_2 4 rfl rfl)
theorem dX2_isCalm_55 : decode cX2_isCalm 55 = .ok (.ifCond .eq 14, 3) := dk_153 0 14 (dk_at dksX2_isCalm_2 7 rfl rfl)
theorem dX2_isCalm_58 : decode cX2_isCalm 58 = .ok (.aload_n 0, 1) := dk_42 (dk_at dksX2_isCalm_2 10 rfl rfl)
theorem dX2_isCalm_59 : decode cX2_isCalm 59 = .ok (.getfield 230, 3) := dk_180 0 230 (dk_at dksX2_isCalm_2 11 rfl rfl)
theorem dX2_isCalm_62 : decode cX2_isCalm 62 = .ok (.iload_n 1, 1) := dk_27 (dk_at dksX2_isCalm_2 14 rfl rfl)
theorem dX2_isCalm_63 : decode cX2_isCalm 63 = .ok (.iaload, 1) := dk_46 (dk_at dksX2_isCalm_2 15 rfl rfl)
theorem dX2_isCalm_64 : decode cX2_isCalm 64 = .ok (.bipush 50, 2) := dk_16 50 (dk_at dksX2_isCalm_2 16 rfl rfl)
theorem dX2_isCalm_66 : decode cX2_isCalm 66 = .ok (.if_icmp .gt 7, 3) := dk_163 0 7 (dk_at dksX2_isCalm_2 18 rfl rfl)
theorem dX2_isCalm_69 : decode cX2_isCalm 69 = .ok (.iconst 1, 1) := dk_4 (dk_at dksX2_isCalm_2 21 rfl rfl)
theorem dX2_isCalm_70 : decode cX2_isCalm 70 = .ok (.goto 4, 3) := dk_167 0 4 (dk_at dksX2_isCalm_3 0 rfl rfl)
theorem dX2_isCalm_73 : decode cX2_isCalm 73 = .ok (.iconst 0, 1) := dk_3 (dk_at dksX2_isCalm_3 3 rfl rfl)
theorem dX2_isCalm_74 : decode cX2_isCalm 74 = .ok (.istore 4, 2) := dk_54 4 (dk_at dksX2_isCalm_3 4 rfl rfl)
theorem dX2_isCalm_76 : decode cX2_isCalm 76 = .ok (.aload_n 0, 1) := dk_42 (dk_at dksX2_isCalm_3 6 rfl rfl)
theorem dX2_isCalm_77 : decode cX2_isCalm 77 = .ok (.getfield 143, 3) := dk_180 0 143 (dk_at dksX2_isCalm_3 7 rfl rfl)
theorem dX2_isCalm_80 : decode cX2_isCalm 80 = .ok (.iload_n 1, 1) := dk_27 (dk_at dksX2_isCalm_3 10 rfl rfl)
theorem dX2_isCalm_81 : decode cX2_isCalm 81 = .ok (.iaload, 1) := dk_46 (dk_at dksX2_isCalm_3 11 rfl rfl)
theorem dX2_isCalm_82 : decode cX2_isCalm 82 = .ok (.tableswitch 90 3 7 #[34, 90, 36, 38, 60], 34) := by decide +kernel
theorem dX2_isCalm_116 : decode cX2_isCalm 116 = .ok (.iconst 1, 1) := dk_4 (dk_at dksX2_isCalm_5 0 rfl rfl)
theorem dX2_isCalm_117 : decode cX2_isCalm 117 = .ok (.ireturn, 1) := dk_172 (dk_at dksX2_isCalm_5 1 rfl rfl)
theorem dX2_isCalm_118 : decode cX2_isCalm 118 = .ok (.iload_n 3, 1) := dk_29 (dk_at dksX2_isCalm_5 2 rfl rfl)
theorem dX2_isCalm_119 : decode cX2_isCalm 119 = .ok (.ireturn, 1) := dk_172 (dk_at dksX2_isCalm_5 3 rfl rfl)
theorem dX2_isCalm_120 : decode cX2_isCalm 120 = .ok (.aload_n 0, 1) := dk_42 (dk_at dksX2_isCalm_5 4 rfl rfl)
theorem dX2_isCalm_121 : decode cX2_isCalm 121 = .ok (.getfield 228, 3) := dk_180 0 228 (dk_at dksX2_isCalm_5 5 rfl rfl)
theorem dX2_isCalm_124 : decode cX2_isCalm 124 = .ok (.iload_n 1, 1) := dk_27 (dk_at dksX2_isCalm_5 8 rfl rfl)
theorem dX2_isCalm_125 : decode cX2_isCalm 125 = .ok (.iaload, 1) := dk_46 (dk_at dksX2_isCalm_5 9 rfl rfl)
theorem dX2_isCalm_126 : decode cX2_isCalm 126 = .ok (.bipush 50, 2) := dk_16 50 (dk_at dksX2_isCalm_5 10 rfl rfl)
theorem dX2_isCalm_128 : decode cX2_isCalm 128 = .ok (.if_icmp .lt 12, 3) := dk_161 0 12 (dk_at dksX2_isCalm_5 12 rfl rfl)
theorem dX2_isCalm_131 : decode cX2_isCalm 131 = .ok (.iload 4, 2) := dk_21 4 (dk_at dksX2_isCalm_5 15 rfl rfl)
theorem dX2_isCalm_133 : decode cX2_isCalm 133 = .ok (.ifCond .eq 7, 3) := dk_153 0 7 (dk_at dksX2_isCalm_5 17 rfl rfl)
theorem dX2_isCalm_136 : decode cX2_isCalm 136 = .ok (.iconst 1, 1) := dk_4 (dk_at dksX2_isCalm_5 20 rfl rfl)
theorem dX2_isCalm_137 : decode cX2_isCalm 137 = .ok (.goto 4, 3) := dk_167 0 4 (dk_at dksX2_isCalm_5 21 rfl rfl)
theorem dX2_isCalm_140 : decode cX2_isCalm 140 = .ok (.iconst 0, 1) := dk_3 (dk_at dksX2_isCalm_6 0 rfl rfl)
theorem dX2_isCalm_141 : decode cX2_isCalm 141 = .ok (.ireturn, 1) := dk_172 (dk_at dksX2_isCalm_6 1 rfl rfl)
theorem dX2_isCalm_142 : decode cX2_isCalm 142 = .ok (.iload_n 2, 1) := dk_28 (dk_at dksX2_isCalm_6 2 rfl rfl)
theorem dX2_isCalm_143 : decode cX2_isCalm 143 = .ok (.ifCond .eq 27, 3) := dk_153 0 27 (dk_at dksX2_isCalm_6 3 rfl rfl)
theorem dX2_isCalm_146 : decode cX2_isCalm 146 = .ok (.iload_n 3, 1) := dk_29 (dk_at dksX2_isCalm_6 6 rfl rfl)
theorem dX2_isCalm_147 : decode cX2_isCalm 147 = .ok (.ifCond .eq 23, 3) := dk_153 0 23 (dk_at dksX2_isCalm_6 7 rfl rfl)
theorem dX2_isCalm_150 : decode cX2_isCalm 150 = .ok (.iload 4, 2) := dk_21 4 (dk_at dksX2_isCalm_6 10 rfl rfl)
theorem dX2_isCalm_152 : decode cX2_isCalm 152 = .ok (.ifCond .eq 18, 3) := dk_153 0 18 (dk_at dksX2_isCalm_6 12 rfl rfl)
theorem dX2_isCalm_155 : decode cX2_isCalm 155 = .ok (.aload_n 0, 1) := dk_42 (dk_at dksX2_isCalm_6 15 rfl rfl)
theorem dX2_isCalm_156 : decode cX2_isCalm 156 = .ok (.getfield 228, 3) := dk_180 0 228 (dk_at dksX2_isCalm_6 16 rfl rfl)
theorem dX2_isCalm_159 : decode cX2_isCalm 159 = .ok (.iload_n 1, 1) := dk_27 (dk_at dksX2_isCalm_6 19 rfl rfl)
theorem dX2_isCalm_160 : decode cX2_isCalm 160 = .ok (.iaload, 1) := dk_46 (dk_at dksX2_isCalm_6 20 rfl rfl)
theorem dX2_isCalm_161 : decode cX2_isCalm 161 = .ok (.bipush 20, 2) := dk_16 20 (dk_at dksX2_isCalm_6 21 rfl rfl)
theorem dX2_isCalm_163 : decode cX2_isCalm 163 = .ok (.if_icmp .lt 7, 3) := dk_161 0 7 (dk_at dksX2_isCalm_7 0 rfl rfl)
theorem dX2_isCalm_166 : decode cX2_isCalm 166 = .ok (.iconst 1, 1) := dk_4 (dk_at dksX2_isCalm_7 3 rfl rfl)
theorem dX2_isCalm_167 : decode cX2_isCalm 167 = .ok (.goto 4, 3) := dk_167 0 4 (dk_at dksX2_isCalm_7 4 rfl rfl)
theorem dX2_isCalm_170 : decode cX2_isCalm 170 = .ok (.iconst 0, 1) := dk_3 (dk_at dksX2_isCalm_7 7 rfl rfl)
theorem dX2_isCalm_171 : decode cX2_isCalm 171 = .ok (.ireturn, 1) := dk_172 (dk_at dksX2_isCalm_7 8 rfl rfl)
theorem dX2_isCalm_172 : decode cX2_isCalm 172 = .ok (.iload_n 2, 1) := dk_28 (dk_at dksX2_isCalm_7 9 rfl rfl)
theorem dX2_isCalm_173 : decode cX2_isCalm 173 = .ok (.ifCond .eq 16, 3) := dk_153 0 16 (dk_at dksX2_isCalm_7 10 rfl rfl)
theorem dX2_isCalm_176 : decode cX2_isCalm 176 = .ok (.iload_n 3, 1) := dk_29 (dk_at dksX2_isCalm_7 13 rfl rfl)
theorem dX2_isCalm_177 : decode cX2_isCalm 177 = .ok (.ifCond .eq 12, 3) := dk_153 0 12 (dk_at dksX2_isCalm_7 14 rfl rfl)
theorem dX2_isCalm_180 : decode cX2_isCalm 180 = .ok (.iload 4, 2) := dk_21 4 (dk_at dksX2_isCalm_7 17 rfl rfl)
theorem dX2_isCalm_182 : decode cX2_isCalm 182 = .ok (.ifCond .eq 7, 3) := dk_153 0 7 (dk_at dksX2_isCalm_7 19 rfl rfl)
theorem dX2_isCalm_185 : decode cX2_isCalm 185 = .ok (.iconst 1, 1) := dk_4 (dk_at dksX2_isCalm_7 22 rfl rfl)
theorem dX2_isCalm_186 : decode cX2_isCalm 186 = .ok (.goto 4, 3) := dk_167 0 4 (dk_at dksX2_isCalm_8 0 rfl rfl)
theorem dX2_isCalm_189 : decode cX2_isCalm 189 = .ok (.iconst 0, 1) := dk_3 (dk_at dksX2_isCalm_8 3 rfl rfl)
theorem dX2_isCalm_190 : decode cX2_isCalm 190 = .ok (.ireturn, 1) := dk_172 (dk_at dksX2_isCalm_8 4 rfl rfl)
def dkwX2_board_5 : List UInt8 := [29, 46, 154, 0, 8, 42, 27, 182, 2, 32, 167, 255, 152, 177]
abbrev dktX2_board_5 : List UInt8 := dkwX2_board_5 ++ []
def dkwX2_board_4 : List UInt8 := [21, 4, 96, 79, 42, 180, 1, 14, 29, 92, 46, 21, 4, 100, 79, 28, 21, 4, 100, 61, 42, 180, 1, 14]
abbrev dktX2_board_4 : List UInt8 := dkwX2_board_4 ++ dktX2_board_5
def dkwX2_board_3 : List UInt8 := [42, 180, 1, 219, 42, 180, 1, 17, 29, 46, 100, 104, 96, 181, 1, 247, 42, 180, 0, 226, 27, 92, 46]
abbrev dktX2_board_3 : List UInt8 := dkwX2_board_3 ++ dktX2_board_4
def dkwX2_board_2 : List UInt8 := [46, 28, 162, 0, 12, 42, 180, 1, 14, 29, 46, 167, 0, 4, 28, 54, 4, 42, 89, 180, 1, 247, 21, 4]
abbrev dktX2_board_2 : List UInt8 := dkwX2_board_2 ++ dktX2_board_3
def dkwX2_board_1 : List UInt8 := [61, 28, 158, 0, 106, 42, 180, 1, 11, 27, 46, 158, 0, 97, 16, 30, 27, 104, 62, 42, 180, 1, 14, 29]
abbrev dktX2_board_1 : List UInt8 := dkwX2_board_1 ++ dktX2_board_2
def dkwX2_board_0 : List UInt8 := [42, 180, 0, 160, 27, 46, 42, 180, 0, 226, 27, 46, 100, 61, 28, 8, 164, 0, 7, 8, 167, 0, 4, 28]
abbrev dktX2_board_0 : List UInt8 := dkwX2_board_0 ++ dktX2_board_1
theorem dksX2_board_0 : cX2_board.data.toList.drop 0 = dktX2_board_0 := by decide +kernel
theorem dksX2_board_1 : cX2_board.data.toList.drop 24 = dktX2_board_1 := dk_seg dksX2_board_0 24 rfl rfl
theorem dksX2_board_2 : cX2_board.data.toList.drop 48 = dktX2_board_2 := dk_seg dksX2_board_1 24 rfl rfl
theorem dksX2_board_3 : cX2_board.data.toList.drop 72 = dktX2_board_3 := dk_seg dksX2_board_2 24 rfl rfl
theorem dksX2_board_4 : cX2_board.data.toList.drop 95 = dktX2_board_4 := dk_seg dksX2_board_3 23 rfl rfl
theorem dksX2_board_5 : cX2_board.data.toList.drop 119 = dktX2_board_5 := dk_seg dksX2_board_4 24 rfl rfl
theorem dX2_board_0 : decode cX2_board 0 = .ok (.aload_n 0, 1) := dk_42 (dk_at dksX2_board_0 0 rfl rfl)
theorem dX2_board_1 : decode cX2_board 1 = .ok (.getfield 160, 3) := dk_180 0 160 (dk_at dksX2_board_0 1 rfl rfl)
theorem dX2_board_4 : decode cX2_board 4 = .ok (.iload_n 1, 1) := dk_27 (dk_at dksX2_board_0 4 rfl rfl)
theorem dX2_board_5 : decode cX2_board 5 = .ok (.iaload, 1) := dk_46 (dk_at dksX2_board_0 5 rfl rfl)
theorem dX2_board_6 : decode cX2_board 6 = .ok (.aload_n 0, 1) := dk_42 (dk_at dksX2_board_0 6 rfl rfl)
theorem dX2_board_7 : decode cX2_board 7 = .ok (.getfield 226, 3) := dk_180 0 226 (dk_at dksX2_board_0 7 rfl rfl)
theorem dX2_board_10 : decode cX2_board 10 = .ok (.iload_n 1, 1) := dk_27 (dk_at dksX2_board_0 10 rfl rfl)
theorem dX2_board_11 : decode cX2_board 11 = .ok (.iaload, 1) := dk_46 (dk_at dksX2_board_0 11 rfl rfl)
theorem dX2_board_12 : decode cX2_board 12 = .ok (.isub, 1) := dk_100 (dk_at dksX2_board_0 12 rfl rfl)
theorem dX2_board_13 : decode cX2_board 13 = .ok (.istore_n 2, 1) := dk_61 (dk_at dksX2_board_0 13 rfl rfl)
theorem dX2_board_14 : decode cX2_board 14 = .ok (.iload_n 2, 1) := dk_28 (dk_at dksX2_board_0 14 rfl rfl)
theorem dX2_board_15 : decode cX2_board 15 = .ok (.iconst 5, 1) := dk_8 (dk_at dksX2_board_0 15 rfl rfl)
theorem dX2_board_16 : decode cX2_board 16 = .ok (.if_icmp .le 7, 3) := dk_164 0 7 (dk_at dksX2_board_0 16 rfl rfl)
theorem dX2_board_19 : decode cX2_board 19 = .ok (.iconst 5, 1) := dk_8 (dk_at dksX2_board_0 19 rfl rfl)
theorem dX2_board_20 : decode cX2_board 20 = .ok (.goto 4, 3) := dk_167 0 4 (dk_at dksX2_board_0 20 rfl rfl)
theorem dX2_board_23 : decode cX2_board 23 = .ok (.iload_n 2, 1) := dk_28 (dk_at dksX2_board_0 23 rfl rfl)
theorem dX2_board_24 : decode cX2_board 24 = .ok (.istore_n 2, 1) := dk_61 (dk_at dksX2_board_1 0 rfl rfl)
theorem dX2_board_25 : decode cX2_board 25 = .ok (.iload_n 2, 1) := dk_28 (dk_at dksX2_board_1 1 rfl rfl)
theorem dX2_board_26 : decode cX2_board 26 = .ok (.ifCond .le 106, 3) := dk_158 0 106 (dk_at dksX2_board_1 2 rfl rfl)
theorem dX2_board_29 : decode cX2_board 29 = .ok (.aload_n 0, 1) := dk_42 (dk_at dksX2_board_1 5 rfl rfl)
theorem dX2_board_30 : decode cX2_board 30 = .ok (.getfield 267, 3) := dk_180 1 11 (dk_at dksX2_board_1 6 rfl rfl)
theorem dX2_board_33 : decode cX2_board 33 = .ok (.iload_n 1, 1) := dk_27 (dk_at dksX2_board_1 9 rfl rfl)
theorem dX2_board_34 : decode cX2_board 34 = .ok (.iaload, 1) := dk_46 (dk_at dksX2_board_1 10 rfl rfl)
theorem dX2_board_35 : decode cX2_board 35 = .ok (.ifCond .le 97, 3) := dk_158 0 97 (dk_at dksX2_board_1 11 rfl rfl)
theorem dX2_board_38 : decode cX2_board 38 = .ok (.bipush 30, 2) := dk_16 30 (dk_at dksX2_board_1 14 rfl rfl)
theorem dX2_board_40 : decode cX2_board 40 = .ok (.iload_n 1, 1) := dk_27 (dk_at dksX2_board_1 16 rfl rfl)
theorem dX2_board_41 : decode cX2_board 41 = .ok (.imul, 1) := dk_104 (dk_at dksX2_board_1 17 rfl rfl)
theorem dX2_board_42 : decode cX2_board 42 = .ok (.istore_n 3, 1) := dk_62 (dk_at dksX2_board_1 18 rfl rfl)
theorem dX2_board_43 : decode cX2_board 43 = .ok (.aload_n 0, 1) := dk_42 (dk_at dksX2_board_1 19 rfl rfl)
theorem dX2_board_44 : decode cX2_board 44 = .ok (.getfield 270, 3) := dk_180 1 14 (dk_at dksX2_board_1 20 rfl rfl)
theorem dX2_board_47 : decode cX2_board 47 = .ok (.iload_n 3, 1) := dk_29 (dk_at dksX2_board_1 23 rfl rfl)
theorem dX2_board_48 : decode cX2_board 48 = .ok (.iaload, 1) := dk_46 (dk_at dksX2_board_2 0 rfl rfl)
theorem dX2_board_49 : decode cX2_board 49 = .ok (.iload_n 2, 1) := dk_28 (dk_at dksX2_board_2 1 rfl rfl)
theorem dX2_board_50 : decode cX2_board 50 = .ok (.if_icmp .ge 12, 3) := dk_162 0 12 (dk_at dksX2_board_2 2 rfl rfl)
theorem dX2_board_53 : decode cX2_board 53 = .ok (.aload_n 0, 1) := dk_42 (dk_at dksX2_board_2 5 rfl rfl)
theorem dX2_board_54 : decode cX2_board 54 = .ok (.getfield 270, 3) := dk_180 1 14 (dk_at dksX2_board_2 6 rfl rfl)
theorem dX2_board_57 : decode cX2_board 57 = .ok (.iload_n 3, 1) := dk_29 (dk_at dksX2_board_2 9 rfl rfl)
theorem dX2_board_58 : decode cX2_board 58 = .ok (.iaload, 1) := dk_46 (dk_at dksX2_board_2 10 rfl rfl)
theorem dX2_board_59 : decode cX2_board 59 = .ok (.goto 4, 3) := dk_167 0 4 (dk_at dksX2_board_2 11 rfl rfl)
theorem dX2_board_62 : decode cX2_board 62 = .ok (.iload_n 2, 1) := dk_28 (dk_at dksX2_board_2 14 rfl rfl)
theorem dX2_board_63 : decode cX2_board 63 = .ok (.istore 4, 2) := dk_54 4 (dk_at dksX2_board_2 15 rfl rfl)
theorem dX2_board_65 : decode cX2_board 65 = .ok (.aload_n 0, 1) := dk_42 (dk_at dksX2_board_2 17 rfl rfl)
theorem dX2_board_66 : decode cX2_board 66 = .ok (.dup, 1) := dk_89 (dk_at dksX2_board_2 18 rfl rfl)
theorem dX2_board_67 : decode cX2_board 67 = .ok (.getfield 503, 3) := dk_180 1 247 (dk_at dksX2_board_2 19 rfl rfl)
theorem dX2_board_70 : decode cX2_board 70 = .ok (.iload 4, 2) := dk_21 4 (dk_at dksX2_board_2 22 rfl rfl)
theorem dX2_board_72 : decode cX2_board 72 = .ok (.aload_n 0, 1) := dk_42 (dk_at dksX2_board_3 0 rfl rfl)
theorem dX2_board_73 : decode cX2_board 73 = .ok (.getfield 475, 3) := dk_180 1 219 (dk_at dksX2_board_3 1 rfl rfl)
theorem dX2_board_76 : decode cX2_board 76 = .ok (.aload_n 0, 1) := dk_42 (dk_at dksX2_board_3 4 rfl rfl)
theorem dX2_board_77 : decode cX2_board 77 = .ok (.getfield 273, 3) := dk_180 1 17 (dk_at dksX2_board_3 5 rfl rfl)
theorem dX2_board_80 : decode cX2_board 80 = .ok (.iload_n 3, 1) := dk_29 (dk_at dksX2_board_3 8 rfl rfl)
theorem dX2_board_81 : decode cX2_board 81 = .ok (.iaload, 1) := dk_46 (dk_at dksX2_board_3 9 rfl rfl)
theorem dX2_board_82 : decode cX2_board 82 = .ok (.isub, 1) := dk_100 (dk_at dksX2_board_3 10 rfl rfl)
theorem dX2_board_83 : decode cX2_board 83 = .ok (.imul, 1) := dk_104 (dk_at dksX2_board_3 11 rfl rfl)
theorem dX2_board_84 : decode cX2_board 84 = .ok (.iadd, 1) := dk_96 (dk_at dksX2_board_3 12 rfl rfl)
theorem dX2_board_85 : decode cX2_board 85 = .ok (.putfield 503, 3) := dk_181 1 247 (dk_at dksX2_board_3 13 rfl rfl)
theorem dX2_board_88 : decode cX2_board 88 = .ok (.aload_n 0, 1) := dk_42 (dk_at dksX2_board_3 16 rfl rfl)
theorem dX2_board_89 : decode cX2_board 89 = .ok (.getfield 226, 3) := dk_180 0 226 (dk_at dksX2_board_3 17 rfl rfl)
theorem dX2_board_92 : decode cX2_board 92 = .ok (.iload_n 1, 1) := dk_27 (dk_at dksX2_board_3 20 rfl rfl)
theorem dX2_board_93 : decode cX2_board 93 = .ok (.dup2, 1) := dk_92 (dk_at dksX2_board_3 21 rfl rfl)
theorem dX2_board_94 : decode cX2_board 94 = .ok (.iaload, 1) := dk_46 (dk_at dksX2_board_3 22 rfl rfl)
theorem dX2_board_95 : decode cX2_board 95 = .ok (.iload 4, 2) := dk_21 4 (dk_at dksX2_board_4 0 rfl rfl)
theorem dX2_board_97 : decode cX2_board 97 = .ok (.iadd, 1) := dk_96 (dk_at dksX2_board_4 2 rfl rfl)
theorem dX2_board_98 : decode cX2_board 98 = .ok (.iastore, 1) := dk_79 (dk_at dksX2_board_4 3 rfl rfl)
theorem dX2_board_99 : decode cX2_board 99 = .ok (.aload_n 0, 1) := dk_42 (dk_at dksX2_board_4 4 rfl rfl)
theorem dX2_board_100 : decode cX2_board 100 = .ok (.getfield 270, 3) := dk_180 1 14 (dk_at dksX2_board_4 5 rfl rfl)
theorem dX2_board_103 : decode cX2_board 103 = .ok (.iload_n 3, 1) := dk_29 (dk_at dksX2_board_4 8 rfl rfl)
theorem dX2_board_104 : decode cX2_board 104 = .ok (.dup2, 1) := dk_92 (dk_at dksX2_board_4 9 rfl rfl)
theorem dX2_board_105 : decode cX2_board 105 = .ok (.iaload, 1) := dk_46 (dk_at dksX2_board_4 10 rfl rfl)
theorem dX2_board_106 : decode cX2_board 106 = .ok (.iload 4, 2) := dk_21 4 (dk_at dksX2_board_4 11 rfl rfl)
theorem dX2_board_108 : decode cX2_board 108 = .ok (.isub, 1) := dk_100 (dk_at dksX2_board_4 13 rfl rfl)
theorem dX2_board_109 : decode cX2_board 109 = .ok (.iastore, 1) := dk_79 (dk_at dksX2_board_4 14 rfl rfl)
theorem dX2_board_110 : decode cX2_board 110 = .ok (.iload_n 2, 1) := dk_28 (dk_at dksX2_board_4 15 rfl rfl)
theorem dX2_board_111 : decode cX2_board 111 = .ok (.iload 4, 2) := dk_21 4 (dk_at dksX2_board_4 16 rfl rfl)
theorem dX2_board_113 : decode cX2_board 113 = .ok (.isub, 1) := dk_100 (dk_at dksX2_board_4 18 rfl rfl)
theorem dX2_board_114 : decode cX2_board 114 = .ok (.istore_n 2, 1) := dk_61 (dk_at dksX2_board_4 19 rfl rfl)
theorem dX2_board_115 : decode cX2_board 115 = .ok (.aload_n 0, 1) := dk_42 (dk_at dksX2_board_4 20 rfl rfl)
theorem dX2_board_116 : decode cX2_board 116 = .ok (.getfield 270, 3) := dk_180 1 14 (dk_at dksX2_board_4 21 rfl rfl)
theorem dX2_board_119 : decode cX2_board 119 = .ok (.iload_n 3, 1) := dk_29 (dk_at dksX2_board_5 0 rfl rfl)
theorem dX2_board_120 : decode cX2_board 120 = .ok (.iaload, 1) := dk_46 (dk_at dksX2_board_5 1 rfl rfl)
theorem dX2_board_121 : decode cX2_board 121 = .ok (.ifCond .ne 8, 3) := dk_154 0 8 (dk_at dksX2_board_5 2 rfl rfl)
theorem dX2_board_124 : decode cX2_board 124 = .ok (.aload_n 0, 1) := dk_42 (dk_at dksX2_board_5 5 rfl rfl)
theorem dX2_board_125 : decode cX2_board 125 = .ok (.iload_n 1, 1) := dk_27 (dk_at dksX2_board_5 6 rfl rfl)
theorem dX2_board_126 : decode cX2_board 126 = .ok (.invokevirtual 544, 3) := dk_182 2 32 (dk_at dksX2_board_5 7 rfl rfl)
theorem dX2_board_129 : decode cX2_board 129 = .ok (.goto (-104), 3) := dk_167 255 152 (dk_at dksX2_board_5 10 rfl rfl)
theorem dX2_board_132 : decode cX2_board 132 = .ok (.return_, 1) := dk_177 (dk_at dksX2_board_5 13 rfl rfl)
def dkwX2_shares_9 : List UInt8 := [84, 42, 27, 28, 4, 96, 182, 2, 3, 4, 172]
abbrev dktX2_shares_9 : List UInt8 := dkwX2_shares_9 ++ []
def dkwX2_shares_8 : List UInt8 := [167, 0, 25, 42, 180, 1, 7, 29, 42, 180, 0, 172, 28, 46, 16, 15, 160, 0, 7, 4, 167, 0, 4, 3]
abbrev dktX2_shares_8 : List UInt8 := dkwX2_shares_8 ++ dktX2_shares_9
def dkwX2_shares_7 : List UInt8 := [180, 1, 4, 29, 92, 46, 4, 96, 79, 42, 180, 1, 1, 16, 6, 27, 104, 29, 96, 92, 46, 4, 100, 79]
abbrev dktX2_shares_7 : List UInt8 := dkwX2_shares_7 ++ dktX2_shares_8
def dkwX2_shares_6 : List UInt8 := [180, 1, 1, 16, 6, 27, 104, 29, 96, 46, 154, 0, 11, 42, 27, 6, 182, 2, 18, 4, 172, 42]
abbrev dktX2_shares_6 : List UInt8 := dkwX2_shares_6 ++ dktX2_shares_7
def dkwX2_shares_5 : List UInt8 := [4, 100, 79, 42, 180, 1, 1, 16, 6, 27, 104, 29, 96, 92, 46, 4, 96, 79, 167, 0, 75, 42]
abbrev dktX2_shares_5 : List UInt8 := dkwX2_shares_5 ++ dktX2_shares_6
def dkwX2_shares_4 : List UInt8 := [6, 182, 2, 18, 4, 172, 42, 180, 1, 4, 29, 46, 154, 0, 5, 3, 172, 42, 180, 1, 4, 29, 92, 46]
abbrev dktX2_shares_4 : List UInt8 := dkwX2_shares_4 ++ dktX2_shares_5
def dkwX2_shares_3 : List UInt8 := [21, 4, 154, 0, 139, 3, 172, 42, 180, 1, 1, 16, 6, 27, 104, 29, 96, 46, 5, 160, 0, 11, 42, 27]
abbrev dktX2_shares_3 : List UInt8 := dkwX2_shares_3 ++ dktX2_shares_4
def dkwX2_shares_2 : List UInt8 := [42, 29, 27, 182, 2, 15, 54, 4, 42, 180, 1, 213, 153, 0, 12, 42, 27, 16, 6, 182, 2, 18, 4, 172]
abbrev dktX2_shares_2 : List UInt8 := dkwX2_shares_2 ++ dktX2_shares_3
def dkwX2_shares_1 : List UInt8 := [170, 0, 0, 0, 0, 0, 170, 0, 0, 0, 12, 0, 0, 0, 14, 0, 0, 0, 27, 0, 0, 0, 58, 0, 0, 0, 120]
abbrev dktX2_shares_1 : List UInt8 := dkwX2_shares_1 ++ dktX2_shares_2
def dkwX2_shares_0 : List UInt8 := [42, 180, 0, 178, 28, 46, 62, 42, 180, 0, 172, 28, 46]
abbrev dktX2_shares_0 : List UInt8 := dkwX2_shares_0 ++ dktX2_shares_1
theorem dksX2_shares_0 : cX2_shares.data.toList.drop 0 = dktX2_shares_0 := by decide +kernel
theorem dksX2_shares_1 : cX2_shares.data.toList.drop 13 = dktX2_shares_1 := dk_seg dksX2_shares_0 13 rfl rfl
theorem dksX2_shares_2 : cX2_shares.data.toList.drop 40 = dktX2_shares_2 := dk_seg dksX2_shares_1 27 rfl rfl
theorem dksX2_shares_3 : cX2_shares.data.toList.drop 64 = dktX2_shares_3 := dk_seg dksX2_shares_2 24 rfl rfl
theorem dksX2_shares_4 : cX2_shares.data.toList.drop 88 = dktX2_shares_4 := dk_seg dksX2_shares_3 24 rfl rfl
theorem dksX2_shares_5 : cX2_shares.data.toList.drop 112 = dktX2_shares_5 := dk_seg dksX2_shares_4 24 rfl rfl
theorem dksX2_shares_6 : cX2_shares.data.toList.drop 134 = dktX2_shares_6 := dk_seg dksX2_shares_5 22 rfl rfl
theorem dksX2_shares_7 : cX2_shares.data.toList.drop 156 = dktX2_shares_7 := dk_seg dksX2_shares_6 22 rfl rfl
theorem dksX2_shares_8 : cX2_shares.data.toList.drop 180 = dktX2_shares_8 := dk_seg dksX2_shares_7 24 rfl rfl
theorem dksX2_shares_9 : cX2_shares.data.toList.drop 204 = dktX2_shares_9 := dk_seg dksX2_shares_8 24 rfl rfl
theorem dX2_shares_0 : decode cX2_shares 0 = .ok (.aload_n 0, 1) := dk_42 (dk_at dksX2_shares_0 0 rfl rfl)
theorem dX2_shares_1 : decode cX2_shares 1 = .ok (.getfield 178, 3) := dk_180 0 178 (dk_at dksX2_shares_0 1 rfl rfl)
theorem dX2_shares_4 : decode cX2_shares 4 = .ok (.iload_n 2, 1) := dk_28 (dk_at dksX2_shares_0 4 rfl rfl)
theorem dX2_shares_5 : decode cX2_shares 5 = .ok (.iaload, 1) := dk_46 (dk_at dksX2_shares_0 5 rfl rfl)
theorem dX2_shares_6 : decode cX2_shares 6 = .ok (.istore_n 3, 1) := dk_62 (dk_at dksX2_shares_0 6 rfl rfl)
theorem dX2_shares_7 : decode cX2_shares 7 = .ok (.aload_n 0, 1) := dk_42 (dk_at dksX2_shares_0 7 rfl rfl)
theorem dX2_shares_8 : decode cX2_shares 8 = .ok (.getfield 172, 3) := dk_180 0 172 (dk_at dksX2_shares_0 8 rfl rfl)
theorem dX2_shares_11 : decode cX2_shares 11 = .ok (.iload_n 2, 1) := dk_28 (dk_at dksX2_shares_0 11 rfl rfl)
theorem dX2_shares_12 : decode cX2_shares 12 = .ok (.iaload, 1) := dk_46 (dk_at dksX2_shares_0 12 rfl rfl)
theorem dX2_shares_13 : decode cX2_shares 13 = .ok (.tableswitch 170 12 14 #[27, 58, 120], 27) := by decide +kernel
theorem dX2_shares_40 : decode cX2_shares 40 = .ok (.aload_n 0, 1) := dk_42 (dk_at dksX2_shares_2 0 rfl rfl)
theorem dX2_shares_41 : decode cX2_shares 41 = .ok (.iload_n 3, 1) := dk_29 (dk_at dksX2_shares_2 1 rfl rfl)
theorem dX2_shares_42 : decode cX2_shares 42 = .ok (.iload_n 1, 1) := dk_27 (dk_at dksX2_shares_2 2 rfl rfl)
theorem dX2_shares_43 : decode cX2_shares 43 = .ok (.invokevirtual 527, 3) := dk_182 2 15 (dk_at dksX2_shares_2 3 rfl rfl)
theorem dX2_shares_46 : decode cX2_shares 46 = .ok (.istore 4, 2) := dk_54 4 (dk_at dksX2_shares_2 6 rfl rfl)
theorem dX2_shares_48 : decode cX2_shares 48 = .ok (.aload_n 0, 1) := dk_42 (dk_at dksX2_shares_2 8 rfl rfl)
theorem dX2_shares_49 : decode cX2_shares 49 = .ok (.getfield 469, 3) := dk_180 1 213 (dk_at dksX2_shares_2 9 rfl rfl)
theorem dX2_shares_52 : decode cX2_shares 52 = .ok (.ifCond .eq 12, 3) := dk_153 0 12 (dk_at dksX2_shares_2 12 rfl rfl)
theorem dX2_shares_55 : decode cX2_shares 55 = .ok (.aload_n 0, 1) := dk_42 (dk_at dksX2_shares_2 15 rfl rfl)
theorem dX2_shares_56 : decode cX2_shares 56 = .ok (.iload_n 1, 1) := dk_27 (dk_at dksX2_shares_2 16 rfl rfl)
theorem dX2_shares_57 : decode cX2_shares 57 = .ok (.bipush 6, 2) := dk_16 6 (dk_at dksX2_shares_2 17 rfl rfl)
theorem dX2_shares_59 : decode cX2_shares 59 = .ok (.invokevirtual 530, 3) := dk_182 2 18 (dk_at dksX2_shares_2 19 rfl rfl)
theorem dX2_shares_62 : decode cX2_shares 62 = .ok (.iconst 1, 1) := dk_4 (dk_at dksX2_shares_2 22 rfl rfl)
theorem dX2_shares_63 : decode cX2_shares 63 = .ok (.ireturn, 1) := dk_172 (dk_at dksX2_shares_2 23 rfl rfl)
theorem dX2_shares_64 : decode cX2_shares 64 = .ok (.iload 4, 2) := dk_21 4 (dk_at dksX2_shares_3 0 rfl rfl)
theorem dX2_shares_66 : decode cX2_shares 66 = .ok (.ifCond .ne 139, 3) := dk_154 0 139 (dk_at dksX2_shares_3 2 rfl rfl)
theorem dX2_shares_69 : decode cX2_shares 69 = .ok (.iconst 0, 1) := dk_3 (dk_at dksX2_shares_3 5 rfl rfl)
theorem dX2_shares_70 : decode cX2_shares 70 = .ok (.ireturn, 1) := dk_172 (dk_at dksX2_shares_3 6 rfl rfl)
theorem dX2_shares_71 : decode cX2_shares 71 = .ok (.aload_n 0, 1) := dk_42 (dk_at dksX2_shares_3 7 rfl rfl)
theorem dX2_shares_72 : decode cX2_shares 72 = .ok (.getfield 257, 3) := dk_180 1 1 (dk_at dksX2_shares_3 8 rfl rfl)
theorem dX2_shares_75 : decode cX2_shares 75 = .ok (.bipush 6, 2) := dk_16 6 (dk_at dksX2_shares_3 11 rfl rfl)
theorem dX2_shares_77 : decode cX2_shares 77 = .ok (.iload_n 1, 1) := dk_27 (dk_at dksX2_shares_3 13 rfl rfl)
theorem dX2_shares_78 : decode cX2_shares 78 = .ok (.imul, 1) := dk_104 (dk_at dksX2_shares_3 14 rfl rfl)
theorem dX2_shares_79 : decode cX2_shares 79 = .ok (.iload_n 3, 1) := dk_29 (dk_at dksX2_shares_3 15 rfl rfl)
theorem dX2_shares_80 : decode cX2_shares 80 = .ok (.iadd, 1) := dk_96 (dk_at dksX2_shares_3 16 rfl rfl)
theorem dX2_shares_81 : decode cX2_shares 81 = .ok (.iaload, 1) := dk_46 (dk_at dksX2_shares_3 17 rfl rfl)
theorem dX2_shares_82 : decode cX2_shares 82 = .ok (.iconst 2, 1) := dk_5 (dk_at dksX2_shares_3 18 rfl rfl)
theorem dX2_shares_83 : decode cX2_shares 83 = .ok (.if_icmp .ne 11, 3) := dk_160 0 11 (dk_at dksX2_shares_3 19 rfl rfl)
theorem dX2_shares_86 : decode cX2_shares 86 = .ok (.aload_n 0, 1) := dk_42 (dk_at dksX2_shares_3 22 rfl rfl)
theorem dX2_shares_87 : decode cX2_shares 87 = .ok (.iload_n 1, 1) := dk_27 (dk_at dksX2_shares_3 23 rfl rfl)
theorem dX2_shares_88 : decode cX2_shares 88 = .ok (.iconst 3, 1) := dk_6 (dk_at dksX2_shares_4 0 rfl rfl)
theorem dX2_shares_89 : decode cX2_shares 89 = .ok (.invokevirtual 530, 3) := dk_182 2 18 (dk_at dksX2_shares_4 1 rfl rfl)
theorem dX2_shares_92 : decode cX2_shares 92 = .ok (.iconst 1, 1) := dk_4 (dk_at dksX2_shares_4 4 rfl rfl)
theorem dX2_shares_93 : decode cX2_shares 93 = .ok (.ireturn, 1) := dk_172 (dk_at dksX2_shares_4 5 rfl rfl)
theorem dX2_shares_94 : decode cX2_shares 94 = .ok (.aload_n 0, 1) := dk_42 (dk_at dksX2_shares_4 6 rfl rfl)
theorem dX2_shares_95 : decode cX2_shares 95 = .ok (.getfield 260, 3) := dk_180 1 4 (dk_at dksX2_shares_4 7 rfl rfl)
theorem dX2_shares_98 : decode cX2_shares 98 = .ok (.iload_n 3, 1) := dk_29 (dk_at dksX2_shares_4 10 rfl rfl)
theorem dX2_shares_99 : decode cX2_shares 99 = .ok (.iaload, 1) := dk_46 (dk_at dksX2_shares_4 11 rfl rfl)
theorem dX2_shares_100 : decode cX2_shares 100 = .ok (.ifCond .ne 5, 3) := dk_154 0 5 (dk_at dksX2_shares_4 12 rfl rfl)
theorem dX2_shares_103 : decode cX2_shares 103 = .ok (.iconst 0, 1) := dk_3 (dk_at dksX2_shares_4 15 rfl rfl)
theorem dX2_shares_104 : decode cX2_shares 104 = .ok (.ireturn, 1) := dk_172 (dk_at dksX2_shares_4 16 rfl rfl)
theorem dX2_shares_105 : decode cX2_shares 105 = .ok (.aload_n 0, 1) := dk_42 (dk_at dksX2_shares_4 17 rfl rfl)
theorem dX2_shares_106 : decode cX2_shares 106 = .ok (.getfield 260, 3) := dk_180 1 4 (dk_at dksX2_shares_4 18 rfl rfl)
theorem dX2_shares_109 : decode cX2_shares 109 = .ok (.iload_n 3, 1) := dk_29 (dk_at dksX2_shares_4 21 rfl rfl)
theorem dX2_shares_110 : decode cX2_shares 110 = .ok (.dup2, 1) := dk_92 (dk_at dksX2_shares_4 22 rfl rfl)
theorem dX2_shares_111 : decode cX2_shares 111 = .ok (.iaload, 1) := dk_46 (dk_at dksX2_shares_4 23 rfl rfl)
theorem dX2_shares_112 : decode cX2_shares 112 = .ok (.iconst 1, 1) := dk_4 (dk_at dksX2_shares_5 0 rfl rfl)
theorem dX2_shares_113 : decode cX2_shares 113 = .ok (.isub, 1) := dk_100 (dk_at dksX2_shares_5 1 rfl rfl)
theorem dX2_shares_114 : decode cX2_shares 114 = .ok (.iastore, 1) := dk_79 (dk_at dksX2_shares_5 2 rfl rfl)
theorem dX2_shares_115 : decode cX2_shares 115 = .ok (.aload_n 0, 1) := dk_42 (dk_at dksX2_shares_5 3 rfl rfl)
theorem dX2_shares_116 : decode cX2_shares 116 = .ok (.getfield 257, 3) := dk_180 1 1 (dk_at dksX2_shares_5 4 rfl rfl)
theorem dX2_shares_119 : decode cX2_shares 119 = .ok (.bipush 6, 2) := dk_16 6 (dk_at dksX2_shares_5 7 rfl rfl)
theorem dX2_shares_121 : decode cX2_shares 121 = .ok (.iload_n 1, 1) := dk_27 (dk_at dksX2_shares_5 9 rfl rfl)
theorem dX2_shares_122 : decode cX2_shares 122 = .ok (.imul, 1) := dk_104 (dk_at dksX2_shares_5 10 rfl rfl)
theorem dX2_shares_123 : decode cX2_shares 123 = .ok (.iload_n 3, 1) := dk_29 (dk_at dksX2_shares_5 11 rfl rfl)
theorem dX2_shares_124 : decode cX2_shares 124 = .ok (.iadd, 1) := dk_96 (dk_at dksX2_shares_5 12 rfl rfl)
theorem dX2_shares_125 : decode cX2_shares 125 = .ok (.dup2, 1) := dk_92 (dk_at dksX2_shares_5 13 rfl rfl)
theorem dX2_shares_126 : decode cX2_shares 126 = .ok (.iaload, 1) := dk_46 (dk_at dksX2_shares_5 14 rfl rfl)
theorem dX2_shares_127 : decode cX2_shares 127 = .ok (.iconst 1, 1) := dk_4 (dk_at dksX2_shares_5 15 rfl rfl)
theorem dX2_shares_128 : decode cX2_shares 128 = .ok (.iadd, 1) := dk_96 (dk_at dksX2_shares_5 16 rfl rfl)
theorem dX2_shares_129 : decode cX2_shares 129 = .ok (.iastore, 1) := dk_79 (dk_at dksX2_shares_5 17 rfl rfl)
theorem dX2_shares_130 : decode cX2_shares 130 = .ok (.goto 75, 3) := dk_167 0 75 (dk_at dksX2_shares_5 18 rfl rfl)
theorem dX2_shares_133 : decode cX2_shares 133 = .ok (.aload_n 0, 1) := dk_42 (dk_at dksX2_shares_5 21 rfl rfl)
theorem dX2_shares_134 : decode cX2_shares 134 = .ok (.getfield 257, 3) := dk_180 1 1 (dk_at dksX2_shares_6 0 rfl rfl)
theorem dX2_shares_137 : decode cX2_shares 137 = .ok (.bipush 6, 2) := dk_16 6 (dk_at dksX2_shares_6 3 rfl rfl)
theorem dX2_shares_139 : decode cX2_shares 139 = .ok (.iload_n 1, 1) := dk_27 (dk_at dksX2_shares_6 5 rfl rfl)
theorem dX2_shares_140 : decode cX2_shares 140 = .ok (.imul, 1) := dk_104 (dk_at dksX2_shares_6 6 rfl rfl)
theorem dX2_shares_141 : decode cX2_shares 141 = .ok (.iload_n 3, 1) := dk_29 (dk_at dksX2_shares_6 7 rfl rfl)
theorem dX2_shares_142 : decode cX2_shares 142 = .ok (.iadd, 1) := dk_96 (dk_at dksX2_shares_6 8 rfl rfl)
theorem dX2_shares_143 : decode cX2_shares 143 = .ok (.iaload, 1) := dk_46 (dk_at dksX2_shares_6 9 rfl rfl)
theorem dX2_shares_144 : decode cX2_shares 144 = .ok (.ifCond .ne 11, 3) := dk_154 0 11 (dk_at dksX2_shares_6 10 rfl rfl)
theorem dX2_shares_147 : decode cX2_shares 147 = .ok (.aload_n 0, 1) := dk_42 (dk_at dksX2_shares_6 13 rfl rfl)
theorem dX2_shares_148 : decode cX2_shares 148 = .ok (.iload_n 1, 1) := dk_27 (dk_at dksX2_shares_6 14 rfl rfl)
theorem dX2_shares_149 : decode cX2_shares 149 = .ok (.iconst 3, 1) := dk_6 (dk_at dksX2_shares_6 15 rfl rfl)
theorem dX2_shares_150 : decode cX2_shares 150 = .ok (.invokevirtual 530, 3) := dk_182 2 18 (dk_at dksX2_shares_6 16 rfl rfl)
theorem dX2_shares_153 : decode cX2_shares 153 = .ok (.iconst 1, 1) := dk_4 (dk_at dksX2_shares_6 19 rfl rfl)
theorem dX2_shares_154 : decode cX2_shares 154 = .ok (.ireturn, 1) := dk_172 (dk_at dksX2_shares_6 20 rfl rfl)
theorem dX2_shares_155 : decode cX2_shares 155 = .ok (.aload_n 0, 1) := dk_42 (dk_at dksX2_shares_6 21 rfl rfl)
theorem dX2_shares_156 : decode cX2_shares 156 = .ok (.getfield 260, 3) := dk_180 1 4 (dk_at dksX2_shares_7 0 rfl rfl)
theorem dX2_shares_159 : decode cX2_shares 159 = .ok (.iload_n 3, 1) := dk_29 (dk_at dksX2_shares_7 3 rfl rfl)
theorem dX2_shares_160 : decode cX2_shares 160 = .ok (.dup2, 1) := dk_92 (dk_at dksX2_shares_7 4 rfl rfl)
theorem dX2_shares_161 : decode cX2_shares 161 = .ok (.iaload, 1) := dk_46 (dk_at dksX2_shares_7 5 rfl rfl)
theorem dX2_shares_162 : decode cX2_shares 162 = .ok (.iconst 1, 1) := dk_4 (dk_at dksX2_shares_7 6 rfl rfl)
theorem dX2_shares_163 : decode cX2_shares 163 = .ok (.iadd, 1) := dk_96 (dk_at dksX2_shares_7 7 rfl rfl)
theorem dX2_shares_164 : decode cX2_shares 164 = .ok (.iastore, 1) := dk_79 (dk_at dksX2_shares_7 8 rfl rfl)
theorem dX2_shares_165 : decode cX2_shares 165 = .ok (.aload_n 0, 1) := dk_42 (dk_at dksX2_shares_7 9 rfl rfl)
theorem dX2_shares_166 : decode cX2_shares 166 = .ok (.getfield 257, 3) := dk_180 1 1 (dk_at dksX2_shares_7 10 rfl rfl)
theorem dX2_shares_169 : decode cX2_shares 169 = .ok (.bipush 6, 2) := dk_16 6 (dk_at dksX2_shares_7 13 rfl rfl)
theorem dX2_shares_171 : decode cX2_shares 171 = .ok (.iload_n 1, 1) := dk_27 (dk_at dksX2_shares_7 15 rfl rfl)
theorem dX2_shares_172 : decode cX2_shares 172 = .ok (.imul, 1) := dk_104 (dk_at dksX2_shares_7 16 rfl rfl)
theorem dX2_shares_173 : decode cX2_shares 173 = .ok (.iload_n 3, 1) := dk_29 (dk_at dksX2_shares_7 17 rfl rfl)
theorem dX2_shares_174 : decode cX2_shares 174 = .ok (.iadd, 1) := dk_96 (dk_at dksX2_shares_7 18 rfl rfl)
theorem dX2_shares_175 : decode cX2_shares 175 = .ok (.dup2, 1) := dk_92 (dk_at dksX2_shares_7 19 rfl rfl)
theorem dX2_shares_176 : decode cX2_shares 176 = .ok (.iaload, 1) := dk_46 (dk_at dksX2_shares_7 20 rfl rfl)
theorem dX2_shares_177 : decode cX2_shares 177 = .ok (.iconst 1, 1) := dk_4 (dk_at dksX2_shares_7 21 rfl rfl)
theorem dX2_shares_178 : decode cX2_shares 178 = .ok (.isub, 1) := dk_100 (dk_at dksX2_shares_7 22 rfl rfl)
theorem dX2_shares_179 : decode cX2_shares 179 = .ok (.iastore, 1) := dk_79 (dk_at dksX2_shares_7 23 rfl rfl)
theorem dX2_shares_180 : decode cX2_shares 180 = .ok (.goto 25, 3) := dk_167 0 25 (dk_at dksX2_shares_8 0 rfl rfl)
theorem dX2_shares_183 : decode cX2_shares 183 = .ok (.aload_n 0, 1) := dk_42 (dk_at dksX2_shares_8 3 rfl rfl)
theorem dX2_shares_184 : decode cX2_shares 184 = .ok (.getfield 263, 3) := dk_180 1 7 (dk_at dksX2_shares_8 4 rfl rfl)
theorem dX2_shares_187 : decode cX2_shares 187 = .ok (.iload_n 3, 1) := dk_29 (dk_at dksX2_shares_8 7 rfl rfl)
theorem dX2_shares_188 : decode cX2_shares 188 = .ok (.aload_n 0, 1) := dk_42 (dk_at dksX2_shares_8 8 rfl rfl)
theorem dX2_shares_189 : decode cX2_shares 189 = .ok (.getfield 172, 3) := dk_180 0 172 (dk_at dksX2_shares_8 9 rfl rfl)
theorem dX2_shares_192 : decode cX2_shares 192 = .ok (.iload_n 2, 1) := dk_28 (dk_at dksX2_shares_8 12 rfl rfl)
theorem dX2_shares_193 : decode cX2_shares 193 = .ok (.iaload, 1) := dk_46 (dk_at dksX2_shares_8 13 rfl rfl)
theorem dX2_shares_194 : decode cX2_shares 194 = .ok (.bipush 15, 2) := dk_16 15 (dk_at dksX2_shares_8 14 rfl rfl)
theorem dX2_shares_196 : decode cX2_shares 196 = .ok (.if_icmp .ne 7, 3) := dk_160 0 7 (dk_at dksX2_shares_8 16 rfl rfl)
theorem dX2_shares_199 : decode cX2_shares 199 = .ok (.iconst 1, 1) := dk_4 (dk_at dksX2_shares_8 19 rfl rfl)
theorem dX2_shares_200 : decode cX2_shares 200 = .ok (.goto 4, 3) := dk_167 0 4 (dk_at dksX2_shares_8 20 rfl rfl)
theorem dX2_shares_203 : decode cX2_shares 203 = .ok (.iconst 0, 1) := dk_3 (dk_at dksX2_shares_8 23 rfl rfl)
theorem dX2_shares_204 : decode cX2_shares 204 = .ok (.bastore, 1) := dk_84 (dk_at dksX2_shares_9 0 rfl rfl)
theorem dX2_shares_205 : decode cX2_shares 205 = .ok (.aload_n 0, 1) := dk_42 (dk_at dksX2_shares_9 1 rfl rfl)
theorem dX2_shares_206 : decode cX2_shares 206 = .ok (.iload_n 1, 1) := dk_27 (dk_at dksX2_shares_9 2 rfl rfl)
theorem dX2_shares_207 : decode cX2_shares 207 = .ok (.iload_n 2, 1) := dk_28 (dk_at dksX2_shares_9 3 rfl rfl)
theorem dX2_shares_208 : decode cX2_shares 208 = .ok (.iconst 1, 1) := dk_4 (dk_at dksX2_shares_9 4 rfl rfl)
theorem dX2_shares_209 : decode cX2_shares 209 = .ok (.iadd, 1) := dk_96 (dk_at dksX2_shares_9 5 rfl rfl)
theorem dX2_shares_210 : decode cX2_shares 210 = .ok (.invokevirtual 515, 3) := dk_182 2 3 (dk_at dksX2_shares_9 6 rfl rfl)
theorem dX2_shares_213 : decode cX2_shares 213 = .ok (.iconst 1, 1) := dk_4 (dk_at dksX2_shares_9 9 rfl rfl)
theorem dX2_shares_214 : decode cX2_shares 214 = .ok (.ireturn, 1) := dk_172 (dk_at dksX2_shares_9 10 rfl rfl)
def dkwX2_isTrue_2 : List UInt8 := [167, 0, 4, 3, 160, 0, 17, 132, 4, 1, 42, 21, 4, 28, 182, 1, 232, 62, 167, 255, 206, 29, 172]
abbrev dktX2_isTrue_2 : List UInt8 := dkwX2_isTrue_2 ++ []
def dkwX2_isTrue_1 : List UInt8 := [180, 0, 211, 21, 4, 46, 2, 159, 0, 38, 29, 42, 180, 0, 211, 21, 4, 46, 16, 48, 160, 0, 7, 4]
abbrev dktX2_isTrue_1 : List UInt8 := dkwX2_isTrue_1 ++ dktX2_isTrue_2
def dkwX2_isTrue_0 : List UInt8 := [42, 3, 181, 1, 213, 42, 27, 28, 182, 1, 232, 62, 27, 54, 4, 42, 180, 1, 213, 154, 0, 49, 42]
abbrev dktX2_isTrue_0 : List UInt8 := dkwX2_isTrue_0 ++ dktX2_isTrue_1
theorem dksX2_isTrue_0 : cX2_isTrue.data.toList.drop 0 = dktX2_isTrue_0 := by decide +kernel
theorem dksX2_isTrue_1 : cX2_isTrue.data.toList.drop 23 = dktX2_isTrue_1 := dk_seg dksX2_isTrue_0 23 rfl rfl
theorem dksX2_isTrue_2 : cX2_isTrue.data.toList.drop 47 = dktX2_isTrue_2 := dk_seg dksX2_isTrue_1 24 rfl rfl
theorem dX2_isTrue_0 : decode cX2_isTrue 0 = .ok (.aload_n 0, 1) := dk_42 (dk_at dksX2_isTrue_0 0 rfl rfl)
theorem dX2_isTrue_1 : decode cX2_isTrue 1 = .ok (.iconst 0, 1) := dk_3 (dk_at dksX2_isTrue_0 1 rfl rfl)
theorem dX2_isTrue_2 : decode cX2_isTrue 2 = .ok (.putfield 469, 3) := dk_181 1 213 (dk_at dksX2_isTrue_0 2 rfl rfl)
theorem dX2_isTrue_5 : decode cX2_isTrue 5 = .ok (.aload_n 0, 1) := dk_42 (dk_at dksX2_isTrue_0 5 rfl rfl)
theorem dX2_isTrue_6 : decode cX2_isTrue 6 = .ok (.iload_n 1, 1) := dk_27 (dk_at dksX2_isTrue_0 6 rfl rfl)
theorem dX2_isTrue_7 : decode cX2_isTrue 7 = .ok (.iload_n 2, 1) := dk_28 (dk_at dksX2_isTrue_0 7 rfl rfl)
theorem dX2_isTrue_8 : decode cX2_isTrue 8 = .ok (.invokevirtual 488, 3) := dk_182 1 232 (dk_at dksX2_isTrue_0 8 rfl rfl)
theorem dX2_isTrue_11 : decode cX2_isTrue 11 = .ok (.istore_n 3, 1) := dk_62 (dk_at dksX2_isTrue_0 11 rfl rfl)
theorem dX2_isTrue_12 : decode cX2_isTrue 12 = .ok (.iload_n 1, 1) := dk_27 (dk_at dksX2_isTrue_0 12 rfl rfl)
theorem dX2_isTrue_13 : decode cX2_isTrue 13 = .ok (.istore 4, 2) := dk_54 4 (dk_at dksX2_isTrue_0 13 rfl rfl)
theorem dX2_isTrue_15 : decode cX2_isTrue 15 = .ok (.aload_n 0, 1) := dk_42 (dk_at dksX2_isTrue_0 15 rfl rfl)
theorem dX2_isTrue_16 : decode cX2_isTrue 16 = .ok (.getfield 469, 3) := dk_180 1 213 (dk_at dksX2_isTrue_0 16 rfl rfl)
theorem dX2_isTrue_19 : decode cX2_isTrue 19 = .ok (.ifCond .ne 49, 3) := dk_154 0 49 (dk_at dksX2_isTrue_0 19 rfl rfl)
theorem dX2_isTrue_22 : decode cX2_isTrue 22 = .ok (.aload_n 0, 1) := dk_42 (dk_at dksX2_isTrue_0 22 rfl rfl)
theorem dX2_isTrue_23 : decode cX2_isTrue 23 = .ok (.getfield 211, 3) := dk_180 0 211 (dk_at dksX2_isTrue_1 0 rfl rfl)
theorem dX2_isTrue_26 : decode cX2_isTrue 26 = .ok (.iload 4, 2) := dk_21 4 (dk_at dksX2_isTrue_1 3 rfl rfl)
theorem dX2_isTrue_28 : decode cX2_isTrue 28 = .ok (.iaload, 1) := dk_46 (dk_at dksX2_isTrue_1 5 rfl rfl)
theorem dX2_isTrue_29 : decode cX2_isTrue 29 = .ok (.iconst (-1), 1) := dk_2 (dk_at dksX2_isTrue_1 6 rfl rfl)
theorem dX2_isTrue_30 : decode cX2_isTrue 30 = .ok (.if_icmp .eq 38, 3) := dk_159 0 38 (dk_at dksX2_isTrue_1 7 rfl rfl)
theorem dX2_isTrue_33 : decode cX2_isTrue 33 = .ok (.iload_n 3, 1) := dk_29 (dk_at dksX2_isTrue_1 10 rfl rfl)
theorem dX2_isTrue_34 : decode cX2_isTrue 34 = .ok (.aload_n 0, 1) := dk_42 (dk_at dksX2_isTrue_1 11 rfl rfl)
theorem dX2_isTrue_35 : decode cX2_isTrue 35 = .ok (.getfield 211, 3) := dk_180 0 211 (dk_at dksX2_isTrue_1 12 rfl rfl)
theorem dX2_isTrue_38 : decode cX2_isTrue 38 = .ok (.iload 4, 2) := dk_21 4 (dk_at dksX2_isTrue_1 15 rfl rfl)
theorem dX2_isTrue_40 : decode cX2_isTrue 40 = .ok (.iaload, 1) := dk_46 (dk_at dksX2_isTrue_1 17 rfl rfl)
theorem dX2_isTrue_41 : decode cX2_isTrue 41 = .ok (.bipush 48, 2) := dk_16 48 (dk_at dksX2_isTrue_1 18 rfl rfl)
theorem dX2_isTrue_43 : decode cX2_isTrue 43 = .ok (.if_icmp .ne 7, 3) := dk_160 0 7 (dk_at dksX2_isTrue_1 20 rfl rfl)
theorem dX2_isTrue_46 : decode cX2_isTrue 46 = .ok (.iconst 1, 1) := dk_4 (dk_at dksX2_isTrue_1 23 rfl rfl)
theorem dX2_isTrue_47 : decode cX2_isTrue 47 = .ok (.goto 4, 3) := dk_167 0 4 (dk_at dksX2_isTrue_2 0 rfl rfl)
theorem dX2_isTrue_50 : decode cX2_isTrue 50 = .ok (.iconst 0, 1) := dk_3 (dk_at dksX2_isTrue_2 3 rfl rfl)
theorem dX2_isTrue_51 : decode cX2_isTrue 51 = .ok (.if_icmp .ne 17, 3) := dk_160 0 17 (dk_at dksX2_isTrue_2 4 rfl rfl)
theorem dX2_isTrue_54 : decode cX2_isTrue 54 = .ok (.iinc 4 1, 3) := dk_132 4 1 (dk_at dksX2_isTrue_2 7 rfl rfl)
theorem dX2_isTrue_57 : decode cX2_isTrue 57 = .ok (.aload_n 0, 1) := dk_42 (dk_at dksX2_isTrue_2 10 rfl rfl)
theorem dX2_isTrue_58 : decode cX2_isTrue 58 = .ok (.iload 4, 2) := dk_21 4 (dk_at dksX2_isTrue_2 11 rfl rfl)
theorem dX2_isTrue_60 : decode cX2_isTrue 60 = .ok (.iload_n 2, 1) := dk_28 (dk_at dksX2_isTrue_2 13 rfl rfl)
theorem dX2_isTrue_61 : decode cX2_isTrue 61 = .ok (.invokevirtual 488, 3) := dk_182 1 232 (dk_at dksX2_isTrue_2 14 rfl rfl)
theorem dX2_isTrue_64 : decode cX2_isTrue 64 = .ok (.istore_n 3, 1) := dk_62 (dk_at dksX2_isTrue_2 17 rfl rfl)
theorem dX2_isTrue_65 : decode cX2_isTrue 65 = .ok (.goto (-50), 3) := dk_167 255 206 (dk_at dksX2_isTrue_2 18 rfl rfl)
theorem dX2_isTrue_68 : decode cX2_isTrue 68 = .ok (.iload_n 3, 1) := dk_29 (dk_at dksX2_isTrue_2 21 rfl rfl)
theorem dX2_isTrue_69 : decode cX2_isTrue 69 = .ok (.ireturn, 1) := dk_172 (dk_at dksX2_isTrue_2 22 rfl rfl)
def dkwX2_asked_9 : List UInt8 := [180, 0, 199, 27, 46, 4, 160, 0, 7, 4, 167, 0, 4, 3, 159, 0, 7, 4, 167, 0, 4, 3, 172]
abbrev dktX2_asked_9 : List UInt8 := dkwX2_asked_9 ++ []
def dkwX2_asked_8 : List UInt8 := [167, 0, 4, 3, 62, 167, 0, 16, 21, 4, 21, 5, 159, 0, 7, 4, 167, 0, 4, 3, 62, 29, 42]
abbrev dktX2_asked_8 : List UInt8 := dkwX2_asked_8 ++ dktX2_asked_9
def dkwX2_asked_7 : List UInt8 := [21, 4, 21, 5, 161, 0, 7, 4, 167, 0, 4, 3, 62, 167, 0, 32, 21, 4, 21, 5, 160, 0, 7, 4]
abbrev dktX2_asked_7 : List UInt8 := dkwX2_asked_7 ++ dktX2_asked_8
def dkwX2_asked_6 : List UInt8 := [167, 0, 4, 3, 62, 167, 0, 64, 21, 4, 21, 5, 163, 0, 7, 4, 167, 0, 4, 3, 62, 167, 0, 48]
abbrev dktX2_asked_6 : List UInt8 := dkwX2_asked_6 ++ dktX2_asked_7
def dkwX2_asked_5 : List UInt8 := [21, 4, 21, 5, 162, 0, 7, 4, 167, 0, 4, 3, 62, 167, 0, 80, 21, 4, 21, 5, 164, 0, 7, 4]
abbrev dktX2_asked_5 : List UInt8 := dkwX2_asked_5 ++ dktX2_asked_6
def dkwX2_asked_4 : List UInt8 := [171, 0, 0, 0, 0, 130, 0, 0, 0, 5, 0, 0, 0, 60, 0, 0, 0, 50, 0, 0, 0, 62, 0, 0, 0, 66, 0, 0, 1, 60, 0, 0, 0, 82, 0, 0, 1, 61, 0, 0, 0, 114, 0, 0, 1, 62, 0, 0, 0, 98]
abbrev dktX2_asked_4 : List UInt8 := dkwX2_asked_4 ++ dktX2_asked_5
def dkwX2_asked_3 : List UInt8 := [27, 46]
abbrev dktX2_asked_3 : List UInt8 := dkwX2_asked_3 ++ dktX2_asked_4
def dkwX2_asked_2 : List UInt8 := [180, 0, 208, 27, 46, 28, 182, 1, 229, 54, 5, 42, 180, 1, 213, 153, 0, 5, 3, 172, 42, 180, 0, 202]
abbrev dktX2_asked_2 : List UInt8 := dkwX2_asked_2 ++ dktX2_asked_3
def dkwX2_asked_1 : List UInt8 := [42, 42, 180, 0, 205, 27, 46, 28, 182, 1, 229, 54, 4, 42, 180, 1, 213, 153, 0, 5, 3, 172, 42, 42]
abbrev dktX2_asked_1 : List UInt8 := dkwX2_asked_1 ++ dktX2_asked_2
def dkwX2_asked_0 : List UInt8 := [42, 180, 0, 202, 27, 46, 154, 0, 18, 42, 180, 1, 7, 42, 180, 0, 205, 27, 46, 51, 62, 167, 0, 196]
abbrev dktX2_asked_0 : List UInt8 := dkwX2_asked_0 ++ dktX2_asked_1
theorem dksX2_asked_0 : cX2_asked.data.toList.drop 0 = dktX2_asked_0 := by decide +kernel
theorem dksX2_asked_1 : cX2_asked.data.toList.drop 24 = dktX2_asked_1 := dk_seg dksX2_asked_0 24 rfl rfl
theorem dksX2_asked_2 : cX2_asked.data.toList.drop 48 = dktX2_asked_2 := dk_seg dksX2_asked_1 24 rfl rfl
theorem dksX2_asked_3 : cX2_asked.data.toList.drop 72 = dktX2_asked_3 := dk_seg dksX2_asked_2 24 rfl rfl
theorem dksX2_asked_4 : cX2_asked.data.toList.drop 74 = dktX2_asked_4 := dk_seg dksX2_asked_3 2 rfl rfl
theorem dksX2_asked_5 : cX2_asked.data.toList.drop 124 = dktX2_asked_5 := dk_seg dksX2_asked_4 50 rfl rfl
theorem dksX2_asked_6 : cX2_asked.data.toList.drop 148 = dktX2_asked_6 := dk_seg dksX2_asked_5 24 rfl rfl
theorem dksX2_asked_7 : cX2_asked.data.toList.drop 172 = dktX2_asked_7 := dk_seg dksX2_asked_6 24 rfl rfl
theorem dksX2_asked_8 : cX2_asked.data.toList.drop 196 = dktX2_asked_8 := dk_seg dksX2_asked_7 24 rfl rfl
theorem dksX2_asked_9 : cX2_asked.data.toList.drop 219 = dktX2_asked_9 := dk_seg dksX2_asked_8 23 rfl rfl
theorem dX2_asked_0 : decode cX2_asked 0 = .ok (.aload_n 0, 1) := dk_42 (dk_at dksX2_asked_0 0 rfl rfl)
theorem dX2_asked_1 : decode cX2_asked 1 = .ok (.getfield 202, 3) := dk_180 0 202 (dk_at dksX2_asked_0 1 rfl rfl)
theorem dX2_asked_4 : decode cX2_asked 4 = .ok (.iload_n 1, 1) := dk_27 (dk_at dksX2_asked_0 4 rfl rfl)
theorem dX2_asked_5 : decode cX2_asked 5 = .ok (.iaload, 1) := dk_46 (dk_at dksX2_asked_0 5 rfl rfl)
theorem dX2_asked_6 : decode cX2_asked 6 = .ok (.ifCond .ne 18, 3) := dk_154 0 18 (dk_at dksX2_asked_0 6 rfl rfl)
theorem dX2_asked_9 : decode cX2_asked 9 = .ok (.aload_n 0, 1) := dk_42 (dk_at dksX2_asked_0 9 rfl rfl)
theorem dX2_asked_10 : decode cX2_asked 10 = .ok (.getfield 263, 3) := dk_180 1 7 (dk_at dksX2_asked_0 10 rfl rfl)
theorem dX2_asked_13 : decode cX2_asked 13 = .ok (.aload_n 0, 1) := dk_42 (dk_at dksX2_asked_0 13 rfl rfl)
theorem dX2_asked_14 : decode cX2_asked 14 = .ok (.getfield 205, 3) := dk_180 0 205 (dk_at dksX2_asked_0 14 rfl rfl)
theorem dX2_asked_17 : decode cX2_asked 17 = .ok (.iload_n 1, 1) := dk_27 (dk_at dksX2_asked_0 17 rfl rfl)
theorem dX2_asked_18 : decode cX2_asked 18 = .ok (.iaload, 1) := dk_46 (dk_at dksX2_asked_0 18 rfl rfl)
theorem dX2_asked_19 : decode cX2_asked 19 = .ok (.baload, 1) := dk_51 (dk_at dksX2_asked_0 19 rfl rfl)
theorem dX2_asked_20 : decode cX2_asked 20 = .ok (.istore_n 3, 1) := dk_62 (dk_at dksX2_asked_0 20 rfl rfl)
theorem dX2_asked_21 : decode cX2_asked 21 = .ok (.goto 196, 3) := dk_167 0 196 (dk_at dksX2_asked_0 21 rfl rfl)
theorem dX2_asked_24 : decode cX2_asked 24 = .ok (.aload_n 0, 1) := dk_42 (dk_at dksX2_asked_1 0 rfl rfl)
theorem dX2_asked_25 : decode cX2_asked 25 = .ok (.aload_n 0, 1) := dk_42 (dk_at dksX2_asked_1 1 rfl rfl)
theorem dX2_asked_26 : decode cX2_asked 26 = .ok (.getfield 205, 3) := dk_180 0 205 (dk_at dksX2_asked_1 2 rfl rfl)
theorem dX2_asked_29 : decode cX2_asked 29 = .ok (.iload_n 1, 1) := dk_27 (dk_at dksX2_asked_1 5 rfl rfl)
theorem dX2_asked_30 : decode cX2_asked 30 = .ok (.iaload, 1) := dk_46 (dk_at dksX2_asked_1 6 rfl rfl)
theorem dX2_asked_31 : decode cX2_asked 31 = .ok (.iload_n 2, 1) := dk_28 (dk_at dksX2_asked_1 7 rfl rfl)
theorem dX2_asked_32 : decode cX2_asked 32 = .ok (.invokevirtual 485, 3) := dk_182 1 229 (dk_at dksX2_asked_1 8 rfl rfl)
theorem dX2_asked_35 : decode cX2_asked 35 = .ok (.istore 4, 2) := dk_54 4 (dk_at dksX2_asked_1 11 rfl rfl)
theorem dX2_asked_37 : decode cX2_asked 37 = .ok (.aload_n 0, 1) := dk_42 (dk_at dksX2_asked_1 13 rfl rfl)
theorem dX2_asked_38 : decode cX2_asked 38 = .ok (.getfield 469, 3) := dk_180 1 213 (dk_at dksX2_asked_1 14 rfl rfl)
theorem dX2_asked_41 : decode cX2_asked 41 = .ok (.ifCond .eq 5, 3) := dk_153 0 5 (dk_at dksX2_asked_1 17 rfl rfl)
theorem dX2_asked_44 : decode cX2_asked 44 = .ok (.iconst 0, 1) := dk_3 (dk_at dksX2_asked_1 20 rfl rfl)
theorem dX2_asked_45 : decode cX2_asked 45 = .ok (.ireturn, 1) := dk_172 (dk_at dksX2_asked_1 21 rfl rfl)
theorem dX2_asked_46 : decode cX2_asked 46 = .ok (.aload_n 0, 1) := dk_42 (dk_at dksX2_asked_1 22 rfl rfl)
theorem dX2_asked_47 : decode cX2_asked 47 = .ok (.aload_n 0, 1) := dk_42 (dk_at dksX2_asked_1 23 rfl rfl)
theorem dX2_asked_48 : decode cX2_asked 48 = .ok (.getfield 208, 3) := dk_180 0 208 (dk_at dksX2_asked_2 0 rfl rfl)
theorem dX2_asked_51 : decode cX2_asked 51 = .ok (.iload_n 1, 1) := dk_27 (dk_at dksX2_asked_2 3 rfl rfl)
theorem dX2_asked_52 : decode cX2_asked 52 = .ok (.iaload, 1) := dk_46 (dk_at dksX2_asked_2 4 rfl rfl)
theorem dX2_asked_53 : decode cX2_asked 53 = .ok (.iload_n 2, 1) := dk_28 (dk_at dksX2_asked_2 5 rfl rfl)
theorem dX2_asked_54 : decode cX2_asked 54 = .ok (.invokevirtual 485, 3) := dk_182 1 229 (dk_at dksX2_asked_2 6 rfl rfl)
theorem dX2_asked_57 : decode cX2_asked 57 = .ok (.istore 5, 2) := dk_54 5 (dk_at dksX2_asked_2 9 rfl rfl)
theorem dX2_asked_59 : decode cX2_asked 59 = .ok (.aload_n 0, 1) := dk_42 (dk_at dksX2_asked_2 11 rfl rfl)
theorem dX2_asked_60 : decode cX2_asked 60 = .ok (.getfield 469, 3) := dk_180 1 213 (dk_at dksX2_asked_2 12 rfl rfl)
theorem dX2_asked_63 : decode cX2_asked 63 = .ok (.ifCond .eq 5, 3) := dk_153 0 5 (dk_at dksX2_asked_2 15 rfl rfl)
theorem dX2_asked_66 : decode cX2_asked 66 = .ok (.iconst 0, 1) := dk_3 (dk_at dksX2_asked_2 18 rfl rfl)
theorem dX2_asked_67 : decode cX2_asked 67 = .ok (.ireturn, 1) := dk_172 (dk_at dksX2_asked_2 19 rfl rfl)
theorem dX2_asked_68 : decode cX2_asked 68 = .ok (.aload_n 0, 1) := dk_42 (dk_at dksX2_asked_2 20 rfl rfl)
theorem dX2_asked_69 : decode cX2_asked 69 = .ok (.getfield 202, 3) := dk_180 0 202 (dk_at dksX2_asked_2 21 rfl rfl)
theorem dX2_asked_72 : decode cX2_asked 72 = .ok (.iload_n 1, 1) := dk_27 (dk_at dksX2_asked_3 0 rfl rfl)
theorem dX2_asked_73 : decode cX2_asked 73 = .ok (.iaload, 1) := dk_46 (dk_at dksX2_asked_3 1 rfl rfl)
theorem dX2_asked_74 : decode cX2_asked 74 = .ok (.lookupswitch 130 #[(60, 50), (62, 66), (316, 82), (317, 114), (318, 98)], 50) := by decide +kernel
theorem dX2_asked_124 : decode cX2_asked 124 = .ok (.iload 4, 2) := dk_21 4 (dk_at dksX2_asked_5 0 rfl rfl)
theorem dX2_asked_126 : decode cX2_asked 126 = .ok (.iload 5, 2) := dk_21 5 (dk_at dksX2_asked_5 2 rfl rfl)
theorem dX2_asked_128 : decode cX2_asked 128 = .ok (.if_icmp .ge 7, 3) := dk_162 0 7 (dk_at dksX2_asked_5 4 rfl rfl)
theorem dX2_asked_131 : decode cX2_asked 131 = .ok (.iconst 1, 1) := dk_4 (dk_at dksX2_asked_5 7 rfl rfl)
theorem dX2_asked_132 : decode cX2_asked 132 = .ok (.goto 4, 3) := dk_167 0 4 (dk_at dksX2_asked_5 8 rfl rfl)
theorem dX2_asked_135 : decode cX2_asked 135 = .ok (.iconst 0, 1) := dk_3 (dk_at dksX2_asked_5 11 rfl rfl)
theorem dX2_asked_136 : decode cX2_asked 136 = .ok (.istore_n 3, 1) := dk_62 (dk_at dksX2_asked_5 12 rfl rfl)
theorem dX2_asked_137 : decode cX2_asked 137 = .ok (.goto 80, 3) := dk_167 0 80 (dk_at dksX2_asked_5 13 rfl rfl)
theorem dX2_asked_140 : decode cX2_asked 140 = .ok (.iload 4, 2) := dk_21 4 (dk_at dksX2_asked_5 16 rfl rfl)
theorem dX2_asked_142 : decode cX2_asked 142 = .ok (.iload 5, 2) := dk_21 5 (dk_at dksX2_asked_5 18 rfl rfl)
theorem dX2_asked_144 : decode cX2_asked 144 = .ok (.if_icmp .le 7, 3) := dk_164 0 7 (dk_at dksX2_asked_5 20 rfl rfl)
theorem dX2_asked_147 : decode cX2_asked 147 = .ok (.iconst 1, 1) := dk_4 (dk_at dksX2_asked_5 23 rfl rfl)
theorem dX2_asked_148 : decode cX2_asked 148 = .ok (.goto 4, 3) := dk_167 0 4 (dk_at dksX2_asked_6 0 rfl rfl)
theorem dX2_asked_151 : decode cX2_asked 151 = .ok (.iconst 0, 1) := dk_3 (dk_at dksX2_asked_6 3 rfl rfl)
theorem dX2_asked_152 : decode cX2_asked 152 = .ok (.istore_n 3, 1) := dk_62 (dk_at dksX2_asked_6 4 rfl rfl)
theorem dX2_asked_153 : decode cX2_asked 153 = .ok (.goto 64, 3) := dk_167 0 64 (dk_at dksX2_asked_6 5 rfl rfl)
theorem dX2_asked_156 : decode cX2_asked 156 = .ok (.iload 4, 2) := dk_21 4 (dk_at dksX2_asked_6 8 rfl rfl)
theorem dX2_asked_158 : decode cX2_asked 158 = .ok (.iload 5, 2) := dk_21 5 (dk_at dksX2_asked_6 10 rfl rfl)
theorem dX2_asked_160 : decode cX2_asked 160 = .ok (.if_icmp .gt 7, 3) := dk_163 0 7 (dk_at dksX2_asked_6 12 rfl rfl)
theorem dX2_asked_163 : decode cX2_asked 163 = .ok (.iconst 1, 1) := dk_4 (dk_at dksX2_asked_6 15 rfl rfl)
theorem dX2_asked_164 : decode cX2_asked 164 = .ok (.goto 4, 3) := dk_167 0 4 (dk_at dksX2_asked_6 16 rfl rfl)
theorem dX2_asked_167 : decode cX2_asked 167 = .ok (.iconst 0, 1) := dk_3 (dk_at dksX2_asked_6 19 rfl rfl)
theorem dX2_asked_168 : decode cX2_asked 168 = .ok (.istore_n 3, 1) := dk_62 (dk_at dksX2_asked_6 20 rfl rfl)
theorem dX2_asked_169 : decode cX2_asked 169 = .ok (.goto 48, 3) := dk_167 0 48 (dk_at dksX2_asked_6 21 rfl rfl)
theorem dX2_asked_172 : decode cX2_asked 172 = .ok (.iload 4, 2) := dk_21 4 (dk_at dksX2_asked_7 0 rfl rfl)
theorem dX2_asked_174 : decode cX2_asked 174 = .ok (.iload 5, 2) := dk_21 5 (dk_at dksX2_asked_7 2 rfl rfl)
theorem dX2_asked_176 : decode cX2_asked 176 = .ok (.if_icmp .lt 7, 3) := dk_161 0 7 (dk_at dksX2_asked_7 4 rfl rfl)
theorem dX2_asked_179 : decode cX2_asked 179 = .ok (.iconst 1, 1) := dk_4 (dk_at dksX2_asked_7 7 rfl rfl)
theorem dX2_asked_180 : decode cX2_asked 180 = .ok (.goto 4, 3) := dk_167 0 4 (dk_at dksX2_asked_7 8 rfl rfl)
theorem dX2_asked_183 : decode cX2_asked 183 = .ok (.iconst 0, 1) := dk_3 (dk_at dksX2_asked_7 11 rfl rfl)
theorem dX2_asked_184 : decode cX2_asked 184 = .ok (.istore_n 3, 1) := dk_62 (dk_at dksX2_asked_7 12 rfl rfl)
theorem dX2_asked_185 : decode cX2_asked 185 = .ok (.goto 32, 3) := dk_167 0 32 (dk_at dksX2_asked_7 13 rfl rfl)
theorem dX2_asked_188 : decode cX2_asked 188 = .ok (.iload 4, 2) := dk_21 4 (dk_at dksX2_asked_7 16 rfl rfl)
theorem dX2_asked_190 : decode cX2_asked 190 = .ok (.iload 5, 2) := dk_21 5 (dk_at dksX2_asked_7 18 rfl rfl)
theorem dX2_asked_192 : decode cX2_asked 192 = .ok (.if_icmp .ne 7, 3) := dk_160 0 7 (dk_at dksX2_asked_7 20 rfl rfl)
theorem dX2_asked_195 : decode cX2_asked 195 = .ok (.iconst 1, 1) := dk_4 (dk_at dksX2_asked_7 23 rfl rfl)
theorem dX2_asked_196 : decode cX2_asked 196 = .ok (.goto 4, 3) := dk_167 0 4 (dk_at dksX2_asked_8 0 rfl rfl)
theorem dX2_asked_199 : decode cX2_asked 199 = .ok (.iconst 0, 1) := dk_3 (dk_at dksX2_asked_8 3 rfl rfl)
theorem dX2_asked_200 : decode cX2_asked 200 = .ok (.istore_n 3, 1) := dk_62 (dk_at dksX2_asked_8 4 rfl rfl)
theorem dX2_asked_201 : decode cX2_asked 201 = .ok (.goto 16, 3) := dk_167 0 16 (dk_at dksX2_asked_8 5 rfl rfl)
theorem dX2_asked_204 : decode cX2_asked 204 = .ok (.iload 4, 2) := dk_21 4 (dk_at dksX2_asked_8 8 rfl rfl)
theorem dX2_asked_206 : decode cX2_asked 206 = .ok (.iload 5, 2) := dk_21 5 (dk_at dksX2_asked_8 10 rfl rfl)
theorem dX2_asked_208 : decode cX2_asked 208 = .ok (.if_icmp .eq 7, 3) := dk_159 0 7 (dk_at dksX2_asked_8 12 rfl rfl)
theorem dX2_asked_211 : decode cX2_asked 211 = .ok (.iconst 1, 1) := dk_4 (dk_at dksX2_asked_8 15 rfl rfl)
theorem dX2_asked_212 : decode cX2_asked 212 = .ok (.goto 4, 3) := dk_167 0 4 (dk_at dksX2_asked_8 16 rfl rfl)
theorem dX2_asked_215 : decode cX2_asked 215 = .ok (.iconst 0, 1) := dk_3 (dk_at dksX2_asked_8 19 rfl rfl)
theorem dX2_asked_216 : decode cX2_asked 216 = .ok (.istore_n 3, 1) := dk_62 (dk_at dksX2_asked_8 20 rfl rfl)
theorem dX2_asked_217 : decode cX2_asked 217 = .ok (.iload_n 3, 1) := dk_29 (dk_at dksX2_asked_8 21 rfl rfl)
theorem dX2_asked_218 : decode cX2_asked 218 = .ok (.aload_n 0, 1) := dk_42 (dk_at dksX2_asked_8 22 rfl rfl)
theorem dX2_asked_219 : decode cX2_asked 219 = .ok (.getfield 199, 3) := dk_180 0 199 (dk_at dksX2_asked_9 0 rfl rfl)
theorem dX2_asked_222 : decode cX2_asked 222 = .ok (.iload_n 1, 1) := dk_27 (dk_at dksX2_asked_9 3 rfl rfl)
theorem dX2_asked_223 : decode cX2_asked 223 = .ok (.iaload, 1) := dk_46 (dk_at dksX2_asked_9 4 rfl rfl)
theorem dX2_asked_224 : decode cX2_asked 224 = .ok (.iconst 1, 1) := dk_4 (dk_at dksX2_asked_9 5 rfl rfl)
theorem dX2_asked_225 : decode cX2_asked 225 = .ok (.if_icmp .ne 7, 3) := dk_160 0 7 (dk_at dksX2_asked_9 6 rfl rfl)
theorem dX2_asked_228 : decode cX2_asked 228 = .ok (.iconst 1, 1) := dk_4 (dk_at dksX2_asked_9 9 rfl rfl)
theorem dX2_asked_229 : decode cX2_asked 229 = .ok (.goto 4, 3) := dk_167 0 4 (dk_at dksX2_asked_9 10 rfl rfl)
theorem dX2_asked_232 : decode cX2_asked 232 = .ok (.iconst 0, 1) := dk_3 (dk_at dksX2_asked_9 13 rfl rfl)
theorem dX2_asked_233 : decode cX2_asked 233 = .ok (.if_icmp .eq 7, 3) := dk_159 0 7 (dk_at dksX2_asked_9 14 rfl rfl)
theorem dX2_asked_236 : decode cX2_asked 236 = .ok (.iconst 1, 1) := dk_4 (dk_at dksX2_asked_9 17 rfl rfl)
theorem dX2_asked_237 : decode cX2_asked 237 = .ok (.goto 4, 3) := dk_167 0 4 (dk_at dksX2_asked_9 18 rfl rfl)
theorem dX2_asked_240 : decode cX2_asked 240 = .ok (.iconst 0, 1) := dk_3 (dk_at dksX2_asked_9 21 rfl rfl)
theorem dX2_asked_241 : decode cX2_asked 241 = .ok (.ireturn, 1) := dk_172 (dk_at dksX2_asked_9 22 rfl rfl)
def dkwX2_unload_2 : List UInt8 := [182, 2, 0, 42, 27, 28, 4, 96, 182, 2, 3, 177]
abbrev dktX2_unload_2 : List UInt8 := dkwX2_unload_2 ++ []
def dkwX2_unload_1 : List UInt8 := [180, 0, 226, 27, 3, 79, 42, 89, 180, 1, 241, 29, 96, 181, 1, 241, 29, 158, 0, 10, 42, 8, 27, 29]
abbrev dktX2_unload_1 : List UInt8 := dkwX2_unload_1 ++ dktX2_unload_2
def dkwX2_unload_0 : List UInt8 := [42, 27, 182, 2, 26, 154, 0, 10, 42, 27, 4, 182, 2, 18, 177, 42, 180, 0, 226, 27, 46, 62, 42]
abbrev dktX2_unload_0 : List UInt8 := dkwX2_unload_0 ++ dktX2_unload_1
theorem dksX2_unload_0 : cX2_unload.data.toList.drop 0 = dktX2_unload_0 := by decide +kernel
theorem dksX2_unload_1 : cX2_unload.data.toList.drop 23 = dktX2_unload_1 := dk_seg dksX2_unload_0 23 rfl rfl
theorem dksX2_unload_2 : cX2_unload.data.toList.drop 47 = dktX2_unload_2 := dk_seg dksX2_unload_1 24 rfl rfl
theorem dX2_unload_0 : decode cX2_unload 0 = .ok (.aload_n 0, 1) := dk_42 (dk_at dksX2_unload_0 0 rfl rfl)
theorem dX2_unload_1 : decode cX2_unload 1 = .ok (.iload_n 1, 1) := dk_27 (dk_at dksX2_unload_0 1 rfl rfl)
theorem dX2_unload_2 : decode cX2_unload 2 = .ok (.invokevirtual 538, 3) := dk_182 2 26 (dk_at dksX2_unload_0 2 rfl rfl)
theorem dX2_unload_5 : decode cX2_unload 5 = .ok (.ifCond .ne 10, 3) := dk_154 0 10 (dk_at dksX2_unload_0 5 rfl rfl)
theorem dX2_unload_8 : decode cX2_unload 8 = .ok (.aload_n 0, 1) := dk_42 (dk_at dksX2_unload_0 8 rfl rfl)
theorem dX2_unload_9 : decode cX2_unload 9 = .ok (.iload_n 1, 1) := dk_27 (dk_at dksX2_unload_0 9 rfl rfl)
theorem dX2_unload_10 : decode cX2_unload 10 = .ok (.iconst 1, 1) := dk_4 (dk_at dksX2_unload_0 10 rfl rfl)
theorem dX2_unload_11 : decode cX2_unload 11 = .ok (.invokevirtual 530, 3) := dk_182 2 18 (dk_at dksX2_unload_0 11 rfl rfl)
theorem dX2_unload_14 : decode cX2_unload 14 = .ok (.return_, 1) := dk_177 (dk_at dksX2_unload_0 14 rfl rfl)
theorem dX2_unload_15 : decode cX2_unload 15 = .ok (.aload_n 0, 1) := dk_42 (dk_at dksX2_unload_0 15 rfl rfl)
theorem dX2_unload_16 : decode cX2_unload 16 = .ok (.getfield 226, 3) := dk_180 0 226 (dk_at dksX2_unload_0 16 rfl rfl)
theorem dX2_unload_19 : decode cX2_unload 19 = .ok (.iload_n 1, 1) := dk_27 (dk_at dksX2_unload_0 19 rfl rfl)
theorem dX2_unload_20 : decode cX2_unload 20 = .ok (.iaload, 1) := dk_46 (dk_at dksX2_unload_0 20 rfl rfl)
theorem dX2_unload_21 : decode cX2_unload 21 = .ok (.istore_n 3, 1) := dk_62 (dk_at dksX2_unload_0 21 rfl rfl)
theorem dX2_unload_22 : decode cX2_unload 22 = .ok (.aload_n 0, 1) := dk_42 (dk_at dksX2_unload_0 22 rfl rfl)
theorem dX2_unload_23 : decode cX2_unload 23 = .ok (.getfield 226, 3) := dk_180 0 226 (dk_at dksX2_unload_1 0 rfl rfl)
theorem dX2_unload_26 : decode cX2_unload 26 = .ok (.iload_n 1, 1) := dk_27 (dk_at dksX2_unload_1 3 rfl rfl)
theorem dX2_unload_27 : decode cX2_unload 27 = .ok (.iconst 0, 1) := dk_3 (dk_at dksX2_unload_1 4 rfl rfl)
theorem dX2_unload_28 : decode cX2_unload 28 = .ok (.iastore, 1) := dk_79 (dk_at dksX2_unload_1 5 rfl rfl)
theorem dX2_unload_29 : decode cX2_unload 29 = .ok (.aload_n 0, 1) := dk_42 (dk_at dksX2_unload_1 6 rfl rfl)
theorem dX2_unload_30 : decode cX2_unload 30 = .ok (.dup, 1) := dk_89 (dk_at dksX2_unload_1 7 rfl rfl)
theorem dX2_unload_31 : decode cX2_unload 31 = .ok (.getfield 497, 3) := dk_180 1 241 (dk_at dksX2_unload_1 8 rfl rfl)
theorem dX2_unload_34 : decode cX2_unload 34 = .ok (.iload_n 3, 1) := dk_29 (dk_at dksX2_unload_1 11 rfl rfl)
theorem dX2_unload_35 : decode cX2_unload 35 = .ok (.iadd, 1) := dk_96 (dk_at dksX2_unload_1 12 rfl rfl)
theorem dX2_unload_36 : decode cX2_unload 36 = .ok (.putfield 497, 3) := dk_181 1 241 (dk_at dksX2_unload_1 13 rfl rfl)
theorem dX2_unload_39 : decode cX2_unload 39 = .ok (.iload_n 3, 1) := dk_29 (dk_at dksX2_unload_1 16 rfl rfl)
theorem dX2_unload_40 : decode cX2_unload 40 = .ok (.ifCond .le 10, 3) := dk_158 0 10 (dk_at dksX2_unload_1 17 rfl rfl)
theorem dX2_unload_43 : decode cX2_unload 43 = .ok (.aload_n 0, 1) := dk_42 (dk_at dksX2_unload_1 20 rfl rfl)
theorem dX2_unload_44 : decode cX2_unload 44 = .ok (.iconst 5, 1) := dk_8 (dk_at dksX2_unload_1 21 rfl rfl)
theorem dX2_unload_45 : decode cX2_unload 45 = .ok (.iload_n 1, 1) := dk_27 (dk_at dksX2_unload_1 22 rfl rfl)
theorem dX2_unload_46 : decode cX2_unload 46 = .ok (.iload_n 3, 1) := dk_29 (dk_at dksX2_unload_1 23 rfl rfl)
theorem dX2_unload_47 : decode cX2_unload 47 = .ok (.invokevirtual 512, 3) := dk_182 2 0 (dk_at dksX2_unload_2 0 rfl rfl)
theorem dX2_unload_50 : decode cX2_unload 50 = .ok (.aload_n 0, 1) := dk_42 (dk_at dksX2_unload_2 3 rfl rfl)
theorem dX2_unload_51 : decode cX2_unload 51 = .ok (.iload_n 1, 1) := dk_27 (dk_at dksX2_unload_2 4 rfl rfl)
theorem dX2_unload_52 : decode cX2_unload 52 = .ok (.iload_n 2, 1) := dk_28 (dk_at dksX2_unload_2 5 rfl rfl)
theorem dX2_unload_53 : decode cX2_unload 53 = .ok (.iconst 1, 1) := dk_4 (dk_at dksX2_unload_2 6 rfl rfl)
theorem dX2_unload_54 : decode cX2_unload 54 = .ok (.iadd, 1) := dk_96 (dk_at dksX2_unload_2 7 rfl rfl)
theorem dX2_unload_55 : decode cX2_unload 55 = .ok (.invokevirtual 515, 3) := dk_182 2 3 (dk_at dksX2_unload_2 8 rfl rfl)
theorem dX2_unload_58 : decode cX2_unload 58 = .ok (.return_, 1) := dk_177 (dk_at dksX2_unload_2 11 rfl rfl)
def dkwX2_worked_11 : List UInt8 := [182, 2, 3, 177, 42, 27, 28, 4, 96, 182, 2, 3, 177]
abbrev dktX2_worked_11 : List UInt8 := dkwX2_worked_11 ++ []
def dkwX2_worked_10 : List UInt8 := [46, 96, 29, 79, 42, 27, 29, 4, 162, 0, 12, 42, 180, 0, 181, 28, 46, 167, 0, 6, 28, 4, 96]
abbrev dktX2_worked_10 : List UInt8 := dkwX2_worked_10 ++ dktX2_worked_11
def dkwX2_worked_9 : List UInt8 := [180, 0, 181, 28, 46, 96, 29, 79, 167, 0, 43, 42, 180, 0, 254, 16, 11, 27, 104, 42, 180, 0, 184, 28]
abbrev dktX2_worked_9 : List UInt8 := dkwX2_worked_9 ++ dktX2_worked_10
def dkwX2_worked_8 : List UInt8 := [27, 29, 79, 167, 0, 72, 42, 180, 0, 230, 27, 29, 79, 167, 0, 62, 42, 180, 0, 251, 7, 27, 104, 42]
abbrev dktX2_worked_8 : List UInt8 := dkwX2_worked_8 ++ dktX2_worked_9
def dkwX2_worked_7 : List UInt8 := [42, 180, 0, 216, 27, 29, 79, 167, 0, 92, 42, 180, 0, 221, 27, 29, 79, 167, 0, 82, 42, 180, 0, 228]
abbrev dktX2_worked_7 : List UInt8 := dkwX2_worked_7 ++ dktX2_worked_8
def dkwX2_worked_6 : List UInt8 := [171, 0, 0, 0, 0, 109, 0, 0, 0, 5, 0, 0, 0, 4, 0, 0, 0, 50, 0, 0, 0, 5, 0, 0, 0, 60, 0, 0, 0, 6, 0, 0, 0, 70, 0, 0, 0, 7, 0, 0, 0, 80, 0, 0, 0, 50, 0, 0, 0, 90]
abbrev dktX2_worked_6 : List UInt8 := dkwX2_worked_6 ++ dktX2_worked_7
def dkwX2_worked_5 : List UInt8 := [182, 2, 18, 177, 21, 4]
abbrev dktX2_worked_5 : List UInt8 := dkwX2_worked_5 ++ dktX2_worked_6
def dkwX2_worked_4 : List UInt8 := [8, 163, 0, 26, 29, 153, 0, 22, 42, 180, 0, 232, 27, 46, 17, 3, 232, 164, 0, 10, 42, 27, 8]
abbrev dktX2_worked_4 : List UInt8 := dkwX2_worked_4 ++ dktX2_worked_5
def dkwX2_worked_3 : List UInt8 := [163, 0, 22, 29, 21, 5, 161, 0, 9, 29, 21, 6, 164, 0, 10, 42, 27, 5, 182, 2, 18, 177, 21, 4]
abbrev dktX2_worked_3 : List UInt8 := dkwX2_worked_3 ++ dktX2_worked_4
def dkwX2_worked_2 : List UInt8 := [54, 5, 21, 4, 8, 160, 0, 9, 17, 3, 232, 167, 0, 5, 16, 100, 54, 6, 21, 4, 16, 7]
abbrev dktX2_worked_2 : List UInt8 := dkwX2_worked_2 ++ dktX2_worked_3
def dkwX2_worked_1 : List UInt8 := [182, 2, 18, 177, 42, 180, 0, 172, 28, 46, 54, 4, 21, 4, 7, 160, 0, 8, 16, 156, 167, 0, 4, 3]
abbrev dktX2_worked_1 : List UInt8 := dkwX2_worked_1 ++ dktX2_worked_2
def dkwX2_worked_0 : List UInt8 := [42, 42, 180, 0, 178, 28, 46, 27, 182, 1, 229, 62, 42, 180, 1, 213, 153, 0, 11, 42, 27, 16, 6]
abbrev dktX2_worked_0 : List UInt8 := dkwX2_worked_0 ++ dktX2_worked_1
theorem dksX2_worked_0 : cX2_worked.data.toList.drop 0 = dktX2_worked_0 := by decide +kernel
theorem dksX2_worked_1 : cX2_worked.data.toList.drop 23 = dktX2_worked_1 := dk_seg dksX2_worked_0 23 rfl rfl
theorem dksX2_worked_2 : cX2_worked.data.toList.drop 47 = dktX2_worked_2 := dk_seg dksX2_worked_1 24 rfl rfl
theorem dksX2_worked_3 : cX2_worked.data.toList.drop 69 = dktX2_worked_3 := dk_seg dksX2_worked_2 22 rfl rfl
theorem dksX2_worked_4 : cX2_worked.data.toList.drop 93 = dktX2_worked_4 := dk_seg dksX2_worked_3 24 rfl rfl
theorem dksX2_worked_5 : cX2_worked.data.toList.drop 116 = dktX2_worked_5 := dk_seg dksX2_worked_4 23 rfl rfl
theorem dksX2_worked_6 : cX2_worked.data.toList.drop 122 = dktX2_worked_6 := dk_seg dksX2_worked_5 6 rfl rfl
theorem dksX2_worked_7 : cX2_worked.data.toList.drop 172 = dktX2_worked_7 := dk_seg dksX2_worked_6 50 rfl rfl
theorem dksX2_worked_8 : cX2_worked.data.toList.drop 196 = dktX2_worked_8 := dk_seg dksX2_worked_7 24 rfl rfl
theorem dksX2_worked_9 : cX2_worked.data.toList.drop 220 = dktX2_worked_9 := dk_seg dksX2_worked_8 24 rfl rfl
theorem dksX2_worked_10 : cX2_worked.data.toList.drop 244 = dktX2_worked_10 := dk_seg dksX2_worked_9 24 rfl rfl
theorem dksX2_worked_11 : cX2_worked.data.toList.drop 267 = dktX2_worked_11 := dk_seg dksX2_worked_10 23 rfl rfl
theorem dX2_worked_0 : decode cX2_worked 0 = .ok (.aload_n 0, 1) := dk_42 (dk_at dksX2_worked_0 0 rfl rfl)
theorem dX2_worked_1 : decode cX2_worked 1 = .ok (.aload_n 0, 1) := dk_42 (dk_at dksX2_worked_0 1 rfl rfl)
theorem dX2_worked_2 : decode cX2_worked 2 = .ok (.getfield 178, 3) := dk_180 0 178 (dk_at dksX2_worked_0 2 rfl rfl)
theorem dX2_worked_5 : decode cX2_worked 5 = .ok (.iload_n 2, 1) := dk_28 (dk_at dksX2_worked_0 5 rfl rfl)
theorem dX2_worked_6 : decode cX2_worked 6 = .ok (.iaload, 1) := dk_46 (dk_at dksX2_worked_0 6 rfl rfl)
theorem dX2_worked_7 : decode cX2_worked 7 = .ok (.iload_n 1, 1) := dk_27 (dk_at dksX2_worked_0 7 rfl rfl)
theorem dX2_worked_8 : decode cX2_worked 8 = .ok (.invokevirtual 485, 3) := dk_182 1 229 (dk_at dksX2_worked_0 8 rfl rfl)
theorem dX2_worked_11 : decode cX2_worked 11 = .ok (.istore_n 3, 1) := dk_62 (dk_at dksX2_worked_0 11 rfl rfl)
theorem dX2_worked_12 : decode cX2_worked 12 = .ok (.aload_n 0, 1) := dk_42 (dk_at dksX2_worked_0 12 rfl rfl)
theorem dX2_worked_13 : decode cX2_worked 13 = .ok (.getfield 469, 3) := dk_180 1 213 (dk_at dksX2_worked_0 13 rfl rfl)
theorem dX2_worked_16 : decode cX2_worked 16 = .ok (.ifCond .eq 11, 3) := dk_153 0 11 (dk_at dksX2_worked_0 16 rfl rfl)
theorem dX2_worked_19 : decode cX2_worked 19 = .ok (.aload_n 0, 1) := dk_42 (dk_at dksX2_worked_0 19 rfl rfl)
theorem dX2_worked_20 : decode cX2_worked 20 = .ok (.iload_n 1, 1) := dk_27 (dk_at dksX2_worked_0 20 rfl rfl)
theorem dX2_worked_21 : decode cX2_worked 21 = .ok (.bipush 6, 2) := dk_16 6 (dk_at dksX2_worked_0 21 rfl rfl)
theorem dX2_worked_23 : decode cX2_worked 23 = .ok (.invokevirtual 530, 3) := dk_182 2 18 (dk_at dksX2_worked_1 0 rfl rfl)
theorem dX2_worked_26 : decode cX2_worked 26 = .ok (.return_, 1) := dk_177 (dk_at dksX2_worked_1 3 rfl rfl)
theorem dX2_worked_27 : decode cX2_worked 27 = .ok (.aload_n 0, 1) := dk_42 (dk_at dksX2_worked_1 4 rfl rfl)
theorem dX2_worked_28 : decode cX2_worked 28 = .ok (.getfield 172, 3) := dk_180 0 172 (dk_at dksX2_worked_1 5 rfl rfl)
theorem dX2_worked_31 : decode cX2_worked 31 = .ok (.iload_n 2, 1) := dk_28 (dk_at dksX2_worked_1 8 rfl rfl)
theorem dX2_worked_32 : decode cX2_worked 32 = .ok (.iaload, 1) := dk_46 (dk_at dksX2_worked_1 9 rfl rfl)
theorem dX2_worked_33 : decode cX2_worked 33 = .ok (.istore 4, 2) := dk_54 4 (dk_at dksX2_worked_1 10 rfl rfl)
theorem dX2_worked_35 : decode cX2_worked 35 = .ok (.iload 4, 2) := dk_21 4 (dk_at dksX2_worked_1 12 rfl rfl)
theorem dX2_worked_37 : decode cX2_worked 37 = .ok (.iconst 4, 1) := dk_7 (dk_at dksX2_worked_1 14 rfl rfl)
theorem dX2_worked_38 : decode cX2_worked 38 = .ok (.if_icmp .ne 8, 3) := dk_160 0 8 (dk_at dksX2_worked_1 15 rfl rfl)
theorem dX2_worked_41 : decode cX2_worked 41 = .ok (.bipush (-100), 2) := dk_16 156 (dk_at dksX2_worked_1 18 rfl rfl)
theorem dX2_worked_43 : decode cX2_worked 43 = .ok (.goto 4, 3) := dk_167 0 4 (dk_at dksX2_worked_1 20 rfl rfl)
theorem dX2_worked_46 : decode cX2_worked 46 = .ok (.iconst 0, 1) := dk_3 (dk_at dksX2_worked_1 23 rfl rfl)
theorem dX2_worked_47 : decode cX2_worked 47 = .ok (.istore 5, 2) := dk_54 5 (dk_at dksX2_worked_2 0 rfl rfl)
theorem dX2_worked_49 : decode cX2_worked 49 = .ok (.iload 4, 2) := dk_21 4 (dk_at dksX2_worked_2 2 rfl rfl)
theorem dX2_worked_51 : decode cX2_worked 51 = .ok (.iconst 5, 1) := dk_8 (dk_at dksX2_worked_2 4 rfl rfl)
theorem dX2_worked_52 : decode cX2_worked 52 = .ok (.if_icmp .ne 9, 3) := dk_160 0 9 (dk_at dksX2_worked_2 5 rfl rfl)
theorem dX2_worked_55 : decode cX2_worked 55 = .ok (.sipush 1000, 3) := dk_17 3 232 (dk_at dksX2_worked_2 8 rfl rfl)
theorem dX2_worked_58 : decode cX2_worked 58 = .ok (.goto 5, 3) := dk_167 0 5 (dk_at dksX2_worked_2 11 rfl rfl)
theorem dX2_worked_61 : decode cX2_worked 61 = .ok (.bipush 100, 2) := dk_16 100 (dk_at dksX2_worked_2 14 rfl rfl)
theorem dX2_worked_63 : decode cX2_worked 63 = .ok (.istore 6, 2) := dk_54 6 (dk_at dksX2_worked_2 16 rfl rfl)
theorem dX2_worked_65 : decode cX2_worked 65 = .ok (.iload 4, 2) := dk_21 4 (dk_at dksX2_worked_2 18 rfl rfl)
theorem dX2_worked_67 : decode cX2_worked 67 = .ok (.bipush 7, 2) := dk_16 7 (dk_at dksX2_worked_2 20 rfl rfl)
theorem dX2_worked_69 : decode cX2_worked 69 = .ok (.if_icmp .gt 22, 3) := dk_163 0 22 (dk_at dksX2_worked_3 0 rfl rfl)
theorem dX2_worked_72 : decode cX2_worked 72 = .ok (.iload_n 3, 1) := dk_29 (dk_at dksX2_worked_3 3 rfl rfl)
theorem dX2_worked_73 : decode cX2_worked 73 = .ok (.iload 5, 2) := dk_21 5 (dk_at dksX2_worked_3 4 rfl rfl)
theorem dX2_worked_75 : decode cX2_worked 75 = .ok (.if_icmp .lt 9, 3) := dk_161 0 9 (dk_at dksX2_worked_3 6 rfl rfl)
theorem dX2_worked_78 : decode cX2_worked 78 = .ok (.iload_n 3, 1) := dk_29 (dk_at dksX2_worked_3 9 rfl rfl)
theorem dX2_worked_79 : decode cX2_worked 79 = .ok (.iload 6, 2) := dk_21 6 (dk_at dksX2_worked_3 10 rfl rfl)
theorem dX2_worked_81 : decode cX2_worked 81 = .ok (.if_icmp .le 10, 3) := dk_164 0 10 (dk_at dksX2_worked_3 12 rfl rfl)
theorem dX2_worked_84 : decode cX2_worked 84 = .ok (.aload_n 0, 1) := dk_42 (dk_at dksX2_worked_3 15 rfl rfl)
theorem dX2_worked_85 : decode cX2_worked 85 = .ok (.iload_n 1, 1) := dk_27 (dk_at dksX2_worked_3 16 rfl rfl)
theorem dX2_worked_86 : decode cX2_worked 86 = .ok (.iconst 2, 1) := dk_5 (dk_at dksX2_worked_3 17 rfl rfl)
theorem dX2_worked_87 : decode cX2_worked 87 = .ok (.invokevirtual 530, 3) := dk_182 2 18 (dk_at dksX2_worked_3 18 rfl rfl)
theorem dX2_worked_90 : decode cX2_worked 90 = .ok (.return_, 1) := dk_177 (dk_at dksX2_worked_3 21 rfl rfl)
theorem dX2_worked_91 : decode cX2_worked 91 = .ok (.iload 4, 2) := dk_21 4 (dk_at dksX2_worked_3 22 rfl rfl)
theorem dX2_worked_93 : decode cX2_worked 93 = .ok (.iconst 5, 1) := dk_8 (dk_at dksX2_worked_4 0 rfl rfl)
theorem dX2_worked_94 : decode cX2_worked 94 = .ok (.if_icmp .gt 26, 3) := dk_163 0 26 (dk_at dksX2_worked_4 1 rfl rfl)
theorem dX2_worked_97 : decode cX2_worked 97 = .ok (.iload_n 3, 1) := dk_29 (dk_at dksX2_worked_4 4 rfl rfl)
theorem dX2_worked_98 : decode cX2_worked 98 = .ok (.ifCond .eq 22, 3) := dk_153 0 22 (dk_at dksX2_worked_4 5 rfl rfl)
theorem dX2_worked_101 : decode cX2_worked 101 = .ok (.aload_n 0, 1) := dk_42 (dk_at dksX2_worked_4 8 rfl rfl)
theorem dX2_worked_102 : decode cX2_worked 102 = .ok (.getfield 232, 3) := dk_180 0 232 (dk_at dksX2_worked_4 9 rfl rfl)
theorem dX2_worked_105 : decode cX2_worked 105 = .ok (.iload_n 1, 1) := dk_27 (dk_at dksX2_worked_4 12 rfl rfl)
theorem dX2_worked_106 : decode cX2_worked 106 = .ok (.iaload, 1) := dk_46 (dk_at dksX2_worked_4 13 rfl rfl)
theorem dX2_worked_107 : decode cX2_worked 107 = .ok (.sipush 1000, 3) := dk_17 3 232 (dk_at dksX2_worked_4 14 rfl rfl)
theorem dX2_worked_110 : decode cX2_worked 110 = .ok (.if_icmp .le 10, 3) := dk_164 0 10 (dk_at dksX2_worked_4 17 rfl rfl)
theorem dX2_worked_113 : decode cX2_worked 113 = .ok (.aload_n 0, 1) := dk_42 (dk_at dksX2_worked_4 20 rfl rfl)
theorem dX2_worked_114 : decode cX2_worked 114 = .ok (.iload_n 1, 1) := dk_27 (dk_at dksX2_worked_4 21 rfl rfl)
theorem dX2_worked_115 : decode cX2_worked 115 = .ok (.iconst 5, 1) := dk_8 (dk_at dksX2_worked_4 22 rfl rfl)
theorem dX2_worked_116 : decode cX2_worked 116 = .ok (.invokevirtual 530, 3) := dk_182 2 18 (dk_at dksX2_worked_5 0 rfl rfl)
theorem dX2_worked_119 : decode cX2_worked 119 = .ok (.return_, 1) := dk_177 (dk_at dksX2_worked_5 3 rfl rfl)
theorem dX2_worked_120 : decode cX2_worked 120 = .ok (.iload 4, 2) := dk_21 4 (dk_at dksX2_worked_5 4 rfl rfl)
theorem dX2_worked_122 : decode cX2_worked 122 = .ok (.lookupswitch 109 #[(4, 50), (5, 60), (6, 70), (7, 80), (50, 90)], 50) := by decide +kernel
theorem dX2_worked_172 : decode cX2_worked 172 = .ok (.aload_n 0, 1) := dk_42 (dk_at dksX2_worked_7 0 rfl rfl)
theorem dX2_worked_173 : decode cX2_worked 173 = .ok (.getfield 216, 3) := dk_180 0 216 (dk_at dksX2_worked_7 1 rfl rfl)
theorem dX2_worked_176 : decode cX2_worked 176 = .ok (.iload_n 1, 1) := dk_27 (dk_at dksX2_worked_7 4 rfl rfl)
theorem dX2_worked_177 : decode cX2_worked 177 = .ok (.iload_n 3, 1) := dk_29 (dk_at dksX2_worked_7 5 rfl rfl)
theorem dX2_worked_178 : decode cX2_worked 178 = .ok (.iastore, 1) := dk_79 (dk_at dksX2_worked_7 6 rfl rfl)
theorem dX2_worked_179 : decode cX2_worked 179 = .ok (.goto 92, 3) := dk_167 0 92 (dk_at dksX2_worked_7 7 rfl rfl)
theorem dX2_worked_182 : decode cX2_worked 182 = .ok (.aload_n 0, 1) := dk_42 (dk_at dksX2_worked_7 10 rfl rfl)
theorem dX2_worked_183 : decode cX2_worked 183 = .ok (.getfield 221, 3) := dk_180 0 221 (dk_at dksX2_worked_7 11 rfl rfl)
theorem dX2_worked_186 : decode cX2_worked 186 = .ok (.iload_n 1, 1) := dk_27 (dk_at dksX2_worked_7 14 rfl rfl)
theorem dX2_worked_187 : decode cX2_worked 187 = .ok (.iload_n 3, 1) := dk_29 (dk_at dksX2_worked_7 15 rfl rfl)
theorem dX2_worked_188 : decode cX2_worked 188 = .ok (.iastore, 1) := dk_79 (dk_at dksX2_worked_7 16 rfl rfl)
theorem dX2_worked_189 : decode cX2_worked 189 = .ok (.goto 82, 3) := dk_167 0 82 (dk_at dksX2_worked_7 17 rfl rfl)
theorem dX2_worked_192 : decode cX2_worked 192 = .ok (.aload_n 0, 1) := dk_42 (dk_at dksX2_worked_7 20 rfl rfl)
theorem dX2_worked_193 : decode cX2_worked 193 = .ok (.getfield 228, 3) := dk_180 0 228 (dk_at dksX2_worked_7 21 rfl rfl)
theorem dX2_worked_196 : decode cX2_worked 196 = .ok (.iload_n 1, 1) := dk_27 (dk_at dksX2_worked_8 0 rfl rfl)
theorem dX2_worked_197 : decode cX2_worked 197 = .ok (.iload_n 3, 1) := dk_29 (dk_at dksX2_worked_8 1 rfl rfl)
theorem dX2_worked_198 : decode cX2_worked 198 = .ok (.iastore, 1) := dk_79 (dk_at dksX2_worked_8 2 rfl rfl)
theorem dX2_worked_199 : decode cX2_worked 199 = .ok (.goto 72, 3) := dk_167 0 72 (dk_at dksX2_worked_8 3 rfl rfl)
theorem dX2_worked_202 : decode cX2_worked 202 = .ok (.aload_n 0, 1) := dk_42 (dk_at dksX2_worked_8 6 rfl rfl)
theorem dX2_worked_203 : decode cX2_worked 203 = .ok (.getfield 230, 3) := dk_180 0 230 (dk_at dksX2_worked_8 7 rfl rfl)
theorem dX2_worked_206 : decode cX2_worked 206 = .ok (.iload_n 1, 1) := dk_27 (dk_at dksX2_worked_8 10 rfl rfl)
theorem dX2_worked_207 : decode cX2_worked 207 = .ok (.iload_n 3, 1) := dk_29 (dk_at dksX2_worked_8 11 rfl rfl)
theorem dX2_worked_208 : decode cX2_worked 208 = .ok (.iastore, 1) := dk_79 (dk_at dksX2_worked_8 12 rfl rfl)
theorem dX2_worked_209 : decode cX2_worked 209 = .ok (.goto 62, 3) := dk_167 0 62 (dk_at dksX2_worked_8 13 rfl rfl)
theorem dX2_worked_212 : decode cX2_worked 212 = .ok (.aload_n 0, 1) := dk_42 (dk_at dksX2_worked_8 16 rfl rfl)
theorem dX2_worked_213 : decode cX2_worked 213 = .ok (.getfield 251, 3) := dk_180 0 251 (dk_at dksX2_worked_8 17 rfl rfl)
theorem dX2_worked_216 : decode cX2_worked 216 = .ok (.iconst 4, 1) := dk_7 (dk_at dksX2_worked_8 20 rfl rfl)
theorem dX2_worked_217 : decode cX2_worked 217 = .ok (.iload_n 1, 1) := dk_27 (dk_at dksX2_worked_8 21 rfl rfl)
theorem dX2_worked_218 : decode cX2_worked 218 = .ok (.imul, 1) := dk_104 (dk_at dksX2_worked_8 22 rfl rfl)
theorem dX2_worked_219 : decode cX2_worked 219 = .ok (.aload_n 0, 1) := dk_42 (dk_at dksX2_worked_8 23 rfl rfl)
theorem dX2_worked_220 : decode cX2_worked 220 = .ok (.getfield 181, 3) := dk_180 0 181 (dk_at dksX2_worked_9 0 rfl rfl)
theorem dX2_worked_223 : decode cX2_worked 223 = .ok (.iload_n 2, 1) := dk_28 (dk_at dksX2_worked_9 3 rfl rfl)
theorem dX2_worked_224 : decode cX2_worked 224 = .ok (.iaload, 1) := dk_46 (dk_at dksX2_worked_9 4 rfl rfl)
theorem dX2_worked_225 : decode cX2_worked 225 = .ok (.iadd, 1) := dk_96 (dk_at dksX2_worked_9 5 rfl rfl)
theorem dX2_worked_226 : decode cX2_worked 226 = .ok (.iload_n 3, 1) := dk_29 (dk_at dksX2_worked_9 6 rfl rfl)
theorem dX2_worked_227 : decode cX2_worked 227 = .ok (.iastore, 1) := dk_79 (dk_at dksX2_worked_9 7 rfl rfl)
theorem dX2_worked_228 : decode cX2_worked 228 = .ok (.goto 43, 3) := dk_167 0 43 (dk_at dksX2_worked_9 8 rfl rfl)
theorem dX2_worked_231 : decode cX2_worked 231 = .ok (.aload_n 0, 1) := dk_42 (dk_at dksX2_worked_9 11 rfl rfl)
theorem dX2_worked_232 : decode cX2_worked 232 = .ok (.getfield 254, 3) := dk_180 0 254 (dk_at dksX2_worked_9 12 rfl rfl)
theorem dX2_worked_235 : decode cX2_worked 235 = .ok (.bipush 11, 2) := dk_16 11 (dk_at dksX2_worked_9 15 rfl rfl)
theorem dX2_worked_237 : decode cX2_worked 237 = .ok (.iload_n 1, 1) := dk_27 (dk_at dksX2_worked_9 17 rfl rfl)
theorem dX2_worked_238 : decode cX2_worked 238 = .ok (.imul, 1) := dk_104 (dk_at dksX2_worked_9 18 rfl rfl)
theorem dX2_worked_239 : decode cX2_worked 239 = .ok (.aload_n 0, 1) := dk_42 (dk_at dksX2_worked_9 19 rfl rfl)
theorem dX2_worked_240 : decode cX2_worked 240 = .ok (.getfield 184, 3) := dk_180 0 184 (dk_at dksX2_worked_9 20 rfl rfl)
theorem dX2_worked_243 : decode cX2_worked 243 = .ok (.iload_n 2, 1) := dk_28 (dk_at dksX2_worked_9 23 rfl rfl)
theorem dX2_worked_244 : decode cX2_worked 244 = .ok (.iaload, 1) := dk_46 (dk_at dksX2_worked_10 0 rfl rfl)
theorem dX2_worked_245 : decode cX2_worked 245 = .ok (.iadd, 1) := dk_96 (dk_at dksX2_worked_10 1 rfl rfl)
theorem dX2_worked_246 : decode cX2_worked 246 = .ok (.iload_n 3, 1) := dk_29 (dk_at dksX2_worked_10 2 rfl rfl)
theorem dX2_worked_247 : decode cX2_worked 247 = .ok (.iastore, 1) := dk_79 (dk_at dksX2_worked_10 3 rfl rfl)
theorem dX2_worked_248 : decode cX2_worked 248 = .ok (.aload_n 0, 1) := dk_42 (dk_at dksX2_worked_10 4 rfl rfl)
theorem dX2_worked_249 : decode cX2_worked 249 = .ok (.iload_n 1, 1) := dk_27 (dk_at dksX2_worked_10 5 rfl rfl)
theorem dX2_worked_250 : decode cX2_worked 250 = .ok (.iload_n 3, 1) := dk_29 (dk_at dksX2_worked_10 6 rfl rfl)
theorem dX2_worked_251 : decode cX2_worked 251 = .ok (.iconst 1, 1) := dk_4 (dk_at dksX2_worked_10 7 rfl rfl)
theorem dX2_worked_252 : decode cX2_worked 252 = .ok (.if_icmp .ge 12, 3) := dk_162 0 12 (dk_at dksX2_worked_10 8 rfl rfl)
theorem dX2_worked_255 : decode cX2_worked 255 = .ok (.aload_n 0, 1) := dk_42 (dk_at dksX2_worked_10 11 rfl rfl)
theorem dX2_worked_256 : decode cX2_worked 256 = .ok (.getfield 181, 3) := dk_180 0 181 (dk_at dksX2_worked_10 12 rfl rfl)
theorem dX2_worked_259 : decode cX2_worked 259 = .ok (.iload_n 2, 1) := dk_28 (dk_at dksX2_worked_10 15 rfl rfl)
theorem dX2_worked_260 : decode cX2_worked 260 = .ok (.iaload, 1) := dk_46 (dk_at dksX2_worked_10 16 rfl rfl)
theorem dX2_worked_261 : decode cX2_worked 261 = .ok (.goto 6, 3) := dk_167 0 6 (dk_at dksX2_worked_10 17 rfl rfl)
theorem dX2_worked_264 : decode cX2_worked 264 = .ok (.iload_n 2, 1) := dk_28 (dk_at dksX2_worked_10 20 rfl rfl)
theorem dX2_worked_265 : decode cX2_worked 265 = .ok (.iconst 1, 1) := dk_4 (dk_at dksX2_worked_10 21 rfl rfl)
theorem dX2_worked_266 : decode cX2_worked 266 = .ok (.iadd, 1) := dk_96 (dk_at dksX2_worked_10 22 rfl rfl)
theorem dX2_worked_267 : decode cX2_worked 267 = .ok (.invokevirtual 515, 3) := dk_182 2 3 (dk_at dksX2_worked_11 0 rfl rfl)
theorem dX2_worked_270 : decode cX2_worked 270 = .ok (.return_, 1) := dk_177 (dk_at dksX2_worked_11 3 rfl rfl)
theorem dX2_worked_271 : decode cX2_worked 271 = .ok (.aload_n 0, 1) := dk_42 (dk_at dksX2_worked_11 4 rfl rfl)
theorem dX2_worked_272 : decode cX2_worked 272 = .ok (.iload_n 1, 1) := dk_27 (dk_at dksX2_worked_11 5 rfl rfl)
theorem dX2_worked_273 : decode cX2_worked 273 = .ok (.iload_n 2, 1) := dk_28 (dk_at dksX2_worked_11 6 rfl rfl)
theorem dX2_worked_274 : decode cX2_worked 274 = .ok (.iconst 1, 1) := dk_4 (dk_at dksX2_worked_11 7 rfl rfl)
theorem dX2_worked_275 : decode cX2_worked 275 = .ok (.iadd, 1) := dk_96 (dk_at dksX2_worked_11 8 rfl rfl)
theorem dX2_worked_276 : decode cX2_worked 276 = .ok (.invokevirtual 515, 3) := dk_182 2 3 (dk_at dksX2_worked_11 9 rfl rfl)
theorem dX2_worked_279 : decode cX2_worked 279 = .ok (.return_, 1) := dk_177 (dk_at dksX2_worked_11 12 rfl rfl)
def dkwX2_eases_10 : List UInt8 := [42, 180, 0, 230, 27, 42, 180, 0, 214, 27, 46, 184, 1, 238, 79, 177]
abbrev dktX2_eases_10 : List UInt8 := dkwX2_eases_10 ++ []
def dkwX2_eases_9 : List UInt8 := [79, 28, 6, 160, 0, 36, 42, 180, 0, 230, 27, 46, 42, 180, 0, 214, 27, 46, 184, 1, 238, 164, 0, 18]
abbrev dktX2_eases_9 : List UInt8 := dkwX2_eases_9 ++ dktX2_eases_10
def dkwX2_eases_8 : List UInt8 := [180, 0, 157, 27, 46, 21, 4, 184, 2, 35, 79, 42, 180, 0, 223, 27, 42, 180, 0, 219, 27, 46, 29, 100]
abbrev dktX2_eases_8 : List UInt8 := dkwX2_eases_8 ++ dktX2_eases_9
def dkwX2_eases_7 : List UInt8 := [167, 0, 9, 42, 180, 0, 157, 27, 46, 54, 4, 42, 180, 0, 219, 27, 29, 42, 180, 0, 221, 27, 46, 42]
abbrev dktX2_eases_7 : List UInt8 := dkwX2_eases_7 ++ dktX2_eases_8
def dkwX2_eases_6 : List UInt8 := [167, 0, 32, 28, 5, 160, 0, 21, 42, 180, 0, 214, 27, 46, 184, 1, 238, 16, 30, 164, 0, 7, 3]
abbrev dktX2_eases_6 : List UInt8 := dkwX2_eases_6 ++ dktX2_eases_7
def dkwX2_eases_5 : List UInt8 := [42, 27, 5, 182, 1, 235, 153, 0, 88, 28, 8, 160, 0, 14, 5, 42, 180, 0, 157, 27, 46, 104]
abbrev dktX2_eases_5 : List UInt8 := dkwX2_eases_5 ++ dktX2_eases_6
def dkwX2_eases_4 : List UInt8 := [180, 0, 214, 27, 42, 180, 0, 214, 27, 46, 42, 180, 0, 216, 27, 46, 21, 4, 21, 4, 184, 2, 35, 79]
abbrev dktX2_eases_4 : List UInt8 := dkwX2_eases_4 ++ dktX2_eases_5
def dkwX2_eases_3 : List UInt8 := [42, 180, 0, 152, 27, 46, 54, 4, 21, 4, 4, 162, 0, 7, 4, 167, 0, 5, 21, 4, 54, 4, 42]
abbrev dktX2_eases_3 : List UInt8 := dkwX2_eases_3 ++ dktX2_eases_4
def dkwX2_eases_2 : List UInt8 := [153, 0, 71, 28, 16, 7, 160, 0, 18, 29, 158, 0, 14, 42, 180, 0, 152, 27, 46, 5, 108, 167, 0, 9]
abbrev dktX2_eases_2 : List UInt8 := dkwX2_eases_2 ++ dktX2_eases_3
def dkwX2_eases_1 : List UInt8 := [27, 42, 180, 0, 214, 42, 180, 0, 146, 27, 46, 46, 79, 167, 0, 80, 42, 27, 4, 182, 1, 235]
abbrev dktX2_eases_1 : List UInt8 := dkwX2_eases_1 ++ dktX2_eases_2
def dkwX2_eases_0 : List UInt8 := [42, 180, 0, 143, 27, 46, 61, 42, 180, 0, 219, 27, 46, 62, 28, 16, 8, 160, 0, 23, 42, 180, 0, 214]
abbrev dktX2_eases_0 : List UInt8 := dkwX2_eases_0 ++ dktX2_eases_1
theorem dksX2_eases_0 : cX2_eases.data.toList.drop 0 = dktX2_eases_0 := by decide +kernel
theorem dksX2_eases_1 : cX2_eases.data.toList.drop 24 = dktX2_eases_1 := dk_seg dksX2_eases_0 24 rfl rfl
theorem dksX2_eases_2 : cX2_eases.data.toList.drop 46 = dktX2_eases_2 := dk_seg dksX2_eases_1 22 rfl rfl
theorem dksX2_eases_3 : cX2_eases.data.toList.drop 70 = dktX2_eases_3 := dk_seg dksX2_eases_2 24 rfl rfl
theorem dksX2_eases_4 : cX2_eases.data.toList.drop 93 = dktX2_eases_4 := dk_seg dksX2_eases_3 23 rfl rfl
theorem dksX2_eases_5 : cX2_eases.data.toList.drop 117 = dktX2_eases_5 := dk_seg dksX2_eases_4 24 rfl rfl
theorem dksX2_eases_6 : cX2_eases.data.toList.drop 139 = dktX2_eases_6 := dk_seg dksX2_eases_5 22 rfl rfl
theorem dksX2_eases_7 : cX2_eases.data.toList.drop 162 = dktX2_eases_7 := dk_seg dksX2_eases_6 23 rfl rfl
theorem dksX2_eases_8 : cX2_eases.data.toList.drop 186 = dktX2_eases_8 := dk_seg dksX2_eases_7 24 rfl rfl
theorem dksX2_eases_9 : cX2_eases.data.toList.drop 210 = dktX2_eases_9 := dk_seg dksX2_eases_8 24 rfl rfl
theorem dksX2_eases_10 : cX2_eases.data.toList.drop 234 = dktX2_eases_10 := dk_seg dksX2_eases_9 24 rfl rfl
theorem dX2_eases_0 : decode cX2_eases 0 = .ok (.aload_n 0, 1) := dk_42 (dk_at dksX2_eases_0 0 rfl rfl)
theorem dX2_eases_1 : decode cX2_eases 1 = .ok (.getfield 143, 3) := dk_180 0 143 (dk_at dksX2_eases_0 1 rfl rfl)
theorem dX2_eases_4 : decode cX2_eases 4 = .ok (.iload_n 1, 1) := dk_27 (dk_at dksX2_eases_0 4 rfl rfl)
theorem dX2_eases_5 : decode cX2_eases 5 = .ok (.iaload, 1) := dk_46 (dk_at dksX2_eases_0 5 rfl rfl)
theorem dX2_eases_6 : decode cX2_eases 6 = .ok (.istore_n 2, 1) := dk_61 (dk_at dksX2_eases_0 6 rfl rfl)
theorem dX2_eases_7 : decode cX2_eases 7 = .ok (.aload_n 0, 1) := dk_42 (dk_at dksX2_eases_0 7 rfl rfl)
theorem dX2_eases_8 : decode cX2_eases 8 = .ok (.getfield 219, 3) := dk_180 0 219 (dk_at dksX2_eases_0 8 rfl rfl)
theorem dX2_eases_11 : decode cX2_eases 11 = .ok (.iload_n 1, 1) := dk_27 (dk_at dksX2_eases_0 11 rfl rfl)
theorem dX2_eases_12 : decode cX2_eases 12 = .ok (.iaload, 1) := dk_46 (dk_at dksX2_eases_0 12 rfl rfl)
theorem dX2_eases_13 : decode cX2_eases 13 = .ok (.istore_n 3, 1) := dk_62 (dk_at dksX2_eases_0 13 rfl rfl)
theorem dX2_eases_14 : decode cX2_eases 14 = .ok (.iload_n 2, 1) := dk_28 (dk_at dksX2_eases_0 14 rfl rfl)
theorem dX2_eases_15 : decode cX2_eases 15 = .ok (.bipush 8, 2) := dk_16 8 (dk_at dksX2_eases_0 15 rfl rfl)
theorem dX2_eases_17 : decode cX2_eases 17 = .ok (.if_icmp .ne 23, 3) := dk_160 0 23 (dk_at dksX2_eases_0 17 rfl rfl)
theorem dX2_eases_20 : decode cX2_eases 20 = .ok (.aload_n 0, 1) := dk_42 (dk_at dksX2_eases_0 20 rfl rfl)
theorem dX2_eases_21 : decode cX2_eases 21 = .ok (.getfield 214, 3) := dk_180 0 214 (dk_at dksX2_eases_0 21 rfl rfl)
theorem dX2_eases_24 : decode cX2_eases 24 = .ok (.iload_n 1, 1) := dk_27 (dk_at dksX2_eases_1 0 rfl rfl)
theorem dX2_eases_25 : decode cX2_eases 25 = .ok (.aload_n 0, 1) := dk_42 (dk_at dksX2_eases_1 1 rfl rfl)
theorem dX2_eases_26 : decode cX2_eases 26 = .ok (.getfield 214, 3) := dk_180 0 214 (dk_at dksX2_eases_1 2 rfl rfl)
theorem dX2_eases_29 : decode cX2_eases 29 = .ok (.aload_n 0, 1) := dk_42 (dk_at dksX2_eases_1 5 rfl rfl)
theorem dX2_eases_30 : decode cX2_eases 30 = .ok (.getfield 146, 3) := dk_180 0 146 (dk_at dksX2_eases_1 6 rfl rfl)
theorem dX2_eases_33 : decode cX2_eases 33 = .ok (.iload_n 1, 1) := dk_27 (dk_at dksX2_eases_1 9 rfl rfl)
theorem dX2_eases_34 : decode cX2_eases 34 = .ok (.iaload, 1) := dk_46 (dk_at dksX2_eases_1 10 rfl rfl)
theorem dX2_eases_35 : decode cX2_eases 35 = .ok (.iaload, 1) := dk_46 (dk_at dksX2_eases_1 11 rfl rfl)
theorem dX2_eases_36 : decode cX2_eases 36 = .ok (.iastore, 1) := dk_79 (dk_at dksX2_eases_1 12 rfl rfl)
theorem dX2_eases_37 : decode cX2_eases 37 = .ok (.goto 80, 3) := dk_167 0 80 (dk_at dksX2_eases_1 13 rfl rfl)
theorem dX2_eases_40 : decode cX2_eases 40 = .ok (.aload_n 0, 1) := dk_42 (dk_at dksX2_eases_1 16 rfl rfl)
theorem dX2_eases_41 : decode cX2_eases 41 = .ok (.iload_n 1, 1) := dk_27 (dk_at dksX2_eases_1 17 rfl rfl)
theorem dX2_eases_42 : decode cX2_eases 42 = .ok (.iconst 1, 1) := dk_4 (dk_at dksX2_eases_1 18 rfl rfl)
theorem dX2_eases_43 : decode cX2_eases 43 = .ok (.invokevirtual 491, 3) := dk_182 1 235 (dk_at dksX2_eases_1 19 rfl rfl)
theorem dX2_eases_46 : decode cX2_eases 46 = .ok (.ifCond .eq 71, 3) := dk_153 0 71 (dk_at dksX2_eases_2 0 rfl rfl)
theorem dX2_eases_49 : decode cX2_eases 49 = .ok (.iload_n 2, 1) := dk_28 (dk_at dksX2_eases_2 3 rfl rfl)
theorem dX2_eases_50 : decode cX2_eases 50 = .ok (.bipush 7, 2) := dk_16 7 (dk_at dksX2_eases_2 4 rfl rfl)
theorem dX2_eases_52 : decode cX2_eases 52 = .ok (.if_icmp .ne 18, 3) := dk_160 0 18 (dk_at dksX2_eases_2 6 rfl rfl)
theorem dX2_eases_55 : decode cX2_eases 55 = .ok (.iload_n 3, 1) := dk_29 (dk_at dksX2_eases_2 9 rfl rfl)
theorem dX2_eases_56 : decode cX2_eases 56 = .ok (.ifCond .le 14, 3) := dk_158 0 14 (dk_at dksX2_eases_2 10 rfl rfl)
theorem dX2_eases_59 : decode cX2_eases 59 = .ok (.aload_n 0, 1) := dk_42 (dk_at dksX2_eases_2 13 rfl rfl)
theorem dX2_eases_60 : decode cX2_eases 60 = .ok (.getfield 152, 3) := dk_180 0 152 (dk_at dksX2_eases_2 14 rfl rfl)
theorem dX2_eases_63 : decode cX2_eases 63 = .ok (.iload_n 1, 1) := dk_27 (dk_at dksX2_eases_2 17 rfl rfl)
theorem dX2_eases_64 : decode cX2_eases 64 = .ok (.iaload, 1) := dk_46 (dk_at dksX2_eases_2 18 rfl rfl)
theorem dX2_eases_65 : decode cX2_eases 65 = .ok (.iconst 2, 1) := dk_5 (dk_at dksX2_eases_2 19 rfl rfl)
theorem dX2_eases_66 : decode cX2_eases 66 = .ok (.idiv, 1) := dk_108 (dk_at dksX2_eases_2 20 rfl rfl)
theorem dX2_eases_67 : decode cX2_eases 67 = .ok (.goto 9, 3) := dk_167 0 9 (dk_at dksX2_eases_2 21 rfl rfl)
theorem dX2_eases_70 : decode cX2_eases 70 = .ok (.aload_n 0, 1) := dk_42 (dk_at dksX2_eases_3 0 rfl rfl)
theorem dX2_eases_71 : decode cX2_eases 71 = .ok (.getfield 152, 3) := dk_180 0 152 (dk_at dksX2_eases_3 1 rfl rfl)
theorem dX2_eases_74 : decode cX2_eases 74 = .ok (.iload_n 1, 1) := dk_27 (dk_at dksX2_eases_3 4 rfl rfl)
theorem dX2_eases_75 : decode cX2_eases 75 = .ok (.iaload, 1) := dk_46 (dk_at dksX2_eases_3 5 rfl rfl)
theorem dX2_eases_76 : decode cX2_eases 76 = .ok (.istore 4, 2) := dk_54 4 (dk_at dksX2_eases_3 6 rfl rfl)
theorem dX2_eases_78 : decode cX2_eases 78 = .ok (.iload 4, 2) := dk_21 4 (dk_at dksX2_eases_3 8 rfl rfl)
theorem dX2_eases_80 : decode cX2_eases 80 = .ok (.iconst 1, 1) := dk_4 (dk_at dksX2_eases_3 10 rfl rfl)
theorem dX2_eases_81 : decode cX2_eases 81 = .ok (.if_icmp .ge 7, 3) := dk_162 0 7 (dk_at dksX2_eases_3 11 rfl rfl)
theorem dX2_eases_84 : decode cX2_eases 84 = .ok (.iconst 1, 1) := dk_4 (dk_at dksX2_eases_3 14 rfl rfl)
theorem dX2_eases_85 : decode cX2_eases 85 = .ok (.goto 5, 3) := dk_167 0 5 (dk_at dksX2_eases_3 15 rfl rfl)
theorem dX2_eases_88 : decode cX2_eases 88 = .ok (.iload 4, 2) := dk_21 4 (dk_at dksX2_eases_3 18 rfl rfl)
theorem dX2_eases_90 : decode cX2_eases 90 = .ok (.istore 4, 2) := dk_54 4 (dk_at dksX2_eases_3 20 rfl rfl)
theorem dX2_eases_92 : decode cX2_eases 92 = .ok (.aload_n 0, 1) := dk_42 (dk_at dksX2_eases_3 22 rfl rfl)
theorem dX2_eases_93 : decode cX2_eases 93 = .ok (.getfield 214, 3) := dk_180 0 214 (dk_at dksX2_eases_4 0 rfl rfl)
theorem dX2_eases_96 : decode cX2_eases 96 = .ok (.iload_n 1, 1) := dk_27 (dk_at dksX2_eases_4 3 rfl rfl)
theorem dX2_eases_97 : decode cX2_eases 97 = .ok (.aload_n 0, 1) := dk_42 (dk_at dksX2_eases_4 4 rfl rfl)
theorem dX2_eases_98 : decode cX2_eases 98 = .ok (.getfield 214, 3) := dk_180 0 214 (dk_at dksX2_eases_4 5 rfl rfl)
theorem dX2_eases_101 : decode cX2_eases 101 = .ok (.iload_n 1, 1) := dk_27 (dk_at dksX2_eases_4 8 rfl rfl)
theorem dX2_eases_102 : decode cX2_eases 102 = .ok (.iaload, 1) := dk_46 (dk_at dksX2_eases_4 9 rfl rfl)
theorem dX2_eases_103 : decode cX2_eases 103 = .ok (.aload_n 0, 1) := dk_42 (dk_at dksX2_eases_4 10 rfl rfl)
theorem dX2_eases_104 : decode cX2_eases 104 = .ok (.getfield 216, 3) := dk_180 0 216 (dk_at dksX2_eases_4 11 rfl rfl)
theorem dX2_eases_107 : decode cX2_eases 107 = .ok (.iload_n 1, 1) := dk_27 (dk_at dksX2_eases_4 14 rfl rfl)
theorem dX2_eases_108 : decode cX2_eases 108 = .ok (.iaload, 1) := dk_46 (dk_at dksX2_eases_4 15 rfl rfl)
theorem dX2_eases_109 : decode cX2_eases 109 = .ok (.iload 4, 2) := dk_21 4 (dk_at dksX2_eases_4 16 rfl rfl)
theorem dX2_eases_111 : decode cX2_eases 111 = .ok (.iload 4, 2) := dk_21 4 (dk_at dksX2_eases_4 18 rfl rfl)
theorem dX2_eases_113 : decode cX2_eases 113 = .ok (.invokestatic 547, 3) := dk_184 2 35 (dk_at dksX2_eases_4 20 rfl rfl)
theorem dX2_eases_116 : decode cX2_eases 116 = .ok (.iastore, 1) := dk_79 (dk_at dksX2_eases_4 23 rfl rfl)
theorem dX2_eases_117 : decode cX2_eases 117 = .ok (.aload_n 0, 1) := dk_42 (dk_at dksX2_eases_5 0 rfl rfl)
theorem dX2_eases_118 : decode cX2_eases 118 = .ok (.iload_n 1, 1) := dk_27 (dk_at dksX2_eases_5 1 rfl rfl)
theorem dX2_eases_119 : decode cX2_eases 119 = .ok (.iconst 2, 1) := dk_5 (dk_at dksX2_eases_5 2 rfl rfl)
theorem dX2_eases_120 : decode cX2_eases 120 = .ok (.invokevirtual 491, 3) := dk_182 1 235 (dk_at dksX2_eases_5 3 rfl rfl)
theorem dX2_eases_123 : decode cX2_eases 123 = .ok (.ifCond .eq 88, 3) := dk_153 0 88 (dk_at dksX2_eases_5 6 rfl rfl)
theorem dX2_eases_126 : decode cX2_eases 126 = .ok (.iload_n 2, 1) := dk_28 (dk_at dksX2_eases_5 9 rfl rfl)
theorem dX2_eases_127 : decode cX2_eases 127 = .ok (.iconst 5, 1) := dk_8 (dk_at dksX2_eases_5 10 rfl rfl)
theorem dX2_eases_128 : decode cX2_eases 128 = .ok (.if_icmp .ne 14, 3) := dk_160 0 14 (dk_at dksX2_eases_5 11 rfl rfl)
theorem dX2_eases_131 : decode cX2_eases 131 = .ok (.iconst 2, 1) := dk_5 (dk_at dksX2_eases_5 14 rfl rfl)
theorem dX2_eases_132 : decode cX2_eases 132 = .ok (.aload_n 0, 1) := dk_42 (dk_at dksX2_eases_5 15 rfl rfl)
theorem dX2_eases_133 : decode cX2_eases 133 = .ok (.getfield 157, 3) := dk_180 0 157 (dk_at dksX2_eases_5 16 rfl rfl)
theorem dX2_eases_136 : decode cX2_eases 136 = .ok (.iload_n 1, 1) := dk_27 (dk_at dksX2_eases_5 19 rfl rfl)
theorem dX2_eases_137 : decode cX2_eases 137 = .ok (.iaload, 1) := dk_46 (dk_at dksX2_eases_5 20 rfl rfl)
theorem dX2_eases_138 : decode cX2_eases 138 = .ok (.imul, 1) := dk_104 (dk_at dksX2_eases_5 21 rfl rfl)
theorem dX2_eases_139 : decode cX2_eases 139 = .ok (.goto 32, 3) := dk_167 0 32 (dk_at dksX2_eases_6 0 rfl rfl)
theorem dX2_eases_142 : decode cX2_eases 142 = .ok (.iload_n 2, 1) := dk_28 (dk_at dksX2_eases_6 3 rfl rfl)
theorem dX2_eases_143 : decode cX2_eases 143 = .ok (.iconst 2, 1) := dk_5 (dk_at dksX2_eases_6 4 rfl rfl)
theorem dX2_eases_144 : decode cX2_eases 144 = .ok (.if_icmp .ne 21, 3) := dk_160 0 21 (dk_at dksX2_eases_6 5 rfl rfl)
theorem dX2_eases_147 : decode cX2_eases 147 = .ok (.aload_n 0, 1) := dk_42 (dk_at dksX2_eases_6 8 rfl rfl)
theorem dX2_eases_148 : decode cX2_eases 148 = .ok (.getfield 214, 3) := dk_180 0 214 (dk_at dksX2_eases_6 9 rfl rfl)
theorem dX2_eases_151 : decode cX2_eases 151 = .ok (.iload_n 1, 1) := dk_27 (dk_at dksX2_eases_6 12 rfl rfl)
theorem dX2_eases_152 : decode cX2_eases 152 = .ok (.iaload, 1) := dk_46 (dk_at dksX2_eases_6 13 rfl rfl)
theorem dX2_eases_153 : decode cX2_eases 153 = .ok (.invokestatic 494, 3) := dk_184 1 238 (dk_at dksX2_eases_6 14 rfl rfl)
theorem dX2_eases_156 : decode cX2_eases 156 = .ok (.bipush 30, 2) := dk_16 30 (dk_at dksX2_eases_6 17 rfl rfl)
theorem dX2_eases_158 : decode cX2_eases 158 = .ok (.if_icmp .le 7, 3) := dk_164 0 7 (dk_at dksX2_eases_6 19 rfl rfl)
theorem dX2_eases_161 : decode cX2_eases 161 = .ok (.iconst 0, 1) := dk_3 (dk_at dksX2_eases_6 22 rfl rfl)
theorem dX2_eases_162 : decode cX2_eases 162 = .ok (.goto 9, 3) := dk_167 0 9 (dk_at dksX2_eases_7 0 rfl rfl)
theorem dX2_eases_165 : decode cX2_eases 165 = .ok (.aload_n 0, 1) := dk_42 (dk_at dksX2_eases_7 3 rfl rfl)
theorem dX2_eases_166 : decode cX2_eases 166 = .ok (.getfield 157, 3) := dk_180 0 157 (dk_at dksX2_eases_7 4 rfl rfl)
theorem dX2_eases_169 : decode cX2_eases 169 = .ok (.iload_n 1, 1) := dk_27 (dk_at dksX2_eases_7 7 rfl rfl)
theorem dX2_eases_170 : decode cX2_eases 170 = .ok (.iaload, 1) := dk_46 (dk_at dksX2_eases_7 8 rfl rfl)
theorem dX2_eases_171 : decode cX2_eases 171 = .ok (.istore 4, 2) := dk_54 4 (dk_at dksX2_eases_7 9 rfl rfl)
theorem dX2_eases_173 : decode cX2_eases 173 = .ok (.aload_n 0, 1) := dk_42 (dk_at dksX2_eases_7 11 rfl rfl)
theorem dX2_eases_174 : decode cX2_eases 174 = .ok (.getfield 219, 3) := dk_180 0 219 (dk_at dksX2_eases_7 12 rfl rfl)
theorem dX2_eases_177 : decode cX2_eases 177 = .ok (.iload_n 1, 1) := dk_27 (dk_at dksX2_eases_7 15 rfl rfl)
theorem dX2_eases_178 : decode cX2_eases 178 = .ok (.iload_n 3, 1) := dk_29 (dk_at dksX2_eases_7 16 rfl rfl)
theorem dX2_eases_179 : decode cX2_eases 179 = .ok (.aload_n 0, 1) := dk_42 (dk_at dksX2_eases_7 17 rfl rfl)
theorem dX2_eases_180 : decode cX2_eases 180 = .ok (.getfield 221, 3) := dk_180 0 221 (dk_at dksX2_eases_7 18 rfl rfl)
theorem dX2_eases_183 : decode cX2_eases 183 = .ok (.iload_n 1, 1) := dk_27 (dk_at dksX2_eases_7 21 rfl rfl)
theorem dX2_eases_184 : decode cX2_eases 184 = .ok (.iaload, 1) := dk_46 (dk_at dksX2_eases_7 22 rfl rfl)
theorem dX2_eases_185 : decode cX2_eases 185 = .ok (.aload_n 0, 1) := dk_42 (dk_at dksX2_eases_7 23 rfl rfl)
theorem dX2_eases_186 : decode cX2_eases 186 = .ok (.getfield 157, 3) := dk_180 0 157 (dk_at dksX2_eases_8 0 rfl rfl)
theorem dX2_eases_189 : decode cX2_eases 189 = .ok (.iload_n 1, 1) := dk_27 (dk_at dksX2_eases_8 3 rfl rfl)
theorem dX2_eases_190 : decode cX2_eases 190 = .ok (.iaload, 1) := dk_46 (dk_at dksX2_eases_8 4 rfl rfl)
theorem dX2_eases_191 : decode cX2_eases 191 = .ok (.iload 4, 2) := dk_21 4 (dk_at dksX2_eases_8 5 rfl rfl)
theorem dX2_eases_193 : decode cX2_eases 193 = .ok (.invokestatic 547, 3) := dk_184 2 35 (dk_at dksX2_eases_8 7 rfl rfl)
theorem dX2_eases_196 : decode cX2_eases 196 = .ok (.iastore, 1) := dk_79 (dk_at dksX2_eases_8 10 rfl rfl)
theorem dX2_eases_197 : decode cX2_eases 197 = .ok (.aload_n 0, 1) := dk_42 (dk_at dksX2_eases_8 11 rfl rfl)
theorem dX2_eases_198 : decode cX2_eases 198 = .ok (.getfield 223, 3) := dk_180 0 223 (dk_at dksX2_eases_8 12 rfl rfl)
theorem dX2_eases_201 : decode cX2_eases 201 = .ok (.iload_n 1, 1) := dk_27 (dk_at dksX2_eases_8 15 rfl rfl)
theorem dX2_eases_202 : decode cX2_eases 202 = .ok (.aload_n 0, 1) := dk_42 (dk_at dksX2_eases_8 16 rfl rfl)
theorem dX2_eases_203 : decode cX2_eases 203 = .ok (.getfield 219, 3) := dk_180 0 219 (dk_at dksX2_eases_8 17 rfl rfl)
theorem dX2_eases_206 : decode cX2_eases 206 = .ok (.iload_n 1, 1) := dk_27 (dk_at dksX2_eases_8 20 rfl rfl)
theorem dX2_eases_207 : decode cX2_eases 207 = .ok (.iaload, 1) := dk_46 (dk_at dksX2_eases_8 21 rfl rfl)
theorem dX2_eases_208 : decode cX2_eases 208 = .ok (.iload_n 3, 1) := dk_29 (dk_at dksX2_eases_8 22 rfl rfl)
theorem dX2_eases_209 : decode cX2_eases 209 = .ok (.isub, 1) := dk_100 (dk_at dksX2_eases_8 23 rfl rfl)
theorem dX2_eases_210 : decode cX2_eases 210 = .ok (.iastore, 1) := dk_79 (dk_at dksX2_eases_9 0 rfl rfl)
theorem dX2_eases_211 : decode cX2_eases 211 = .ok (.iload_n 2, 1) := dk_28 (dk_at dksX2_eases_9 1 rfl rfl)
theorem dX2_eases_212 : decode cX2_eases 212 = .ok (.iconst 3, 1) := dk_6 (dk_at dksX2_eases_9 2 rfl rfl)
theorem dX2_eases_213 : decode cX2_eases 213 = .ok (.if_icmp .ne 36, 3) := dk_160 0 36 (dk_at dksX2_eases_9 3 rfl rfl)
theorem dX2_eases_216 : decode cX2_eases 216 = .ok (.aload_n 0, 1) := dk_42 (dk_at dksX2_eases_9 6 rfl rfl)
theorem dX2_eases_217 : decode cX2_eases 217 = .ok (.getfield 230, 3) := dk_180 0 230 (dk_at dksX2_eases_9 7 rfl rfl)
theorem dX2_eases_220 : decode cX2_eases 220 = .ok (.iload_n 1, 1) := dk_27 (dk_at dksX2_eases_9 10 rfl rfl)
theorem dX2_eases_221 : decode cX2_eases 221 = .ok (.iaload, 1) := dk_46 (dk_at dksX2_eases_9 11 rfl rfl)
theorem dX2_eases_222 : decode cX2_eases 222 = .ok (.aload_n 0, 1) := dk_42 (dk_at dksX2_eases_9 12 rfl rfl)
theorem dX2_eases_223 : decode cX2_eases 223 = .ok (.getfield 214, 3) := dk_180 0 214 (dk_at dksX2_eases_9 13 rfl rfl)
theorem dX2_eases_226 : decode cX2_eases 226 = .ok (.iload_n 1, 1) := dk_27 (dk_at dksX2_eases_9 16 rfl rfl)
theorem dX2_eases_227 : decode cX2_eases 227 = .ok (.iaload, 1) := dk_46 (dk_at dksX2_eases_9 17 rfl rfl)
theorem dX2_eases_228 : decode cX2_eases 228 = .ok (.invokestatic 494, 3) := dk_184 1 238 (dk_at dksX2_eases_9 18 rfl rfl)
theorem dX2_eases_231 : decode cX2_eases 231 = .ok (.if_icmp .le 18, 3) := dk_164 0 18 (dk_at dksX2_eases_9 21 rfl rfl)
theorem dX2_eases_234 : decode cX2_eases 234 = .ok (.aload_n 0, 1) := dk_42 (dk_at dksX2_eases_10 0 rfl rfl)
theorem dX2_eases_235 : decode cX2_eases 235 = .ok (.getfield 230, 3) := dk_180 0 230 (dk_at dksX2_eases_10 1 rfl rfl)
theorem dX2_eases_238 : decode cX2_eases 238 = .ok (.iload_n 1, 1) := dk_27 (dk_at dksX2_eases_10 4 rfl rfl)
theorem dX2_eases_239 : decode cX2_eases 239 = .ok (.aload_n 0, 1) := dk_42 (dk_at dksX2_eases_10 5 rfl rfl)
theorem dX2_eases_240 : decode cX2_eases 240 = .ok (.getfield 214, 3) := dk_180 0 214 (dk_at dksX2_eases_10 6 rfl rfl)
theorem dX2_eases_243 : decode cX2_eases 243 = .ok (.iload_n 1, 1) := dk_27 (dk_at dksX2_eases_10 9 rfl rfl)
theorem dX2_eases_244 : decode cX2_eases 244 = .ok (.iaload, 1) := dk_46 (dk_at dksX2_eases_10 10 rfl rfl)
theorem dX2_eases_245 : decode cX2_eases 245 = .ok (.invokestatic 494, 3) := dk_184 1 238 (dk_at dksX2_eases_10 11 rfl rfl)
theorem dX2_eases_248 : decode cX2_eases 248 = .ok (.iastore, 1) := dk_79 (dk_at dksX2_eases_10 14 rfl rfl)
theorem dX2_eases_249 : decode cX2_eases 249 = .ok (.return_, 1) := dk_177 (dk_at dksX2_eases_10 15 rfl rfl)
def dkwX2_towards_1 : List UInt8 := [164, 0, 9, 26, 29, 100, 167, 0, 4, 27, 172]
abbrev dktX2_towards_1 : List UInt8 := dkwX2_towards_1 ++ []
def dkwX2_towards_0 : List UInt8 := [26, 27, 162, 0, 18, 27, 26, 100, 28, 164, 0, 9, 26, 28, 96, 167, 0, 4, 27, 172, 26, 27, 100, 29]
abbrev dktX2_towards_0 : List UInt8 := dkwX2_towards_0 ++ dktX2_towards_1
theorem dksX2_towards_0 : cX2_towards.data.toList.drop 0 = dktX2_towards_0 := by decide +kernel
theorem dksX2_towards_1 : cX2_towards.data.toList.drop 24 = dktX2_towards_1 := dk_seg dksX2_towards_0 24 rfl rfl
theorem dX2_towards_0 : decode cX2_towards 0 = .ok (.iload_n 0, 1) := dk_26 (dk_at dksX2_towards_0 0 rfl rfl)
theorem dX2_towards_1 : decode cX2_towards 1 = .ok (.iload_n 1, 1) := dk_27 (dk_at dksX2_towards_0 1 rfl rfl)
theorem dX2_towards_2 : decode cX2_towards 2 = .ok (.if_icmp .ge 18, 3) := dk_162 0 18 (dk_at dksX2_towards_0 2 rfl rfl)
theorem dX2_towards_5 : decode cX2_towards 5 = .ok (.iload_n 1, 1) := dk_27 (dk_at dksX2_towards_0 5 rfl rfl)
theorem dX2_towards_6 : decode cX2_towards 6 = .ok (.iload_n 0, 1) := dk_26 (dk_at dksX2_towards_0 6 rfl rfl)
theorem dX2_towards_7 : decode cX2_towards 7 = .ok (.isub, 1) := dk_100 (dk_at dksX2_towards_0 7 rfl rfl)
theorem dX2_towards_8 : decode cX2_towards 8 = .ok (.iload_n 2, 1) := dk_28 (dk_at dksX2_towards_0 8 rfl rfl)
theorem dX2_towards_9 : decode cX2_towards 9 = .ok (.if_icmp .le 9, 3) := dk_164 0 9 (dk_at dksX2_towards_0 9 rfl rfl)
theorem dX2_towards_12 : decode cX2_towards 12 = .ok (.iload_n 0, 1) := dk_26 (dk_at dksX2_towards_0 12 rfl rfl)
theorem dX2_towards_13 : decode cX2_towards 13 = .ok (.iload_n 2, 1) := dk_28 (dk_at dksX2_towards_0 13 rfl rfl)
theorem dX2_towards_14 : decode cX2_towards 14 = .ok (.iadd, 1) := dk_96 (dk_at dksX2_towards_0 14 rfl rfl)
theorem dX2_towards_15 : decode cX2_towards 15 = .ok (.goto 4, 3) := dk_167 0 4 (dk_at dksX2_towards_0 15 rfl rfl)
theorem dX2_towards_18 : decode cX2_towards 18 = .ok (.iload_n 1, 1) := dk_27 (dk_at dksX2_towards_0 18 rfl rfl)
theorem dX2_towards_19 : decode cX2_towards 19 = .ok (.ireturn, 1) := dk_172 (dk_at dksX2_towards_0 19 rfl rfl)
theorem dX2_towards_20 : decode cX2_towards 20 = .ok (.iload_n 0, 1) := dk_26 (dk_at dksX2_towards_0 20 rfl rfl)
theorem dX2_towards_21 : decode cX2_towards 21 = .ok (.iload_n 1, 1) := dk_27 (dk_at dksX2_towards_0 21 rfl rfl)
theorem dX2_towards_22 : decode cX2_towards 22 = .ok (.isub, 1) := dk_100 (dk_at dksX2_towards_0 22 rfl rfl)
theorem dX2_towards_23 : decode cX2_towards 23 = .ok (.iload_n 3, 1) := dk_29 (dk_at dksX2_towards_0 23 rfl rfl)
theorem dX2_towards_24 : decode cX2_towards 24 = .ok (.if_icmp .le 9, 3) := dk_164 0 9 (dk_at dksX2_towards_1 0 rfl rfl)
theorem dX2_towards_27 : decode cX2_towards 27 = .ok (.iload_n 0, 1) := dk_26 (dk_at dksX2_towards_1 3 rfl rfl)
theorem dX2_towards_28 : decode cX2_towards 28 = .ok (.iload_n 3, 1) := dk_29 (dk_at dksX2_towards_1 4 rfl rfl)
theorem dX2_towards_29 : decode cX2_towards 29 = .ok (.isub, 1) := dk_100 (dk_at dksX2_towards_1 5 rfl rfl)
theorem dX2_towards_30 : decode cX2_towards 30 = .ok (.goto 4, 3) := dk_167 0 4 (dk_at dksX2_towards_1 6 rfl rfl)
theorem dX2_towards_33 : decode cX2_towards 33 = .ok (.iload_n 1, 1) := dk_27 (dk_at dksX2_towards_1 9 rfl rfl)
theorem dX2_towards_34 : decode cX2_towards 34 = .ok (.ireturn, 1) := dk_172 (dk_at dksX2_towards_1 10 rfl rfl)
def dkwX2_sizeOf_0 : List UInt8 := [26, 156, 0, 8, 26, 116, 167, 0, 4, 26, 172]
abbrev dktX2_sizeOf_0 : List UInt8 := dkwX2_sizeOf_0 ++ []
theorem dksX2_sizeOf_0 : cX2_sizeOf.data.toList.drop 0 = dktX2_sizeOf_0 := by decide +kernel
theorem dX2_sizeOf_0 : decode cX2_sizeOf 0 = .ok (.iload_n 0, 1) := dk_26 (dk_at dksX2_sizeOf_0 0 rfl rfl)
theorem dX2_sizeOf_1 : decode cX2_sizeOf 1 = .ok (.ifCond .ge 8, 3) := dk_156 0 8 (dk_at dksX2_sizeOf_0 1 rfl rfl)
theorem dX2_sizeOf_4 : decode cX2_sizeOf 4 = .ok (.iload_n 0, 1) := dk_26 (dk_at dksX2_sizeOf_0 4 rfl rfl)
theorem dX2_sizeOf_5 : decode cX2_sizeOf 5 = .ok (.ineg, 1) := dk_116 (dk_at dksX2_sizeOf_0 5 rfl rfl)
theorem dX2_sizeOf_6 : decode cX2_sizeOf 6 = .ok (.goto 4, 3) := dk_167 0 4 (dk_at dksX2_sizeOf_0 6 rfl rfl)
theorem dX2_sizeOf_9 : decode cX2_sizeOf 9 = .ok (.iload_n 0, 1) := dk_26 (dk_at dksX2_sizeOf_0 9 rfl rfl)
theorem dX2_sizeOf_10 : decode cX2_sizeOf 10 = .ok (.ireturn, 1) := dk_172 (dk_at dksX2_sizeOf_0 10 rfl rfl)
def dkwX2_shed_7 : List UInt8 := [16, 7, 182, 2, 18, 132, 2, 255, 167, 255, 128, 177]
abbrev dktX2_shed_7 : List UInt8 := dkwX2_shed_7 ++ []
def dkwX2_shed_6 : List UInt8 := [42, 6, 28, 42, 180, 1, 23, 28, 46, 182, 2, 0, 42, 180, 0, 234, 28, 46, 154, 0, 10, 42, 28]
abbrev dktX2_shed_6 : List UInt8 := dkwX2_shed_6 ++ dktX2_shed_7
def dkwX2_shed_5 : List UInt8 := [79, 42, 180, 0, 228, 28, 3, 79, 42, 180, 0, 230, 28, 3, 79, 27, 42, 180, 1, 23, 28, 46, 100, 60]
abbrev dktX2_shed_5 : List UInt8 := dkwX2_shed_5 ++ dktX2_shed_6
def dkwX2_shed_4 : List UInt8 := [180, 0, 230, 28, 46, 154, 0, 6, 167, 0, 68, 42, 180, 0, 216, 28, 3, 79, 42, 180, 0, 221, 28, 3]
abbrev dktX2_shed_4 : List UInt8 := dkwX2_shed_4 ++ dktX2_shed_5
def dkwX2_shed_3 : List UInt8 := [28, 46, 154, 0, 33, 42, 180, 0, 221, 28, 46, 154, 0, 24, 42, 180, 0, 228, 28, 46, 154, 0, 15, 42]
abbrev dktX2_shed_3 : List UInt8 := dkwX2_shed_3 ++ dktX2_shed_4
def dkwX2_shed_2 : List UInt8 := [155, 0, 130, 27, 42, 180, 1, 123, 164, 0, 122, 42, 180, 1, 23, 28, 46, 153, 0, 107, 42, 180, 0, 216]
abbrev dktX2_shed_2 : List UInt8 := dkwX2_shed_2 ++ dktX2_shed_3
def dkwX2_shed_1 : List UInt8 := [42, 180, 1, 23, 28, 46, 96, 60, 132, 2, 1, 167, 255, 225, 42, 180, 1, 105, 4, 100, 61, 28]
abbrev dktX2_shed_1 : List UInt8 := dkwX2_shed_1 ++ dktX2_shed_2
def dkwX2_shed_0 : List UInt8 := [3, 60, 3, 61, 28, 42, 180, 1, 105, 162, 0, 29, 42, 180, 1, 23, 28, 42, 28, 182, 2, 39, 79, 27]
abbrev dktX2_shed_0 : List UInt8 := dkwX2_shed_0 ++ dktX2_shed_1
theorem dksX2_shed_0 : cX2_shed.data.toList.drop 0 = dktX2_shed_0 := by decide +kernel
theorem dksX2_shed_1 : cX2_shed.data.toList.drop 24 = dktX2_shed_1 := dk_seg dksX2_shed_0 24 rfl rfl
theorem dksX2_shed_2 : cX2_shed.data.toList.drop 46 = dktX2_shed_2 := dk_seg dksX2_shed_1 22 rfl rfl
theorem dksX2_shed_3 : cX2_shed.data.toList.drop 70 = dktX2_shed_3 := dk_seg dksX2_shed_2 24 rfl rfl
theorem dksX2_shed_4 : cX2_shed.data.toList.drop 94 = dktX2_shed_4 := dk_seg dksX2_shed_3 24 rfl rfl
theorem dksX2_shed_5 : cX2_shed.data.toList.drop 118 = dktX2_shed_5 := dk_seg dksX2_shed_4 24 rfl rfl
theorem dksX2_shed_6 : cX2_shed.data.toList.drop 142 = dktX2_shed_6 := dk_seg dksX2_shed_5 24 rfl rfl
theorem dksX2_shed_7 : cX2_shed.data.toList.drop 165 = dktX2_shed_7 := dk_seg dksX2_shed_6 23 rfl rfl
theorem dX2_shed_0 : decode cX2_shed 0 = .ok (.iconst 0, 1) := dk_3 (dk_at dksX2_shed_0 0 rfl rfl)
theorem dX2_shed_1 : decode cX2_shed 1 = .ok (.istore_n 1, 1) := dk_60 (dk_at dksX2_shed_0 1 rfl rfl)
theorem dX2_shed_2 : decode cX2_shed 2 = .ok (.iconst 0, 1) := dk_3 (dk_at dksX2_shed_0 2 rfl rfl)
theorem dX2_shed_3 : decode cX2_shed 3 = .ok (.istore_n 2, 1) := dk_61 (dk_at dksX2_shed_0 3 rfl rfl)
theorem dX2_shed_4 : decode cX2_shed 4 = .ok (.iload_n 2, 1) := dk_28 (dk_at dksX2_shed_0 4 rfl rfl)
theorem dX2_shed_5 : decode cX2_shed 5 = .ok (.aload_n 0, 1) := dk_42 (dk_at dksX2_shed_0 5 rfl rfl)
theorem dX2_shed_6 : decode cX2_shed 6 = .ok (.getfield 361, 3) := dk_180 1 105 (dk_at dksX2_shed_0 6 rfl rfl)
theorem dX2_shed_9 : decode cX2_shed 9 = .ok (.if_icmp .ge 29, 3) := dk_162 0 29 (dk_at dksX2_shed_0 9 rfl rfl)
theorem dX2_shed_12 : decode cX2_shed 12 = .ok (.aload_n 0, 1) := dk_42 (dk_at dksX2_shed_0 12 rfl rfl)
theorem dX2_shed_13 : decode cX2_shed 13 = .ok (.getfield 279, 3) := dk_180 1 23 (dk_at dksX2_shed_0 13 rfl rfl)
theorem dX2_shed_16 : decode cX2_shed 16 = .ok (.iload_n 2, 1) := dk_28 (dk_at dksX2_shed_0 16 rfl rfl)
theorem dX2_shed_17 : decode cX2_shed 17 = .ok (.aload_n 0, 1) := dk_42 (dk_at dksX2_shed_0 17 rfl rfl)
theorem dX2_shed_18 : decode cX2_shed 18 = .ok (.iload_n 2, 1) := dk_28 (dk_at dksX2_shed_0 18 rfl rfl)
theorem dX2_shed_19 : decode cX2_shed 19 = .ok (.invokevirtual 551, 3) := dk_182 2 39 (dk_at dksX2_shed_0 19 rfl rfl)
theorem dX2_shed_22 : decode cX2_shed 22 = .ok (.iastore, 1) := dk_79 (dk_at dksX2_shed_0 22 rfl rfl)
theorem dX2_shed_23 : decode cX2_shed 23 = .ok (.iload_n 1, 1) := dk_27 (dk_at dksX2_shed_0 23 rfl rfl)
theorem dX2_shed_24 : decode cX2_shed 24 = .ok (.aload_n 0, 1) := dk_42 (dk_at dksX2_shed_1 0 rfl rfl)
theorem dX2_shed_25 : decode cX2_shed 25 = .ok (.getfield 279, 3) := dk_180 1 23 (dk_at dksX2_shed_1 1 rfl rfl)
theorem dX2_shed_28 : decode cX2_shed 28 = .ok (.iload_n 2, 1) := dk_28 (dk_at dksX2_shed_1 4 rfl rfl)
theorem dX2_shed_29 : decode cX2_shed 29 = .ok (.iaload, 1) := dk_46 (dk_at dksX2_shed_1 5 rfl rfl)
theorem dX2_shed_30 : decode cX2_shed 30 = .ok (.iadd, 1) := dk_96 (dk_at dksX2_shed_1 6 rfl rfl)
theorem dX2_shed_31 : decode cX2_shed 31 = .ok (.istore_n 1, 1) := dk_60 (dk_at dksX2_shed_1 7 rfl rfl)
theorem dX2_shed_32 : decode cX2_shed 32 = .ok (.iinc 2 1, 3) := dk_132 2 1 (dk_at dksX2_shed_1 8 rfl rfl)
theorem dX2_shed_35 : decode cX2_shed 35 = .ok (.goto (-31), 3) := dk_167 255 225 (dk_at dksX2_shed_1 11 rfl rfl)
theorem dX2_shed_38 : decode cX2_shed 38 = .ok (.aload_n 0, 1) := dk_42 (dk_at dksX2_shed_1 14 rfl rfl)
theorem dX2_shed_39 : decode cX2_shed 39 = .ok (.getfield 361, 3) := dk_180 1 105 (dk_at dksX2_shed_1 15 rfl rfl)
theorem dX2_shed_42 : decode cX2_shed 42 = .ok (.iconst 1, 1) := dk_4 (dk_at dksX2_shed_1 18 rfl rfl)
theorem dX2_shed_43 : decode cX2_shed 43 = .ok (.isub, 1) := dk_100 (dk_at dksX2_shed_1 19 rfl rfl)
theorem dX2_shed_44 : decode cX2_shed 44 = .ok (.istore_n 2, 1) := dk_61 (dk_at dksX2_shed_1 20 rfl rfl)
theorem dX2_shed_45 : decode cX2_shed 45 = .ok (.iload_n 2, 1) := dk_28 (dk_at dksX2_shed_1 21 rfl rfl)
theorem dX2_shed_46 : decode cX2_shed 46 = .ok (.ifCond .lt 130, 3) := dk_155 0 130 (dk_at dksX2_shed_2 0 rfl rfl)
theorem dX2_shed_49 : decode cX2_shed 49 = .ok (.iload_n 1, 1) := dk_27 (dk_at dksX2_shed_2 3 rfl rfl)
theorem dX2_shed_50 : decode cX2_shed 50 = .ok (.aload_n 0, 1) := dk_42 (dk_at dksX2_shed_2 4 rfl rfl)
theorem dX2_shed_51 : decode cX2_shed 51 = .ok (.getfield 379, 3) := dk_180 1 123 (dk_at dksX2_shed_2 5 rfl rfl)
theorem dX2_shed_54 : decode cX2_shed 54 = .ok (.if_icmp .le 122, 3) := dk_164 0 122 (dk_at dksX2_shed_2 8 rfl rfl)
theorem dX2_shed_57 : decode cX2_shed 57 = .ok (.aload_n 0, 1) := dk_42 (dk_at dksX2_shed_2 11 rfl rfl)
theorem dX2_shed_58 : decode cX2_shed 58 = .ok (.getfield 279, 3) := dk_180 1 23 (dk_at dksX2_shed_2 12 rfl rfl)
theorem dX2_shed_61 : decode cX2_shed 61 = .ok (.iload_n 2, 1) := dk_28 (dk_at dksX2_shed_2 15 rfl rfl)
theorem dX2_shed_62 : decode cX2_shed 62 = .ok (.iaload, 1) := dk_46 (dk_at dksX2_shed_2 16 rfl rfl)
theorem dX2_shed_63 : decode cX2_shed 63 = .ok (.ifCond .eq 107, 3) := dk_153 0 107 (dk_at dksX2_shed_2 17 rfl rfl)
theorem dX2_shed_66 : decode cX2_shed 66 = .ok (.aload_n 0, 1) := dk_42 (dk_at dksX2_shed_2 20 rfl rfl)
theorem dX2_shed_67 : decode cX2_shed 67 = .ok (.getfield 216, 3) := dk_180 0 216 (dk_at dksX2_shed_2 21 rfl rfl)
theorem dX2_shed_70 : decode cX2_shed 70 = .ok (.iload_n 2, 1) := dk_28 (dk_at dksX2_shed_3 0 rfl rfl)
theorem dX2_shed_71 : decode cX2_shed 71 = .ok (.iaload, 1) := dk_46 (dk_at dksX2_shed_3 1 rfl rfl)
theorem dX2_shed_72 : decode cX2_shed 72 = .ok (.ifCond .ne 33, 3) := dk_154 0 33 (dk_at dksX2_shed_3 2 rfl rfl)
theorem dX2_shed_75 : decode cX2_shed 75 = .ok (.aload_n 0, 1) := dk_42 (dk_at dksX2_shed_3 5 rfl rfl)
theorem dX2_shed_76 : decode cX2_shed 76 = .ok (.getfield 221, 3) := dk_180 0 221 (dk_at dksX2_shed_3 6 rfl rfl)
theorem dX2_shed_79 : decode cX2_shed 79 = .ok (.iload_n 2, 1) := dk_28 (dk_at dksX2_shed_3 9 rfl rfl)
theorem dX2_shed_80 : decode cX2_shed 80 = .ok (.iaload, 1) := dk_46 (dk_at dksX2_shed_3 10 rfl rfl)
theorem dX2_shed_81 : decode cX2_shed 81 = .ok (.ifCond .ne 24, 3) := dk_154 0 24 (dk_at dksX2_shed_3 11 rfl rfl)
theorem dX2_shed_84 : decode cX2_shed 84 = .ok (.aload_n 0, 1) := dk_42 (dk_at dksX2_shed_3 14 rfl rfl)
theorem dX2_shed_85 : decode cX2_shed 85 = .ok (.getfield 228, 3) := dk_180 0 228 (dk_at dksX2_shed_3 15 rfl rfl)
theorem dX2_shed_88 : decode cX2_shed 88 = .ok (.iload_n 2, 1) := dk_28 (dk_at dksX2_shed_3 18 rfl rfl)
theorem dX2_shed_89 : decode cX2_shed 89 = .ok (.iaload, 1) := dk_46 (dk_at dksX2_shed_3 19 rfl rfl)
theorem dX2_shed_90 : decode cX2_shed 90 = .ok (.ifCond .ne 15, 3) := dk_154 0 15 (dk_at dksX2_shed_3 20 rfl rfl)
theorem dX2_shed_93 : decode cX2_shed 93 = .ok (.aload_n 0, 1) := dk_42 (dk_at dksX2_shed_3 23 rfl rfl)
theorem dX2_shed_94 : decode cX2_shed 94 = .ok (.getfield 230, 3) := dk_180 0 230 (dk_at dksX2_shed_4 0 rfl rfl)
theorem dX2_shed_97 : decode cX2_shed 97 = .ok (.iload_n 2, 1) := dk_28 (dk_at dksX2_shed_4 3 rfl rfl)
theorem dX2_shed_98 : decode cX2_shed 98 = .ok (.iaload, 1) := dk_46 (dk_at dksX2_shed_4 4 rfl rfl)
theorem dX2_shed_99 : decode cX2_shed 99 = .ok (.ifCond .ne 6, 3) := dk_154 0 6 (dk_at dksX2_shed_4 5 rfl rfl)
theorem dX2_shed_102 : decode cX2_shed 102 = .ok (.goto 68, 3) := dk_167 0 68 (dk_at dksX2_shed_4 8 rfl rfl)
theorem dX2_shed_105 : decode cX2_shed 105 = .ok (.aload_n 0, 1) := dk_42 (dk_at dksX2_shed_4 11 rfl rfl)
theorem dX2_shed_106 : decode cX2_shed 106 = .ok (.getfield 216, 3) := dk_180 0 216 (dk_at dksX2_shed_4 12 rfl rfl)
theorem dX2_shed_109 : decode cX2_shed 109 = .ok (.iload_n 2, 1) := dk_28 (dk_at dksX2_shed_4 15 rfl rfl)
theorem dX2_shed_110 : decode cX2_shed 110 = .ok (.iconst 0, 1) := dk_3 (dk_at dksX2_shed_4 16 rfl rfl)
theorem dX2_shed_111 : decode cX2_shed 111 = .ok (.iastore, 1) := dk_79 (dk_at dksX2_shed_4 17 rfl rfl)
theorem dX2_shed_112 : decode cX2_shed 112 = .ok (.aload_n 0, 1) := dk_42 (dk_at dksX2_shed_4 18 rfl rfl)
theorem dX2_shed_113 : decode cX2_shed 113 = .ok (.getfield 221, 3) := dk_180 0 221 (dk_at dksX2_shed_4 19 rfl rfl)
theorem dX2_shed_116 : decode cX2_shed 116 = .ok (.iload_n 2, 1) := dk_28 (dk_at dksX2_shed_4 22 rfl rfl)
theorem dX2_shed_117 : decode cX2_shed 117 = .ok (.iconst 0, 1) := dk_3 (dk_at dksX2_shed_4 23 rfl rfl)
theorem dX2_shed_118 : decode cX2_shed 118 = .ok (.iastore, 1) := dk_79 (dk_at dksX2_shed_5 0 rfl rfl)
theorem dX2_shed_119 : decode cX2_shed 119 = .ok (.aload_n 0, 1) := dk_42 (dk_at dksX2_shed_5 1 rfl rfl)
theorem dX2_shed_120 : decode cX2_shed 120 = .ok (.getfield 228, 3) := dk_180 0 228 (dk_at dksX2_shed_5 2 rfl rfl)
theorem dX2_shed_123 : decode cX2_shed 123 = .ok (.iload_n 2, 1) := dk_28 (dk_at dksX2_shed_5 5 rfl rfl)
theorem dX2_shed_124 : decode cX2_shed 124 = .ok (.iconst 0, 1) := dk_3 (dk_at dksX2_shed_5 6 rfl rfl)
theorem dX2_shed_125 : decode cX2_shed 125 = .ok (.iastore, 1) := dk_79 (dk_at dksX2_shed_5 7 rfl rfl)
theorem dX2_shed_126 : decode cX2_shed 126 = .ok (.aload_n 0, 1) := dk_42 (dk_at dksX2_shed_5 8 rfl rfl)
theorem dX2_shed_127 : decode cX2_shed 127 = .ok (.getfield 230, 3) := dk_180 0 230 (dk_at dksX2_shed_5 9 rfl rfl)
theorem dX2_shed_130 : decode cX2_shed 130 = .ok (.iload_n 2, 1) := dk_28 (dk_at dksX2_shed_5 12 rfl rfl)
theorem dX2_shed_131 : decode cX2_shed 131 = .ok (.iconst 0, 1) := dk_3 (dk_at dksX2_shed_5 13 rfl rfl)
theorem dX2_shed_132 : decode cX2_shed 132 = .ok (.iastore, 1) := dk_79 (dk_at dksX2_shed_5 14 rfl rfl)
theorem dX2_shed_133 : decode cX2_shed 133 = .ok (.iload_n 1, 1) := dk_27 (dk_at dksX2_shed_5 15 rfl rfl)
theorem dX2_shed_134 : decode cX2_shed 134 = .ok (.aload_n 0, 1) := dk_42 (dk_at dksX2_shed_5 16 rfl rfl)
theorem dX2_shed_135 : decode cX2_shed 135 = .ok (.getfield 279, 3) := dk_180 1 23 (dk_at dksX2_shed_5 17 rfl rfl)
theorem dX2_shed_138 : decode cX2_shed 138 = .ok (.iload_n 2, 1) := dk_28 (dk_at dksX2_shed_5 20 rfl rfl)
theorem dX2_shed_139 : decode cX2_shed 139 = .ok (.iaload, 1) := dk_46 (dk_at dksX2_shed_5 21 rfl rfl)
theorem dX2_shed_140 : decode cX2_shed 140 = .ok (.isub, 1) := dk_100 (dk_at dksX2_shed_5 22 rfl rfl)
theorem dX2_shed_141 : decode cX2_shed 141 = .ok (.istore_n 1, 1) := dk_60 (dk_at dksX2_shed_5 23 rfl rfl)
theorem dX2_shed_142 : decode cX2_shed 142 = .ok (.aload_n 0, 1) := dk_42 (dk_at dksX2_shed_6 0 rfl rfl)
theorem dX2_shed_143 : decode cX2_shed 143 = .ok (.iconst 3, 1) := dk_6 (dk_at dksX2_shed_6 1 rfl rfl)
theorem dX2_shed_144 : decode cX2_shed 144 = .ok (.iload_n 2, 1) := dk_28 (dk_at dksX2_shed_6 2 rfl rfl)
theorem dX2_shed_145 : decode cX2_shed 145 = .ok (.aload_n 0, 1) := dk_42 (dk_at dksX2_shed_6 3 rfl rfl)
theorem dX2_shed_146 : decode cX2_shed 146 = .ok (.getfield 279, 3) := dk_180 1 23 (dk_at dksX2_shed_6 4 rfl rfl)
theorem dX2_shed_149 : decode cX2_shed 149 = .ok (.iload_n 2, 1) := dk_28 (dk_at dksX2_shed_6 7 rfl rfl)
theorem dX2_shed_150 : decode cX2_shed 150 = .ok (.iaload, 1) := dk_46 (dk_at dksX2_shed_6 8 rfl rfl)
theorem dX2_shed_151 : decode cX2_shed 151 = .ok (.invokevirtual 512, 3) := dk_182 2 0 (dk_at dksX2_shed_6 9 rfl rfl)
theorem dX2_shed_154 : decode cX2_shed 154 = .ok (.aload_n 0, 1) := dk_42 (dk_at dksX2_shed_6 12 rfl rfl)
theorem dX2_shed_155 : decode cX2_shed 155 = .ok (.getfield 234, 3) := dk_180 0 234 (dk_at dksX2_shed_6 13 rfl rfl)
theorem dX2_shed_158 : decode cX2_shed 158 = .ok (.iload_n 2, 1) := dk_28 (dk_at dksX2_shed_6 16 rfl rfl)
theorem dX2_shed_159 : decode cX2_shed 159 = .ok (.iaload, 1) := dk_46 (dk_at dksX2_shed_6 17 rfl rfl)
theorem dX2_shed_160 : decode cX2_shed 160 = .ok (.ifCond .ne 10, 3) := dk_154 0 10 (dk_at dksX2_shed_6 18 rfl rfl)
theorem dX2_shed_163 : decode cX2_shed 163 = .ok (.aload_n 0, 1) := dk_42 (dk_at dksX2_shed_6 21 rfl rfl)
theorem dX2_shed_164 : decode cX2_shed 164 = .ok (.iload_n 2, 1) := dk_28 (dk_at dksX2_shed_6 22 rfl rfl)
theorem dX2_shed_165 : decode cX2_shed 165 = .ok (.bipush 7, 2) := dk_16 7 (dk_at dksX2_shed_7 0 rfl rfl)
theorem dX2_shed_167 : decode cX2_shed 167 = .ok (.invokevirtual 530, 3) := dk_182 2 18 (dk_at dksX2_shed_7 2 rfl rfl)
theorem dX2_shed_170 : decode cX2_shed 170 = .ok (.iinc 2 (-1), 3) := dk_132 2 255 (dk_at dksX2_shed_7 5 rfl rfl)
theorem dX2_shed_173 : decode cX2_shed 173 = .ok (.goto (-128), 3) := dk_167 255 128 (dk_at dksX2_shed_7 8 rfl rfl)
theorem dX2_shed_176 : decode cX2_shed 176 = .ok (.return_, 1) := dk_177 (dk_at dksX2_shed_7 11 rfl rfl)
def dkwX2_draw_8 : List UInt8 := [167, 0, 5, 21, 5, 96, 172, 28, 5, 108, 172, 28, 29, 96, 21, 4, 96, 21, 5, 96, 172]
abbrev dktX2_draw_8 : List UInt8 := dkwX2_draw_8 ++ []
def dkwX2_draw_7 : List UInt8 := [28, 29, 164, 0, 7, 28, 167, 0, 4, 29, 172, 28, 29, 96, 21, 4, 21, 5, 164, 0, 8, 21, 4]
abbrev dktX2_draw_7 : List UInt8 := dkwX2_draw_7 ++ dktX2_draw_8
def dkwX2_draw_6 : List UInt8 := [171, 0, 0, 0, 0, 0, 0, 70, 0, 0, 0, 3, 0, 0, 0, 2, 0, 0, 0, 36, 0, 0, 0, 7, 0, 0, 0, 47, 0, 0, 0, 8, 0, 0, 0, 66]
abbrev dktX2_draw_6 : List UInt8 := dkwX2_draw_6 ++ dktX2_draw_7
def dkwX2_draw_5 : List UInt8 := [54, 5, 42, 180, 0, 143, 27, 46]
abbrev dktX2_draw_5 : List UInt8 := dkwX2_draw_5 ++ dktX2_draw_6
def dkwX2_draw_4 : List UInt8 := [54, 4, 42, 27, 16, 16, 182, 1, 235, 153, 0, 14, 42, 180, 0, 230, 27, 46, 5, 108, 167, 0, 4, 3]
abbrev dktX2_draw_4 : List UInt8 := dkwX2_draw_4 ++ dktX2_draw_5
def dkwX2_draw_3 : List UInt8 := [153, 0, 22, 42, 180, 0, 228, 27, 46, 42, 180, 0, 163, 27, 46, 104, 16, 100, 108, 167, 0, 4, 3]
abbrev dktX2_draw_3 : List UInt8 := dkwX2_draw_3 ++ dktX2_draw_4
def dkwX2_draw_2 : List UInt8 := [27, 46, 158, 0, 12, 42, 180, 0, 155, 27, 46, 167, 0, 4, 3, 62, 42, 27, 16, 8, 182, 1, 235]
abbrev dktX2_draw_2 : List UInt8 := dkwX2_draw_2 ++ dktX2_draw_3
def dkwX2_draw_1 : List UInt8 := [184, 1, 238, 16, 100, 108, 167, 0, 4, 3, 61, 42, 27, 5, 182, 1, 235, 153, 0, 21, 42, 180, 0, 223]
abbrev dktX2_draw_1 : List UInt8 := dkwX2_draw_1 ++ dktX2_draw_2
def dkwX2_draw_0 : List UInt8 := [42, 27, 4, 182, 1, 235, 153, 0, 25, 42, 180, 0, 214, 27, 46, 42, 180, 0, 149, 27, 46, 104]
abbrev dktX2_draw_0 : List UInt8 := dkwX2_draw_0 ++ dktX2_draw_1
theorem dksX2_draw_0 : cX2_draw.data.toList.drop 0 = dktX2_draw_0 := by decide +kernel
theorem dksX2_draw_1 : cX2_draw.data.toList.drop 22 = dktX2_draw_1 := dk_seg dksX2_draw_0 22 rfl rfl
theorem dksX2_draw_2 : cX2_draw.data.toList.drop 46 = dktX2_draw_2 := dk_seg dksX2_draw_1 24 rfl rfl
theorem dksX2_draw_3 : cX2_draw.data.toList.drop 69 = dktX2_draw_3 := dk_seg dksX2_draw_2 23 rfl rfl
theorem dksX2_draw_4 : cX2_draw.data.toList.drop 92 = dktX2_draw_4 := dk_seg dksX2_draw_3 23 rfl rfl
theorem dksX2_draw_5 : cX2_draw.data.toList.drop 116 = dktX2_draw_5 := dk_seg dksX2_draw_4 24 rfl rfl
theorem dksX2_draw_6 : cX2_draw.data.toList.drop 124 = dktX2_draw_6 := dk_seg dksX2_draw_5 8 rfl rfl
theorem dksX2_draw_7 : cX2_draw.data.toList.drop 160 = dktX2_draw_7 := dk_seg dksX2_draw_6 36 rfl rfl
theorem dksX2_draw_8 : cX2_draw.data.toList.drop 183 = dktX2_draw_8 := dk_seg dksX2_draw_7 23 rfl rfl
theorem dX2_draw_0 : decode cX2_draw 0 = .ok (.aload_n 0, 1) := dk_42 (dk_at dksX2_draw_0 0 rfl rfl)
theorem dX2_draw_1 : decode cX2_draw 1 = .ok (.iload_n 1, 1) := dk_27 (dk_at dksX2_draw_0 1 rfl rfl)
theorem dX2_draw_2 : decode cX2_draw 2 = .ok (.iconst 1, 1) := dk_4 (dk_at dksX2_draw_0 2 rfl rfl)
theorem dX2_draw_3 : decode cX2_draw 3 = .ok (.invokevirtual 491, 3) := dk_182 1 235 (dk_at dksX2_draw_0 3 rfl rfl)
theorem dX2_draw_6 : decode cX2_draw 6 = .ok (.ifCond .eq 25, 3) := dk_153 0 25 (dk_at dksX2_draw_0 6 rfl rfl)
theorem dX2_draw_9 : decode cX2_draw 9 = .ok (.aload_n 0, 1) := dk_42 (dk_at dksX2_draw_0 9 rfl rfl)
theorem dX2_draw_10 : decode cX2_draw 10 = .ok (.getfield 214, 3) := dk_180 0 214 (dk_at dksX2_draw_0 10 rfl rfl)
theorem dX2_draw_13 : decode cX2_draw 13 = .ok (.iload_n 1, 1) := dk_27 (dk_at dksX2_draw_0 13 rfl rfl)
theorem dX2_draw_14 : decode cX2_draw 14 = .ok (.iaload, 1) := dk_46 (dk_at dksX2_draw_0 14 rfl rfl)
theorem dX2_draw_15 : decode cX2_draw 15 = .ok (.aload_n 0, 1) := dk_42 (dk_at dksX2_draw_0 15 rfl rfl)
theorem dX2_draw_16 : decode cX2_draw 16 = .ok (.getfield 149, 3) := dk_180 0 149 (dk_at dksX2_draw_0 16 rfl rfl)
theorem dX2_draw_19 : decode cX2_draw 19 = .ok (.iload_n 1, 1) := dk_27 (dk_at dksX2_draw_0 19 rfl rfl)
theorem dX2_draw_20 : decode cX2_draw 20 = .ok (.iaload, 1) := dk_46 (dk_at dksX2_draw_0 20 rfl rfl)
theorem dX2_draw_21 : decode cX2_draw 21 = .ok (.imul, 1) := dk_104 (dk_at dksX2_draw_0 21 rfl rfl)
theorem dX2_draw_22 : decode cX2_draw 22 = .ok (.invokestatic 494, 3) := dk_184 1 238 (dk_at dksX2_draw_1 0 rfl rfl)
theorem dX2_draw_25 : decode cX2_draw 25 = .ok (.bipush 100, 2) := dk_16 100 (dk_at dksX2_draw_1 3 rfl rfl)
theorem dX2_draw_27 : decode cX2_draw 27 = .ok (.idiv, 1) := dk_108 (dk_at dksX2_draw_1 5 rfl rfl)
theorem dX2_draw_28 : decode cX2_draw 28 = .ok (.goto 4, 3) := dk_167 0 4 (dk_at dksX2_draw_1 6 rfl rfl)
theorem dX2_draw_31 : decode cX2_draw 31 = .ok (.iconst 0, 1) := dk_3 (dk_at dksX2_draw_1 9 rfl rfl)
theorem dX2_draw_32 : decode cX2_draw 32 = .ok (.istore_n 2, 1) := dk_61 (dk_at dksX2_draw_1 10 rfl rfl)
theorem dX2_draw_33 : decode cX2_draw 33 = .ok (.aload_n 0, 1) := dk_42 (dk_at dksX2_draw_1 11 rfl rfl)
theorem dX2_draw_34 : decode cX2_draw 34 = .ok (.iload_n 1, 1) := dk_27 (dk_at dksX2_draw_1 12 rfl rfl)
theorem dX2_draw_35 : decode cX2_draw 35 = .ok (.iconst 2, 1) := dk_5 (dk_at dksX2_draw_1 13 rfl rfl)
theorem dX2_draw_36 : decode cX2_draw 36 = .ok (.invokevirtual 491, 3) := dk_182 1 235 (dk_at dksX2_draw_1 14 rfl rfl)
theorem dX2_draw_39 : decode cX2_draw 39 = .ok (.ifCond .eq 21, 3) := dk_153 0 21 (dk_at dksX2_draw_1 17 rfl rfl)
theorem dX2_draw_42 : decode cX2_draw 42 = .ok (.aload_n 0, 1) := dk_42 (dk_at dksX2_draw_1 20 rfl rfl)
theorem dX2_draw_43 : decode cX2_draw 43 = .ok (.getfield 223, 3) := dk_180 0 223 (dk_at dksX2_draw_1 21 rfl rfl)
theorem dX2_draw_46 : decode cX2_draw 46 = .ok (.iload_n 1, 1) := dk_27 (dk_at dksX2_draw_2 0 rfl rfl)
theorem dX2_draw_47 : decode cX2_draw 47 = .ok (.iaload, 1) := dk_46 (dk_at dksX2_draw_2 1 rfl rfl)
theorem dX2_draw_48 : decode cX2_draw 48 = .ok (.ifCond .le 12, 3) := dk_158 0 12 (dk_at dksX2_draw_2 2 rfl rfl)
theorem dX2_draw_51 : decode cX2_draw 51 = .ok (.aload_n 0, 1) := dk_42 (dk_at dksX2_draw_2 5 rfl rfl)
theorem dX2_draw_52 : decode cX2_draw 52 = .ok (.getfield 155, 3) := dk_180 0 155 (dk_at dksX2_draw_2 6 rfl rfl)
theorem dX2_draw_55 : decode cX2_draw 55 = .ok (.iload_n 1, 1) := dk_27 (dk_at dksX2_draw_2 9 rfl rfl)
theorem dX2_draw_56 : decode cX2_draw 56 = .ok (.iaload, 1) := dk_46 (dk_at dksX2_draw_2 10 rfl rfl)
theorem dX2_draw_57 : decode cX2_draw 57 = .ok (.goto 4, 3) := dk_167 0 4 (dk_at dksX2_draw_2 11 rfl rfl)
theorem dX2_draw_60 : decode cX2_draw 60 = .ok (.iconst 0, 1) := dk_3 (dk_at dksX2_draw_2 14 rfl rfl)
theorem dX2_draw_61 : decode cX2_draw 61 = .ok (.istore_n 3, 1) := dk_62 (dk_at dksX2_draw_2 15 rfl rfl)
theorem dX2_draw_62 : decode cX2_draw 62 = .ok (.aload_n 0, 1) := dk_42 (dk_at dksX2_draw_2 16 rfl rfl)
theorem dX2_draw_63 : decode cX2_draw 63 = .ok (.iload_n 1, 1) := dk_27 (dk_at dksX2_draw_2 17 rfl rfl)
theorem dX2_draw_64 : decode cX2_draw 64 = .ok (.bipush 8, 2) := dk_16 8 (dk_at dksX2_draw_2 18 rfl rfl)
theorem dX2_draw_66 : decode cX2_draw 66 = .ok (.invokevirtual 491, 3) := dk_182 1 235 (dk_at dksX2_draw_2 20 rfl rfl)
theorem dX2_draw_69 : decode cX2_draw 69 = .ok (.ifCond .eq 22, 3) := dk_153 0 22 (dk_at dksX2_draw_3 0 rfl rfl)
theorem dX2_draw_72 : decode cX2_draw 72 = .ok (.aload_n 0, 1) := dk_42 (dk_at dksX2_draw_3 3 rfl rfl)
theorem dX2_draw_73 : decode cX2_draw 73 = .ok (.getfield 228, 3) := dk_180 0 228 (dk_at dksX2_draw_3 4 rfl rfl)
theorem dX2_draw_76 : decode cX2_draw 76 = .ok (.iload_n 1, 1) := dk_27 (dk_at dksX2_draw_3 7 rfl rfl)
theorem dX2_draw_77 : decode cX2_draw 77 = .ok (.iaload, 1) := dk_46 (dk_at dksX2_draw_3 8 rfl rfl)
theorem dX2_draw_78 : decode cX2_draw 78 = .ok (.aload_n 0, 1) := dk_42 (dk_at dksX2_draw_3 9 rfl rfl)
theorem dX2_draw_79 : decode cX2_draw 79 = .ok (.getfield 163, 3) := dk_180 0 163 (dk_at dksX2_draw_3 10 rfl rfl)
theorem dX2_draw_82 : decode cX2_draw 82 = .ok (.iload_n 1, 1) := dk_27 (dk_at dksX2_draw_3 13 rfl rfl)
theorem dX2_draw_83 : decode cX2_draw 83 = .ok (.iaload, 1) := dk_46 (dk_at dksX2_draw_3 14 rfl rfl)
theorem dX2_draw_84 : decode cX2_draw 84 = .ok (.imul, 1) := dk_104 (dk_at dksX2_draw_3 15 rfl rfl)
theorem dX2_draw_85 : decode cX2_draw 85 = .ok (.bipush 100, 2) := dk_16 100 (dk_at dksX2_draw_3 16 rfl rfl)
theorem dX2_draw_87 : decode cX2_draw 87 = .ok (.idiv, 1) := dk_108 (dk_at dksX2_draw_3 18 rfl rfl)
theorem dX2_draw_88 : decode cX2_draw 88 = .ok (.goto 4, 3) := dk_167 0 4 (dk_at dksX2_draw_3 19 rfl rfl)
theorem dX2_draw_91 : decode cX2_draw 91 = .ok (.iconst 0, 1) := dk_3 (dk_at dksX2_draw_3 22 rfl rfl)
theorem dX2_draw_92 : decode cX2_draw 92 = .ok (.istore 4, 2) := dk_54 4 (dk_at dksX2_draw_4 0 rfl rfl)
theorem dX2_draw_94 : decode cX2_draw 94 = .ok (.aload_n 0, 1) := dk_42 (dk_at dksX2_draw_4 2 rfl rfl)
theorem dX2_draw_95 : decode cX2_draw 95 = .ok (.iload_n 1, 1) := dk_27 (dk_at dksX2_draw_4 3 rfl rfl)
theorem dX2_draw_96 : decode cX2_draw 96 = .ok (.bipush 16, 2) := dk_16 16 (dk_at dksX2_draw_4 4 rfl rfl)
theorem dX2_draw_98 : decode cX2_draw 98 = .ok (.invokevirtual 491, 3) := dk_182 1 235 (dk_at dksX2_draw_4 6 rfl rfl)
theorem dX2_draw_101 : decode cX2_draw 101 = .ok (.ifCond .eq 14, 3) := dk_153 0 14 (dk_at dksX2_draw_4 9 rfl rfl)
theorem dX2_draw_104 : decode cX2_draw 104 = .ok (.aload_n 0, 1) := dk_42 (dk_at dksX2_draw_4 12 rfl rfl)
theorem dX2_draw_105 : decode cX2_draw 105 = .ok (.getfield 230, 3) := dk_180 0 230 (dk_at dksX2_draw_4 13 rfl rfl)
theorem dX2_draw_108 : decode cX2_draw 108 = .ok (.iload_n 1, 1) := dk_27 (dk_at dksX2_draw_4 16 rfl rfl)
theorem dX2_draw_109 : decode cX2_draw 109 = .ok (.iaload, 1) := dk_46 (dk_at dksX2_draw_4 17 rfl rfl)
theorem dX2_draw_110 : decode cX2_draw 110 = .ok (.iconst 2, 1) := dk_5 (dk_at dksX2_draw_4 18 rfl rfl)
theorem dX2_draw_111 : decode cX2_draw 111 = .ok (.idiv, 1) := dk_108 (dk_at dksX2_draw_4 19 rfl rfl)
theorem dX2_draw_112 : decode cX2_draw 112 = .ok (.goto 4, 3) := dk_167 0 4 (dk_at dksX2_draw_4 20 rfl rfl)
theorem dX2_draw_115 : decode cX2_draw 115 = .ok (.iconst 0, 1) := dk_3 (dk_at dksX2_draw_4 23 rfl rfl)
theorem dX2_draw_116 : decode cX2_draw 116 = .ok (.istore 5, 2) := dk_54 5 (dk_at dksX2_draw_5 0 rfl rfl)
theorem dX2_draw_118 : decode cX2_draw 118 = .ok (.aload_n 0, 1) := dk_42 (dk_at dksX2_draw_5 2 rfl rfl)
theorem dX2_draw_119 : decode cX2_draw 119 = .ok (.getfield 143, 3) := dk_180 0 143 (dk_at dksX2_draw_5 3 rfl rfl)
theorem dX2_draw_122 : decode cX2_draw 122 = .ok (.iload_n 1, 1) := dk_27 (dk_at dksX2_draw_5 6 rfl rfl)
theorem dX2_draw_123 : decode cX2_draw 123 = .ok (.iaload, 1) := dk_46 (dk_at dksX2_draw_5 7 rfl rfl)
theorem dX2_draw_124 : decode cX2_draw 124 = .ok (.lookupswitch 70 #[(2, 36), (7, 47), (8, 66)], 36) := by decide +kernel
theorem dX2_draw_160 : decode cX2_draw 160 = .ok (.iload_n 2, 1) := dk_28 (dk_at dksX2_draw_7 0 rfl rfl)
theorem dX2_draw_161 : decode cX2_draw 161 = .ok (.iload_n 3, 1) := dk_29 (dk_at dksX2_draw_7 1 rfl rfl)
theorem dX2_draw_162 : decode cX2_draw 162 = .ok (.if_icmp .le 7, 3) := dk_164 0 7 (dk_at dksX2_draw_7 2 rfl rfl)
theorem dX2_draw_165 : decode cX2_draw 165 = .ok (.iload_n 2, 1) := dk_28 (dk_at dksX2_draw_7 5 rfl rfl)
theorem dX2_draw_166 : decode cX2_draw 166 = .ok (.goto 4, 3) := dk_167 0 4 (dk_at dksX2_draw_7 6 rfl rfl)
theorem dX2_draw_169 : decode cX2_draw 169 = .ok (.iload_n 3, 1) := dk_29 (dk_at dksX2_draw_7 9 rfl rfl)
theorem dX2_draw_170 : decode cX2_draw 170 = .ok (.ireturn, 1) := dk_172 (dk_at dksX2_draw_7 10 rfl rfl)
theorem dX2_draw_171 : decode cX2_draw 171 = .ok (.iload_n 2, 1) := dk_28 (dk_at dksX2_draw_7 11 rfl rfl)
theorem dX2_draw_172 : decode cX2_draw 172 = .ok (.iload_n 3, 1) := dk_29 (dk_at dksX2_draw_7 12 rfl rfl)
theorem dX2_draw_173 : decode cX2_draw 173 = .ok (.iadd, 1) := dk_96 (dk_at dksX2_draw_7 13 rfl rfl)
theorem dX2_draw_174 : decode cX2_draw 174 = .ok (.iload 4, 2) := dk_21 4 (dk_at dksX2_draw_7 14 rfl rfl)
theorem dX2_draw_176 : decode cX2_draw 176 = .ok (.iload 5, 2) := dk_21 5 (dk_at dksX2_draw_7 16 rfl rfl)
theorem dX2_draw_178 : decode cX2_draw 178 = .ok (.if_icmp .le 8, 3) := dk_164 0 8 (dk_at dksX2_draw_7 18 rfl rfl)
theorem dX2_draw_181 : decode cX2_draw 181 = .ok (.iload 4, 2) := dk_21 4 (dk_at dksX2_draw_7 21 rfl rfl)
theorem dX2_draw_183 : decode cX2_draw 183 = .ok (.goto 5, 3) := dk_167 0 5 (dk_at dksX2_draw_8 0 rfl rfl)
theorem dX2_draw_186 : decode cX2_draw 186 = .ok (.iload 5, 2) := dk_21 5 (dk_at dksX2_draw_8 3 rfl rfl)
theorem dX2_draw_188 : decode cX2_draw 188 = .ok (.iadd, 1) := dk_96 (dk_at dksX2_draw_8 5 rfl rfl)
theorem dX2_draw_189 : decode cX2_draw 189 = .ok (.ireturn, 1) := dk_172 (dk_at dksX2_draw_8 6 rfl rfl)
theorem dX2_draw_190 : decode cX2_draw 190 = .ok (.iload_n 2, 1) := dk_28 (dk_at dksX2_draw_8 7 rfl rfl)
theorem dX2_draw_191 : decode cX2_draw 191 = .ok (.iconst 2, 1) := dk_5 (dk_at dksX2_draw_8 8 rfl rfl)
theorem dX2_draw_192 : decode cX2_draw 192 = .ok (.idiv, 1) := dk_108 (dk_at dksX2_draw_8 9 rfl rfl)
theorem dX2_draw_193 : decode cX2_draw 193 = .ok (.ireturn, 1) := dk_172 (dk_at dksX2_draw_8 10 rfl rfl)
theorem dX2_draw_194 : decode cX2_draw 194 = .ok (.iload_n 2, 1) := dk_28 (dk_at dksX2_draw_8 11 rfl rfl)
theorem dX2_draw_195 : decode cX2_draw 195 = .ok (.iload_n 3, 1) := dk_29 (dk_at dksX2_draw_8 12 rfl rfl)
theorem dX2_draw_196 : decode cX2_draw 196 = .ok (.iadd, 1) := dk_96 (dk_at dksX2_draw_8 13 rfl rfl)
theorem dX2_draw_197 : decode cX2_draw 197 = .ok (.iload 4, 2) := dk_21 4 (dk_at dksX2_draw_8 14 rfl rfl)
theorem dX2_draw_199 : decode cX2_draw 199 = .ok (.iadd, 1) := dk_96 (dk_at dksX2_draw_8 16 rfl rfl)
theorem dX2_draw_200 : decode cX2_draw 200 = .ok (.iload 5, 2) := dk_21 5 (dk_at dksX2_draw_8 17 rfl rfl)
theorem dX2_draw_202 : decode cX2_draw 202 = .ok (.iadd, 1) := dk_96 (dk_at dksX2_draw_8 19 rfl rfl)
theorem dX2_draw_203 : decode cX2_draw 203 = .ok (.ireturn, 1) := dk_172 (dk_at dksX2_draw_8 20 rfl rfl)
def dkwX2_limit_2 : List UInt8 := [16, 50, 172, 16, 40, 172, 16, 80, 172, 16, 60, 172, 17, 0, 200, 172]
abbrev dktX2_limit_2 : List UInt8 := dkwX2_limit_2 ++ []
def dkwX2_limit_1 : List UInt8 := [170, 0, 0, 0, 0, 62, 0, 0, 0, 0, 0, 0, 0, 8, 0, 0, 0, 56, 0, 0, 0, 59, 0, 0, 0, 50, 0, 0, 0, 56, 0, 0, 0, 62, 0, 0, 0, 59, 0, 0, 0, 62, 0, 0, 0, 53, 0, 0, 0, 56]
abbrev dktX2_limit_1 : List UInt8 := dkwX2_limit_1 ++ dktX2_limit_2
def dkwX2_limit_0 : List UInt8 := [42, 180, 0, 143, 27, 46]
abbrev dktX2_limit_0 : List UInt8 := dkwX2_limit_0 ++ dktX2_limit_1
theorem dksX2_limit_0 : cX2_limit.data.toList.drop 0 = dktX2_limit_0 := by decide +kernel
theorem dksX2_limit_1 : cX2_limit.data.toList.drop 6 = dktX2_limit_1 := dk_seg dksX2_limit_0 6 rfl rfl
theorem dksX2_limit_2 : cX2_limit.data.toList.drop 56 = dktX2_limit_2 := dk_seg dksX2_limit_1 50 rfl rfl
theorem dX2_limit_0 : decode cX2_limit 0 = .ok (.aload_n 0, 1) := dk_42 (dk_at dksX2_limit_0 0 rfl rfl)
theorem dX2_limit_1 : decode cX2_limit 1 = .ok (.getfield 143, 3) := dk_180 0 143 (dk_at dksX2_limit_0 1 rfl rfl)
theorem dX2_limit_4 : decode cX2_limit 4 = .ok (.iload_n 1, 1) := dk_27 (dk_at dksX2_limit_0 4 rfl rfl)
theorem dX2_limit_5 : decode cX2_limit 5 = .ok (.iaload, 1) := dk_46 (dk_at dksX2_limit_0 5 rfl rfl)
theorem dX2_limit_6 : decode cX2_limit 6 = .ok (.tableswitch 62 0 8 #[56, 59, 50, 56, 62, 59, 62, 53, 56], 50) := by decide +kernel
theorem dX2_limit_56 : decode cX2_limit 56 = .ok (.bipush 50, 2) := dk_16 50 (dk_at dksX2_limit_2 0 rfl rfl)
theorem dX2_limit_58 : decode cX2_limit 58 = .ok (.ireturn, 1) := dk_172 (dk_at dksX2_limit_2 2 rfl rfl)
theorem dX2_limit_59 : decode cX2_limit 59 = .ok (.bipush 40, 2) := dk_16 40 (dk_at dksX2_limit_2 3 rfl rfl)
theorem dX2_limit_61 : decode cX2_limit 61 = .ok (.ireturn, 1) := dk_172 (dk_at dksX2_limit_2 5 rfl rfl)
theorem dX2_limit_62 : decode cX2_limit 62 = .ok (.bipush 80, 2) := dk_16 80 (dk_at dksX2_limit_2 6 rfl rfl)
theorem dX2_limit_64 : decode cX2_limit 64 = .ok (.ireturn, 1) := dk_172 (dk_at dksX2_limit_2 8 rfl rfl)
theorem dX2_limit_65 : decode cX2_limit 65 = .ok (.bipush 60, 2) := dk_16 60 (dk_at dksX2_limit_2 9 rfl rfl)
theorem dX2_limit_67 : decode cX2_limit 67 = .ok (.ireturn, 1) := dk_172 (dk_at dksX2_limit_2 11 rfl rfl)
theorem dX2_limit_68 : decode cX2_limit 68 = .ok (.sipush 200, 3) := dk_17 0 200 (dk_at dksX2_limit_2 12 rfl rfl)
theorem dX2_limit_71 : decode cX2_limit 71 = .ok (.ireturn, 1) := dk_172 (dk_at dksX2_limit_2 15 rfl rfl)
def dkwX2_tear_2 : List UInt8 := [42, 180, 0, 143, 27, 46, 8, 160, 0, 9, 5, 29, 104, 167, 0, 6, 28, 29, 96, 172]
abbrev dktX2_tear_2 : List UInt8 := dkwX2_tear_2 ++ []
def dkwX2_tear_1 : List UInt8 := [27, 5, 182, 1, 235, 153, 0, 17, 42, 180, 0, 223, 27, 46, 153, 0, 8, 16, 10, 167, 0, 4, 3, 62]
abbrev dktX2_tear_1 : List UInt8 := dkwX2_tear_1 ++ dktX2_tear_2
def dkwX2_tear_0 : List UInt8 := [42, 27, 4, 182, 1, 235, 153, 0, 15, 42, 180, 0, 214, 27, 46, 184, 1, 238, 167, 0, 4, 3, 61, 42]
abbrev dktX2_tear_0 : List UInt8 := dkwX2_tear_0 ++ dktX2_tear_1
theorem dksX2_tear_0 : cX2_tear.data.toList.drop 0 = dktX2_tear_0 := by decide +kernel
theorem dksX2_tear_1 : cX2_tear.data.toList.drop 24 = dktX2_tear_1 := dk_seg dksX2_tear_0 24 rfl rfl
theorem dksX2_tear_2 : cX2_tear.data.toList.drop 48 = dktX2_tear_2 := dk_seg dksX2_tear_1 24 rfl rfl
theorem dX2_tear_0 : decode cX2_tear 0 = .ok (.aload_n 0, 1) := dk_42 (dk_at dksX2_tear_0 0 rfl rfl)
theorem dX2_tear_1 : decode cX2_tear 1 = .ok (.iload_n 1, 1) := dk_27 (dk_at dksX2_tear_0 1 rfl rfl)
theorem dX2_tear_2 : decode cX2_tear 2 = .ok (.iconst 1, 1) := dk_4 (dk_at dksX2_tear_0 2 rfl rfl)
theorem dX2_tear_3 : decode cX2_tear 3 = .ok (.invokevirtual 491, 3) := dk_182 1 235 (dk_at dksX2_tear_0 3 rfl rfl)
theorem dX2_tear_6 : decode cX2_tear 6 = .ok (.ifCond .eq 15, 3) := dk_153 0 15 (dk_at dksX2_tear_0 6 rfl rfl)
theorem dX2_tear_9 : decode cX2_tear 9 = .ok (.aload_n 0, 1) := dk_42 (dk_at dksX2_tear_0 9 rfl rfl)
theorem dX2_tear_10 : decode cX2_tear 10 = .ok (.getfield 214, 3) := dk_180 0 214 (dk_at dksX2_tear_0 10 rfl rfl)
theorem dX2_tear_13 : decode cX2_tear 13 = .ok (.iload_n 1, 1) := dk_27 (dk_at dksX2_tear_0 13 rfl rfl)
theorem dX2_tear_14 : decode cX2_tear 14 = .ok (.iaload, 1) := dk_46 (dk_at dksX2_tear_0 14 rfl rfl)
theorem dX2_tear_15 : decode cX2_tear 15 = .ok (.invokestatic 494, 3) := dk_184 1 238 (dk_at dksX2_tear_0 15 rfl rfl)
theorem dX2_tear_18 : decode cX2_tear 18 = .ok (.goto 4, 3) := dk_167 0 4 (dk_at dksX2_tear_0 18 rfl rfl)
theorem dX2_tear_21 : decode cX2_tear 21 = .ok (.iconst 0, 1) := dk_3 (dk_at dksX2_tear_0 21 rfl rfl)
theorem dX2_tear_22 : decode cX2_tear 22 = .ok (.istore_n 2, 1) := dk_61 (dk_at dksX2_tear_0 22 rfl rfl)
theorem dX2_tear_23 : decode cX2_tear 23 = .ok (.aload_n 0, 1) := dk_42 (dk_at dksX2_tear_0 23 rfl rfl)
theorem dX2_tear_24 : decode cX2_tear 24 = .ok (.iload_n 1, 1) := dk_27 (dk_at dksX2_tear_1 0 rfl rfl)
theorem dX2_tear_25 : decode cX2_tear 25 = .ok (.iconst 2, 1) := dk_5 (dk_at dksX2_tear_1 1 rfl rfl)
theorem dX2_tear_26 : decode cX2_tear 26 = .ok (.invokevirtual 491, 3) := dk_182 1 235 (dk_at dksX2_tear_1 2 rfl rfl)
theorem dX2_tear_29 : decode cX2_tear 29 = .ok (.ifCond .eq 17, 3) := dk_153 0 17 (dk_at dksX2_tear_1 5 rfl rfl)
theorem dX2_tear_32 : decode cX2_tear 32 = .ok (.aload_n 0, 1) := dk_42 (dk_at dksX2_tear_1 8 rfl rfl)
theorem dX2_tear_33 : decode cX2_tear 33 = .ok (.getfield 223, 3) := dk_180 0 223 (dk_at dksX2_tear_1 9 rfl rfl)
theorem dX2_tear_36 : decode cX2_tear 36 = .ok (.iload_n 1, 1) := dk_27 (dk_at dksX2_tear_1 12 rfl rfl)
theorem dX2_tear_37 : decode cX2_tear 37 = .ok (.iaload, 1) := dk_46 (dk_at dksX2_tear_1 13 rfl rfl)
theorem dX2_tear_38 : decode cX2_tear 38 = .ok (.ifCond .eq 8, 3) := dk_153 0 8 (dk_at dksX2_tear_1 14 rfl rfl)
theorem dX2_tear_41 : decode cX2_tear 41 = .ok (.bipush 10, 2) := dk_16 10 (dk_at dksX2_tear_1 17 rfl rfl)
theorem dX2_tear_43 : decode cX2_tear 43 = .ok (.goto 4, 3) := dk_167 0 4 (dk_at dksX2_tear_1 19 rfl rfl)
theorem dX2_tear_46 : decode cX2_tear 46 = .ok (.iconst 0, 1) := dk_3 (dk_at dksX2_tear_1 22 rfl rfl)
theorem dX2_tear_47 : decode cX2_tear 47 = .ok (.istore_n 3, 1) := dk_62 (dk_at dksX2_tear_1 23 rfl rfl)
theorem dX2_tear_48 : decode cX2_tear 48 = .ok (.aload_n 0, 1) := dk_42 (dk_at dksX2_tear_2 0 rfl rfl)
theorem dX2_tear_49 : decode cX2_tear 49 = .ok (.getfield 143, 3) := dk_180 0 143 (dk_at dksX2_tear_2 1 rfl rfl)
theorem dX2_tear_52 : decode cX2_tear 52 = .ok (.iload_n 1, 1) := dk_27 (dk_at dksX2_tear_2 4 rfl rfl)
theorem dX2_tear_53 : decode cX2_tear 53 = .ok (.iaload, 1) := dk_46 (dk_at dksX2_tear_2 5 rfl rfl)
theorem dX2_tear_54 : decode cX2_tear 54 = .ok (.iconst 5, 1) := dk_8 (dk_at dksX2_tear_2 6 rfl rfl)
theorem dX2_tear_55 : decode cX2_tear 55 = .ok (.if_icmp .ne 9, 3) := dk_160 0 9 (dk_at dksX2_tear_2 7 rfl rfl)
theorem dX2_tear_58 : decode cX2_tear 58 = .ok (.iconst 2, 1) := dk_5 (dk_at dksX2_tear_2 10 rfl rfl)
theorem dX2_tear_59 : decode cX2_tear 59 = .ok (.iload_n 3, 1) := dk_29 (dk_at dksX2_tear_2 11 rfl rfl)
theorem dX2_tear_60 : decode cX2_tear 60 = .ok (.imul, 1) := dk_104 (dk_at dksX2_tear_2 12 rfl rfl)
theorem dX2_tear_61 : decode cX2_tear 61 = .ok (.goto 6, 3) := dk_167 0 6 (dk_at dksX2_tear_2 13 rfl rfl)
theorem dX2_tear_64 : decode cX2_tear 64 = .ok (.iload_n 2, 1) := dk_28 (dk_at dksX2_tear_2 16 rfl rfl)
theorem dX2_tear_65 : decode cX2_tear 65 = .ok (.iload_n 3, 1) := dk_29 (dk_at dksX2_tear_2 17 rfl rfl)
theorem dX2_tear_66 : decode cX2_tear 66 = .ok (.iadd, 1) := dk_96 (dk_at dksX2_tear_2 18 rfl rfl)
theorem dX2_tear_67 : decode cX2_tear 67 = .ok (.ireturn, 1) := dk_172 (dk_at dksX2_tear_2 19 rfl rfl)
def dkwX2_measure_6 : List UInt8 := [180, 0, 160, 27, 46, 172]
abbrev dktX2_measure_6 : List UInt8 := dkwX2_measure_6 ++ []
def dkwX2_measure_5 : List UInt8 := [27, 46, 172, 42, 180, 0, 230, 27, 46, 172, 42, 180, 0, 232, 27, 46, 172, 42, 27, 182, 1, 208, 172, 42]
abbrev dktX2_measure_5 : List UInt8 := dkwX2_measure_5 ++ dktX2_measure_6
def dkwX2_measure_4 : List UInt8 := [180, 0, 219, 27, 46, 172, 42, 180, 0, 221, 27, 46, 172, 42, 180, 0, 226, 27, 46, 172, 42, 180, 0, 228]
abbrev dktX2_measure_4 : List UInt8 := dkwX2_measure_4 ++ dktX2_measure_5
def dkwX2_measure_3 : List UInt8 := [42, 180, 0, 143, 27, 46, 172, 42, 180, 0, 214, 27, 46, 172, 42, 180, 0, 216, 27, 46, 172, 42]
abbrev dktX2_measure_3 : List UInt8 := dkwX2_measure_3 ++ dktX2_measure_4
def dkwX2_measure_2 : List UInt8 := [170, 0, 0, 0, 0, 123, 0, 0, 0, 0, 0, 0, 0, 9, 0, 0, 0, 54, 0, 0, 0, 61, 0, 0, 0, 68, 0, 0, 0, 75, 0, 0, 0, 82, 0, 0, 0, 89, 0, 0, 0, 96, 0, 0, 0, 103, 0, 0, 0, 110, 0, 0, 0, 117]
abbrev dktX2_measure_2 : List UInt8 := dkwX2_measure_2 ++ dktX2_measure_3
def dkwX2_measure_1 : List UInt8 := [4, 182, 2, 72, 154, 0, 5, 3, 172, 28]
abbrev dktX2_measure_1 : List UInt8 := dkwX2_measure_1 ++ dktX2_measure_2
def dkwX2_measure_0 : List UInt8 := [42, 42, 27, 182, 2, 69, 153, 0, 17, 28, 155, 0, 13, 28, 16, 10, 163, 0, 7, 4, 167, 0, 4, 3]
abbrev dktX2_measure_0 : List UInt8 := dkwX2_measure_0 ++ dktX2_measure_1
theorem dksX2_measure_0 : cX2_measure.data.toList.drop 0 = dktX2_measure_0 := by decide +kernel
theorem dksX2_measure_1 : cX2_measure.data.toList.drop 24 = dktX2_measure_1 := dk_seg dksX2_measure_0 24 rfl rfl
theorem dksX2_measure_2 : cX2_measure.data.toList.drop 34 = dktX2_measure_2 := dk_seg dksX2_measure_1 10 rfl rfl
theorem dksX2_measure_3 : cX2_measure.data.toList.drop 88 = dktX2_measure_3 := dk_seg dksX2_measure_2 54 rfl rfl
theorem dksX2_measure_4 : cX2_measure.data.toList.drop 110 = dktX2_measure_4 := dk_seg dksX2_measure_3 22 rfl rfl
theorem dksX2_measure_5 : cX2_measure.data.toList.drop 134 = dktX2_measure_5 := dk_seg dksX2_measure_4 24 rfl rfl
theorem dksX2_measure_6 : cX2_measure.data.toList.drop 158 = dktX2_measure_6 := dk_seg dksX2_measure_5 24 rfl rfl
theorem dX2_measure_0 : decode cX2_measure 0 = .ok (.aload_n 0, 1) := dk_42 (dk_at dksX2_measure_0 0 rfl rfl)
theorem dX2_measure_1 : decode cX2_measure 1 = .ok (.aload_n 0, 1) := dk_42 (dk_at dksX2_measure_0 1 rfl rfl)
theorem dX2_measure_2 : decode cX2_measure 2 = .ok (.iload_n 1, 1) := dk_27 (dk_at dksX2_measure_0 2 rfl rfl)
theorem dX2_measure_3 : decode cX2_measure 3 = .ok (.invokevirtual 581, 3) := dk_182 2 69 (dk_at dksX2_measure_0 3 rfl rfl)
theorem dX2_measure_6 : decode cX2_measure 6 = .ok (.ifCond .eq 17, 3) := dk_153 0 17 (dk_at dksX2_measure_0 6 rfl rfl)
theorem dX2_measure_9 : decode cX2_measure 9 = .ok (.iload_n 2, 1) := dk_28 (dk_at dksX2_measure_0 9 rfl rfl)
theorem dX2_measure_10 : decode cX2_measure 10 = .ok (.ifCond .lt 13, 3) := dk_155 0 13 (dk_at dksX2_measure_0 10 rfl rfl)
theorem dX2_measure_13 : decode cX2_measure 13 = .ok (.iload_n 2, 1) := dk_28 (dk_at dksX2_measure_0 13 rfl rfl)
theorem dX2_measure_14 : decode cX2_measure 14 = .ok (.bipush 10, 2) := dk_16 10 (dk_at dksX2_measure_0 14 rfl rfl)
theorem dX2_measure_16 : decode cX2_measure 16 = .ok (.if_icmp .gt 7, 3) := dk_163 0 7 (dk_at dksX2_measure_0 16 rfl rfl)
theorem dX2_measure_19 : decode cX2_measure 19 = .ok (.iconst 1, 1) := dk_4 (dk_at dksX2_measure_0 19 rfl rfl)
theorem dX2_measure_20 : decode cX2_measure 20 = .ok (.goto 4, 3) := dk_167 0 4 (dk_at dksX2_measure_0 20 rfl rfl)
theorem dX2_measure_23 : decode cX2_measure 23 = .ok (.iconst 0, 1) := dk_3 (dk_at dksX2_measure_0 23 rfl rfl)
theorem dX2_measure_24 : decode cX2_measure 24 = .ok (.iconst 1, 1) := dk_4 (dk_at dksX2_measure_1 0 rfl rfl)
theorem dX2_measure_25 : decode cX2_measure 25 = .ok (.invokevirtual 584, 3) := dk_182 2 72 (dk_at dksX2_measure_1 1 rfl rfl)
theorem dX2_measure_28 : decode cX2_measure 28 = .ok (.ifCond .ne 5, 3) := dk_154 0 5 (dk_at dksX2_measure_1 4 rfl rfl)
theorem dX2_measure_31 : decode cX2_measure 31 = .ok (.iconst 0, 1) := dk_3 (dk_at dksX2_measure_1 7 rfl rfl)
theorem dX2_measure_32 : decode cX2_measure 32 = .ok (.ireturn, 1) := dk_172 (dk_at dksX2_measure_1 8 rfl rfl)
theorem dX2_measure_33 : decode cX2_measure 33 = .ok (.iload_n 2, 1) := dk_28 (dk_at dksX2_measure_1 9 rfl rfl)
theorem dX2_measure_34 : decode cX2_measure 34 = .ok (.tableswitch 123 0 9 #[54, 61, 68, 75, 82, 89, 96, 103, 110, 117], 54) := by decide +kernel
theorem dX2_measure_88 : decode cX2_measure 88 = .ok (.aload_n 0, 1) := dk_42 (dk_at dksX2_measure_3 0 rfl rfl)
theorem dX2_measure_89 : decode cX2_measure 89 = .ok (.getfield 143, 3) := dk_180 0 143 (dk_at dksX2_measure_3 1 rfl rfl)
theorem dX2_measure_92 : decode cX2_measure 92 = .ok (.iload_n 1, 1) := dk_27 (dk_at dksX2_measure_3 4 rfl rfl)
theorem dX2_measure_93 : decode cX2_measure 93 = .ok (.iaload, 1) := dk_46 (dk_at dksX2_measure_3 5 rfl rfl)
theorem dX2_measure_94 : decode cX2_measure 94 = .ok (.ireturn, 1) := dk_172 (dk_at dksX2_measure_3 6 rfl rfl)
theorem dX2_measure_95 : decode cX2_measure 95 = .ok (.aload_n 0, 1) := dk_42 (dk_at dksX2_measure_3 7 rfl rfl)
theorem dX2_measure_96 : decode cX2_measure 96 = .ok (.getfield 214, 3) := dk_180 0 214 (dk_at dksX2_measure_3 8 rfl rfl)
theorem dX2_measure_99 : decode cX2_measure 99 = .ok (.iload_n 1, 1) := dk_27 (dk_at dksX2_measure_3 11 rfl rfl)
theorem dX2_measure_100 : decode cX2_measure 100 = .ok (.iaload, 1) := dk_46 (dk_at dksX2_measure_3 12 rfl rfl)
theorem dX2_measure_101 : decode cX2_measure 101 = .ok (.ireturn, 1) := dk_172 (dk_at dksX2_measure_3 13 rfl rfl)
theorem dX2_measure_102 : decode cX2_measure 102 = .ok (.aload_n 0, 1) := dk_42 (dk_at dksX2_measure_3 14 rfl rfl)
theorem dX2_measure_103 : decode cX2_measure 103 = .ok (.getfield 216, 3) := dk_180 0 216 (dk_at dksX2_measure_3 15 rfl rfl)
theorem dX2_measure_106 : decode cX2_measure 106 = .ok (.iload_n 1, 1) := dk_27 (dk_at dksX2_measure_3 18 rfl rfl)
theorem dX2_measure_107 : decode cX2_measure 107 = .ok (.iaload, 1) := dk_46 (dk_at dksX2_measure_3 19 rfl rfl)
theorem dX2_measure_108 : decode cX2_measure 108 = .ok (.ireturn, 1) := dk_172 (dk_at dksX2_measure_3 20 rfl rfl)
theorem dX2_measure_109 : decode cX2_measure 109 = .ok (.aload_n 0, 1) := dk_42 (dk_at dksX2_measure_3 21 rfl rfl)
theorem dX2_measure_110 : decode cX2_measure 110 = .ok (.getfield 219, 3) := dk_180 0 219 (dk_at dksX2_measure_4 0 rfl rfl)
theorem dX2_measure_113 : decode cX2_measure 113 = .ok (.iload_n 1, 1) := dk_27 (dk_at dksX2_measure_4 3 rfl rfl)
theorem dX2_measure_114 : decode cX2_measure 114 = .ok (.iaload, 1) := dk_46 (dk_at dksX2_measure_4 4 rfl rfl)
theorem dX2_measure_115 : decode cX2_measure 115 = .ok (.ireturn, 1) := dk_172 (dk_at dksX2_measure_4 5 rfl rfl)
theorem dX2_measure_116 : decode cX2_measure 116 = .ok (.aload_n 0, 1) := dk_42 (dk_at dksX2_measure_4 6 rfl rfl)
theorem dX2_measure_117 : decode cX2_measure 117 = .ok (.getfield 221, 3) := dk_180 0 221 (dk_at dksX2_measure_4 7 rfl rfl)
theorem dX2_measure_120 : decode cX2_measure 120 = .ok (.iload_n 1, 1) := dk_27 (dk_at dksX2_measure_4 10 rfl rfl)
theorem dX2_measure_121 : decode cX2_measure 121 = .ok (.iaload, 1) := dk_46 (dk_at dksX2_measure_4 11 rfl rfl)
theorem dX2_measure_122 : decode cX2_measure 122 = .ok (.ireturn, 1) := dk_172 (dk_at dksX2_measure_4 12 rfl rfl)
theorem dX2_measure_123 : decode cX2_measure 123 = .ok (.aload_n 0, 1) := dk_42 (dk_at dksX2_measure_4 13 rfl rfl)
theorem dX2_measure_124 : decode cX2_measure 124 = .ok (.getfield 226, 3) := dk_180 0 226 (dk_at dksX2_measure_4 14 rfl rfl)
theorem dX2_measure_127 : decode cX2_measure 127 = .ok (.iload_n 1, 1) := dk_27 (dk_at dksX2_measure_4 17 rfl rfl)
theorem dX2_measure_128 : decode cX2_measure 128 = .ok (.iaload, 1) := dk_46 (dk_at dksX2_measure_4 18 rfl rfl)
theorem dX2_measure_129 : decode cX2_measure 129 = .ok (.ireturn, 1) := dk_172 (dk_at dksX2_measure_4 19 rfl rfl)
theorem dX2_measure_130 : decode cX2_measure 130 = .ok (.aload_n 0, 1) := dk_42 (dk_at dksX2_measure_4 20 rfl rfl)
theorem dX2_measure_131 : decode cX2_measure 131 = .ok (.getfield 228, 3) := dk_180 0 228 (dk_at dksX2_measure_4 21 rfl rfl)
theorem dX2_measure_134 : decode cX2_measure 134 = .ok (.iload_n 1, 1) := dk_27 (dk_at dksX2_measure_5 0 rfl rfl)
theorem dX2_measure_135 : decode cX2_measure 135 = .ok (.iaload, 1) := dk_46 (dk_at dksX2_measure_5 1 rfl rfl)
theorem dX2_measure_136 : decode cX2_measure 136 = .ok (.ireturn, 1) := dk_172 (dk_at dksX2_measure_5 2 rfl rfl)
theorem dX2_measure_137 : decode cX2_measure 137 = .ok (.aload_n 0, 1) := dk_42 (dk_at dksX2_measure_5 3 rfl rfl)
theorem dX2_measure_138 : decode cX2_measure 138 = .ok (.getfield 230, 3) := dk_180 0 230 (dk_at dksX2_measure_5 4 rfl rfl)
theorem dX2_measure_141 : decode cX2_measure 141 = .ok (.iload_n 1, 1) := dk_27 (dk_at dksX2_measure_5 7 rfl rfl)
theorem dX2_measure_142 : decode cX2_measure 142 = .ok (.iaload, 1) := dk_46 (dk_at dksX2_measure_5 8 rfl rfl)
theorem dX2_measure_143 : decode cX2_measure 143 = .ok (.ireturn, 1) := dk_172 (dk_at dksX2_measure_5 9 rfl rfl)
theorem dX2_measure_144 : decode cX2_measure 144 = .ok (.aload_n 0, 1) := dk_42 (dk_at dksX2_measure_5 10 rfl rfl)
theorem dX2_measure_145 : decode cX2_measure 145 = .ok (.getfield 232, 3) := dk_180 0 232 (dk_at dksX2_measure_5 11 rfl rfl)
theorem dX2_measure_148 : decode cX2_measure 148 = .ok (.iload_n 1, 1) := dk_27 (dk_at dksX2_measure_5 14 rfl rfl)
theorem dX2_measure_149 : decode cX2_measure 149 = .ok (.iaload, 1) := dk_46 (dk_at dksX2_measure_5 15 rfl rfl)
theorem dX2_measure_150 : decode cX2_measure 150 = .ok (.ireturn, 1) := dk_172 (dk_at dksX2_measure_5 16 rfl rfl)
theorem dX2_measure_151 : decode cX2_measure 151 = .ok (.aload_n 0, 1) := dk_42 (dk_at dksX2_measure_5 17 rfl rfl)
theorem dX2_measure_152 : decode cX2_measure 152 = .ok (.iload_n 1, 1) := dk_27 (dk_at dksX2_measure_5 18 rfl rfl)
theorem dX2_measure_153 : decode cX2_measure 153 = .ok (.invokevirtual 464, 3) := dk_182 1 208 (dk_at dksX2_measure_5 19 rfl rfl)
theorem dX2_measure_156 : decode cX2_measure 156 = .ok (.ireturn, 1) := dk_172 (dk_at dksX2_measure_5 22 rfl rfl)
theorem dX2_measure_157 : decode cX2_measure 157 = .ok (.aload_n 0, 1) := dk_42 (dk_at dksX2_measure_5 23 rfl rfl)
theorem dX2_measure_158 : decode cX2_measure 158 = .ok (.getfield 160, 3) := dk_180 0 160 (dk_at dksX2_measure_6 0 rfl rfl)
theorem dX2_measure_161 : decode cX2_measure 161 = .ok (.iload_n 1, 1) := dk_27 (dk_at dksX2_measure_6 3 rfl rfl)
theorem dX2_measure_162 : decode cX2_measure 162 = .ok (.iaload, 1) := dk_46 (dk_at dksX2_measure_6 4 rfl rfl)
theorem dX2_measure_163 : decode cX2_measure 163 = .ok (.ireturn, 1) := dk_172 (dk_at dksX2_measure_6 5 rfl rfl)
def dkwX2_says_4 : List UInt8 := [153, 0, 7, 4, 167, 0, 4, 3, 172, 42, 27, 182, 2, 51, 172]
abbrev dktX2_says_4 : List UInt8 := dkwX2_says_4 ++ []
def dkwX2_says_3 : List UInt8 := [42, 27, 182, 2, 39, 172, 42, 27, 182, 2, 79, 172, 42, 27, 182, 2, 54, 172, 42, 27, 182, 2, 26]
abbrev dktX2_says_3 : List UInt8 := dkwX2_says_3 ++ dktX2_says_4
def dkwX2_says_2 : List UInt8 := [170, 0, 0, 0, 0, 0, 63, 0, 0, 0, 0, 0, 0, 0, 3, 0, 0, 0, 31, 0, 0, 0, 37, 0, 0, 0, 43, 0, 0, 0, 49]
abbrev dktX2_says_2 : List UInt8 := dkwX2_says_2 ++ dktX2_says_3
def dkwX2_says_1 : List UInt8 := [182, 2, 72, 154, 0, 5, 3, 172, 28]
abbrev dktX2_says_1 : List UInt8 := dkwX2_says_1 ++ dktX2_says_2
def dkwX2_says_0 : List UInt8 := [42, 42, 27, 182, 2, 69, 153, 0, 16, 28, 155, 0, 12, 28, 7, 163, 0, 7, 4, 167, 0, 4, 3, 4]
abbrev dktX2_says_0 : List UInt8 := dkwX2_says_0 ++ dktX2_says_1
theorem dksX2_says_0 : cX2_says.data.toList.drop 0 = dktX2_says_0 := by decide +kernel
theorem dksX2_says_1 : cX2_says.data.toList.drop 24 = dktX2_says_1 := dk_seg dksX2_says_0 24 rfl rfl
theorem dksX2_says_2 : cX2_says.data.toList.drop 33 = dktX2_says_2 := dk_seg dksX2_says_1 9 rfl rfl
theorem dksX2_says_3 : cX2_says.data.toList.drop 64 = dktX2_says_3 := dk_seg dksX2_says_2 31 rfl rfl
theorem dksX2_says_4 : cX2_says.data.toList.drop 87 = dktX2_says_4 := dk_seg dksX2_says_3 23 rfl rfl
theorem dX2_says_0 : decode cX2_says 0 = .ok (.aload_n 0, 1) := dk_42 (dk_at dksX2_says_0 0 rfl rfl)
theorem dX2_says_1 : decode cX2_says 1 = .ok (.aload_n 0, 1) := dk_42 (dk_at dksX2_says_0 1 rfl rfl)
theorem dX2_says_2 : decode cX2_says 2 = .ok (.iload_n 1, 1) := dk_27 (dk_at dksX2_says_0 2 rfl rfl)
theorem dX2_says_3 : decode cX2_says 3 = .ok (.invokevirtual 581, 3) := dk_182 2 69 (dk_at dksX2_says_0 3 rfl rfl)
theorem dX2_says_6 : decode cX2_says 6 = .ok (.ifCond .eq 16, 3) := dk_153 0 16 (dk_at dksX2_says_0 6 rfl rfl)
theorem dX2_says_9 : decode cX2_says 9 = .ok (.iload_n 2, 1) := dk_28 (dk_at dksX2_says_0 9 rfl rfl)
theorem dX2_says_10 : decode cX2_says 10 = .ok (.ifCond .lt 12, 3) := dk_155 0 12 (dk_at dksX2_says_0 10 rfl rfl)
theorem dX2_says_13 : decode cX2_says 13 = .ok (.iload_n 2, 1) := dk_28 (dk_at dksX2_says_0 13 rfl rfl)
theorem dX2_says_14 : decode cX2_says 14 = .ok (.iconst 4, 1) := dk_7 (dk_at dksX2_says_0 14 rfl rfl)
theorem dX2_says_15 : decode cX2_says 15 = .ok (.if_icmp .gt 7, 3) := dk_163 0 7 (dk_at dksX2_says_0 15 rfl rfl)
theorem dX2_says_18 : decode cX2_says 18 = .ok (.iconst 1, 1) := dk_4 (dk_at dksX2_says_0 18 rfl rfl)
theorem dX2_says_19 : decode cX2_says 19 = .ok (.goto 4, 3) := dk_167 0 4 (dk_at dksX2_says_0 19 rfl rfl)
theorem dX2_says_22 : decode cX2_says 22 = .ok (.iconst 0, 1) := dk_3 (dk_at dksX2_says_0 22 rfl rfl)
theorem dX2_says_23 : decode cX2_says 23 = .ok (.iconst 1, 1) := dk_4 (dk_at dksX2_says_0 23 rfl rfl)
theorem dX2_says_24 : decode cX2_says 24 = .ok (.invokevirtual 584, 3) := dk_182 2 72 (dk_at dksX2_says_1 0 rfl rfl)
theorem dX2_says_27 : decode cX2_says 27 = .ok (.ifCond .ne 5, 3) := dk_154 0 5 (dk_at dksX2_says_1 3 rfl rfl)
theorem dX2_says_30 : decode cX2_says 30 = .ok (.iconst 0, 1) := dk_3 (dk_at dksX2_says_1 6 rfl rfl)
theorem dX2_says_31 : decode cX2_says 31 = .ok (.ireturn, 1) := dk_172 (dk_at dksX2_says_1 7 rfl rfl)
theorem dX2_says_32 : decode cX2_says 32 = .ok (.iload_n 2, 1) := dk_28 (dk_at dksX2_says_1 8 rfl rfl)
theorem dX2_says_33 : decode cX2_says 33 = .ok (.tableswitch 63 0 3 #[31, 37, 43, 49], 31) := by decide +kernel
theorem dX2_says_64 : decode cX2_says 64 = .ok (.aload_n 0, 1) := dk_42 (dk_at dksX2_says_3 0 rfl rfl)
theorem dX2_says_65 : decode cX2_says 65 = .ok (.iload_n 1, 1) := dk_27 (dk_at dksX2_says_3 1 rfl rfl)
theorem dX2_says_66 : decode cX2_says 66 = .ok (.invokevirtual 551, 3) := dk_182 2 39 (dk_at dksX2_says_3 2 rfl rfl)
theorem dX2_says_69 : decode cX2_says 69 = .ok (.ireturn, 1) := dk_172 (dk_at dksX2_says_3 5 rfl rfl)
theorem dX2_says_70 : decode cX2_says 70 = .ok (.aload_n 0, 1) := dk_42 (dk_at dksX2_says_3 6 rfl rfl)
theorem dX2_says_71 : decode cX2_says 71 = .ok (.iload_n 1, 1) := dk_27 (dk_at dksX2_says_3 7 rfl rfl)
theorem dX2_says_72 : decode cX2_says 72 = .ok (.invokevirtual 591, 3) := dk_182 2 79 (dk_at dksX2_says_3 8 rfl rfl)
theorem dX2_says_75 : decode cX2_says 75 = .ok (.ireturn, 1) := dk_172 (dk_at dksX2_says_3 11 rfl rfl)
theorem dX2_says_76 : decode cX2_says 76 = .ok (.aload_n 0, 1) := dk_42 (dk_at dksX2_says_3 12 rfl rfl)
theorem dX2_says_77 : decode cX2_says 77 = .ok (.iload_n 1, 1) := dk_27 (dk_at dksX2_says_3 13 rfl rfl)
theorem dX2_says_78 : decode cX2_says 78 = .ok (.invokevirtual 566, 3) := dk_182 2 54 (dk_at dksX2_says_3 14 rfl rfl)
theorem dX2_says_81 : decode cX2_says 81 = .ok (.ireturn, 1) := dk_172 (dk_at dksX2_says_3 17 rfl rfl)
theorem dX2_says_82 : decode cX2_says 82 = .ok (.aload_n 0, 1) := dk_42 (dk_at dksX2_says_3 18 rfl rfl)
theorem dX2_says_83 : decode cX2_says 83 = .ok (.iload_n 1, 1) := dk_27 (dk_at dksX2_says_3 19 rfl rfl)
theorem dX2_says_84 : decode cX2_says 84 = .ok (.invokevirtual 538, 3) := dk_182 2 26 (dk_at dksX2_says_3 20 rfl rfl)
theorem dX2_says_87 : decode cX2_says 87 = .ok (.ifCond .eq 7, 3) := dk_153 0 7 (dk_at dksX2_says_4 0 rfl rfl)
theorem dX2_says_90 : decode cX2_says 90 = .ok (.iconst 1, 1) := dk_4 (dk_at dksX2_says_4 3 rfl rfl)
theorem dX2_says_91 : decode cX2_says 91 = .ok (.goto 4, 3) := dk_167 0 4 (dk_at dksX2_says_4 4 rfl rfl)
theorem dX2_says_94 : decode cX2_says 94 = .ok (.iconst 0, 1) := dk_3 (dk_at dksX2_says_4 7 rfl rfl)
theorem dX2_says_95 : decode cX2_says 95 = .ok (.ireturn, 1) := dk_172 (dk_at dksX2_says_4 8 rfl rfl)
theorem dX2_says_96 : decode cX2_says 96 = .ok (.aload_n 0, 1) := dk_42 (dk_at dksX2_says_4 9 rfl rfl)
theorem dX2_says_97 : decode cX2_says 97 = .ok (.iload_n 1, 1) := dk_27 (dk_at dksX2_says_4 10 rfl rfl)
theorem dX2_says_98 : decode cX2_says 98 = .ok (.invokevirtual 563, 3) := dk_182 2 51 (dk_at dksX2_says_4 11 rfl rfl)
theorem dX2_says_101 : decode cX2_says 101 = .ok (.ireturn, 1) := dk_172 (dk_at dksX2_says_4 14 rfl rfl)
def dkwX2_noise_7 : List UInt8 := [167, 0, 5, 21, 4, 172]
abbrev dktX2_noise_7 : List UInt8 := dkwX2_noise_7 ++ []
def dkwX2_noise_6 : List UInt8 := [172, 3, 172, 28, 29, 164, 0, 7, 28, 167, 0, 4, 29, 54, 5, 21, 5, 21, 4, 164, 0, 8, 21, 5]
abbrev dktX2_noise_6 : List UInt8 := dkwX2_noise_6 ++ dktX2_noise_7
def dkwX2_noise_5 : List UInt8 := [42, 180, 0, 214, 27, 46, 154, 0, 8, 21, 4, 167, 0, 8, 21, 4, 16, 10, 96, 172, 21, 4, 5, 108]
abbrev dktX2_noise_5 : List UInt8 := dkwX2_noise_5 ++ dktX2_noise_6
def dkwX2_noise_4 : List UInt8 := [171, 0, 0, 0, 0, 0, 62, 0, 0, 0, 3, 0, 0, 0, 3, 0, 0, 0, 35, 0, 0, 0, 6, 0, 0, 0, 55, 0, 0, 0, 8, 0, 0, 0, 60]
abbrev dktX2_noise_4 : List UInt8 := dkwX2_noise_4 ++ dktX2_noise_5
def dkwX2_noise_3 : List UInt8 := [180, 0, 143, 27, 46]
abbrev dktX2_noise_3 : List UInt8 := dkwX2_noise_3 ++ dktX2_noise_4
def dkwX2_noise_2 : List UInt8 := [62, 42, 27, 16, 16, 182, 1, 235, 153, 0, 12, 42, 180, 0, 230, 27, 46, 167, 0, 4, 3, 54, 4, 42]
abbrev dktX2_noise_2 : List UInt8 := dkwX2_noise_2 ++ dktX2_noise_3
def dkwX2_noise_1 : List UInt8 := [61, 42, 27, 5, 182, 1, 235, 153, 0, 16, 42, 180, 0, 223, 27, 46, 153, 0, 7, 8, 167, 0, 4, 3]
abbrev dktX2_noise_1 : List UInt8 := dkwX2_noise_1 ++ dktX2_noise_2
def dkwX2_noise_0 : List UInt8 := [42, 27, 4, 182, 1, 235, 153, 0, 17, 42, 180, 0, 214, 27, 46, 184, 1, 238, 5, 108, 167, 0, 4, 3]
abbrev dktX2_noise_0 : List UInt8 := dkwX2_noise_0 ++ dktX2_noise_1
theorem dksX2_noise_0 : cX2_noise.data.toList.drop 0 = dktX2_noise_0 := by decide +kernel
theorem dksX2_noise_1 : cX2_noise.data.toList.drop 24 = dktX2_noise_1 := dk_seg dksX2_noise_0 24 rfl rfl
theorem dksX2_noise_2 : cX2_noise.data.toList.drop 48 = dktX2_noise_2 := dk_seg dksX2_noise_1 24 rfl rfl
theorem dksX2_noise_3 : cX2_noise.data.toList.drop 72 = dktX2_noise_3 := dk_seg dksX2_noise_2 24 rfl rfl
theorem dksX2_noise_4 : cX2_noise.data.toList.drop 77 = dktX2_noise_4 := dk_seg dksX2_noise_3 5 rfl rfl
theorem dksX2_noise_5 : cX2_noise.data.toList.drop 112 = dktX2_noise_5 := dk_seg dksX2_noise_4 35 rfl rfl
theorem dksX2_noise_6 : cX2_noise.data.toList.drop 136 = dktX2_noise_6 := dk_seg dksX2_noise_5 24 rfl rfl
theorem dksX2_noise_7 : cX2_noise.data.toList.drop 160 = dktX2_noise_7 := dk_seg dksX2_noise_6 24 rfl rfl
theorem dX2_noise_0 : decode cX2_noise 0 = .ok (.aload_n 0, 1) := dk_42 (dk_at dksX2_noise_0 0 rfl rfl)
theorem dX2_noise_1 : decode cX2_noise 1 = .ok (.iload_n 1, 1) := dk_27 (dk_at dksX2_noise_0 1 rfl rfl)
theorem dX2_noise_2 : decode cX2_noise 2 = .ok (.iconst 1, 1) := dk_4 (dk_at dksX2_noise_0 2 rfl rfl)
theorem dX2_noise_3 : decode cX2_noise 3 = .ok (.invokevirtual 491, 3) := dk_182 1 235 (dk_at dksX2_noise_0 3 rfl rfl)
theorem dX2_noise_6 : decode cX2_noise 6 = .ok (.ifCond .eq 17, 3) := dk_153 0 17 (dk_at dksX2_noise_0 6 rfl rfl)
theorem dX2_noise_9 : decode cX2_noise 9 = .ok (.aload_n 0, 1) := dk_42 (dk_at dksX2_noise_0 9 rfl rfl)
theorem dX2_noise_10 : decode cX2_noise 10 = .ok (.getfield 214, 3) := dk_180 0 214 (dk_at dksX2_noise_0 10 rfl rfl)
theorem dX2_noise_13 : decode cX2_noise 13 = .ok (.iload_n 1, 1) := dk_27 (dk_at dksX2_noise_0 13 rfl rfl)
theorem dX2_noise_14 : decode cX2_noise 14 = .ok (.iaload, 1) := dk_46 (dk_at dksX2_noise_0 14 rfl rfl)
theorem dX2_noise_15 : decode cX2_noise 15 = .ok (.invokestatic 494, 3) := dk_184 1 238 (dk_at dksX2_noise_0 15 rfl rfl)
theorem dX2_noise_18 : decode cX2_noise 18 = .ok (.iconst 2, 1) := dk_5 (dk_at dksX2_noise_0 18 rfl rfl)
theorem dX2_noise_19 : decode cX2_noise 19 = .ok (.idiv, 1) := dk_108 (dk_at dksX2_noise_0 19 rfl rfl)
theorem dX2_noise_20 : decode cX2_noise 20 = .ok (.goto 4, 3) := dk_167 0 4 (dk_at dksX2_noise_0 20 rfl rfl)
theorem dX2_noise_23 : decode cX2_noise 23 = .ok (.iconst 0, 1) := dk_3 (dk_at dksX2_noise_0 23 rfl rfl)
theorem dX2_noise_24 : decode cX2_noise 24 = .ok (.istore_n 2, 1) := dk_61 (dk_at dksX2_noise_1 0 rfl rfl)
theorem dX2_noise_25 : decode cX2_noise 25 = .ok (.aload_n 0, 1) := dk_42 (dk_at dksX2_noise_1 1 rfl rfl)
theorem dX2_noise_26 : decode cX2_noise 26 = .ok (.iload_n 1, 1) := dk_27 (dk_at dksX2_noise_1 2 rfl rfl)
theorem dX2_noise_27 : decode cX2_noise 27 = .ok (.iconst 2, 1) := dk_5 (dk_at dksX2_noise_1 3 rfl rfl)
theorem dX2_noise_28 : decode cX2_noise 28 = .ok (.invokevirtual 491, 3) := dk_182 1 235 (dk_at dksX2_noise_1 4 rfl rfl)
theorem dX2_noise_31 : decode cX2_noise 31 = .ok (.ifCond .eq 16, 3) := dk_153 0 16 (dk_at dksX2_noise_1 7 rfl rfl)
theorem dX2_noise_34 : decode cX2_noise 34 = .ok (.aload_n 0, 1) := dk_42 (dk_at dksX2_noise_1 10 rfl rfl)
theorem dX2_noise_35 : decode cX2_noise 35 = .ok (.getfield 223, 3) := dk_180 0 223 (dk_at dksX2_noise_1 11 rfl rfl)
theorem dX2_noise_38 : decode cX2_noise 38 = .ok (.iload_n 1, 1) := dk_27 (dk_at dksX2_noise_1 14 rfl rfl)
theorem dX2_noise_39 : decode cX2_noise 39 = .ok (.iaload, 1) := dk_46 (dk_at dksX2_noise_1 15 rfl rfl)
theorem dX2_noise_40 : decode cX2_noise 40 = .ok (.ifCond .eq 7, 3) := dk_153 0 7 (dk_at dksX2_noise_1 16 rfl rfl)
theorem dX2_noise_43 : decode cX2_noise 43 = .ok (.iconst 5, 1) := dk_8 (dk_at dksX2_noise_1 19 rfl rfl)
theorem dX2_noise_44 : decode cX2_noise 44 = .ok (.goto 4, 3) := dk_167 0 4 (dk_at dksX2_noise_1 20 rfl rfl)
theorem dX2_noise_47 : decode cX2_noise 47 = .ok (.iconst 0, 1) := dk_3 (dk_at dksX2_noise_1 23 rfl rfl)
theorem dX2_noise_48 : decode cX2_noise 48 = .ok (.istore_n 3, 1) := dk_62 (dk_at dksX2_noise_2 0 rfl rfl)
theorem dX2_noise_49 : decode cX2_noise 49 = .ok (.aload_n 0, 1) := dk_42 (dk_at dksX2_noise_2 1 rfl rfl)
theorem dX2_noise_50 : decode cX2_noise 50 = .ok (.iload_n 1, 1) := dk_27 (dk_at dksX2_noise_2 2 rfl rfl)
theorem dX2_noise_51 : decode cX2_noise 51 = .ok (.bipush 16, 2) := dk_16 16 (dk_at dksX2_noise_2 3 rfl rfl)
theorem dX2_noise_53 : decode cX2_noise 53 = .ok (.invokevirtual 491, 3) := dk_182 1 235 (dk_at dksX2_noise_2 5 rfl rfl)
theorem dX2_noise_56 : decode cX2_noise 56 = .ok (.ifCond .eq 12, 3) := dk_153 0 12 (dk_at dksX2_noise_2 8 rfl rfl)
theorem dX2_noise_59 : decode cX2_noise 59 = .ok (.aload_n 0, 1) := dk_42 (dk_at dksX2_noise_2 11 rfl rfl)
theorem dX2_noise_60 : decode cX2_noise 60 = .ok (.getfield 230, 3) := dk_180 0 230 (dk_at dksX2_noise_2 12 rfl rfl)
theorem dX2_noise_63 : decode cX2_noise 63 = .ok (.iload_n 1, 1) := dk_27 (dk_at dksX2_noise_2 15 rfl rfl)
theorem dX2_noise_64 : decode cX2_noise 64 = .ok (.iaload, 1) := dk_46 (dk_at dksX2_noise_2 16 rfl rfl)
theorem dX2_noise_65 : decode cX2_noise 65 = .ok (.goto 4, 3) := dk_167 0 4 (dk_at dksX2_noise_2 17 rfl rfl)
theorem dX2_noise_68 : decode cX2_noise 68 = .ok (.iconst 0, 1) := dk_3 (dk_at dksX2_noise_2 20 rfl rfl)
theorem dX2_noise_69 : decode cX2_noise 69 = .ok (.istore 4, 2) := dk_54 4 (dk_at dksX2_noise_2 21 rfl rfl)
theorem dX2_noise_71 : decode cX2_noise 71 = .ok (.aload_n 0, 1) := dk_42 (dk_at dksX2_noise_2 23 rfl rfl)
theorem dX2_noise_72 : decode cX2_noise 72 = .ok (.getfield 143, 3) := dk_180 0 143 (dk_at dksX2_noise_3 0 rfl rfl)
theorem dX2_noise_75 : decode cX2_noise 75 = .ok (.iload_n 1, 1) := dk_27 (dk_at dksX2_noise_3 3 rfl rfl)
theorem dX2_noise_76 : decode cX2_noise 76 = .ok (.iaload, 1) := dk_46 (dk_at dksX2_noise_3 4 rfl rfl)
theorem dX2_noise_77 : decode cX2_noise 77 = .ok (.lookupswitch 62 #[(3, 35), (6, 55), (8, 60)], 35) := by decide +kernel
theorem dX2_noise_112 : decode cX2_noise 112 = .ok (.aload_n 0, 1) := dk_42 (dk_at dksX2_noise_5 0 rfl rfl)
theorem dX2_noise_113 : decode cX2_noise 113 = .ok (.getfield 214, 3) := dk_180 0 214 (dk_at dksX2_noise_5 1 rfl rfl)
theorem dX2_noise_116 : decode cX2_noise 116 = .ok (.iload_n 1, 1) := dk_27 (dk_at dksX2_noise_5 4 rfl rfl)
theorem dX2_noise_117 : decode cX2_noise 117 = .ok (.iaload, 1) := dk_46 (dk_at dksX2_noise_5 5 rfl rfl)
theorem dX2_noise_118 : decode cX2_noise 118 = .ok (.ifCond .ne 8, 3) := dk_154 0 8 (dk_at dksX2_noise_5 6 rfl rfl)
theorem dX2_noise_121 : decode cX2_noise 121 = .ok (.iload 4, 2) := dk_21 4 (dk_at dksX2_noise_5 9 rfl rfl)
theorem dX2_noise_123 : decode cX2_noise 123 = .ok (.goto 8, 3) := dk_167 0 8 (dk_at dksX2_noise_5 11 rfl rfl)
theorem dX2_noise_126 : decode cX2_noise 126 = .ok (.iload 4, 2) := dk_21 4 (dk_at dksX2_noise_5 14 rfl rfl)
theorem dX2_noise_128 : decode cX2_noise 128 = .ok (.bipush 10, 2) := dk_16 10 (dk_at dksX2_noise_5 16 rfl rfl)
theorem dX2_noise_130 : decode cX2_noise 130 = .ok (.iadd, 1) := dk_96 (dk_at dksX2_noise_5 18 rfl rfl)
theorem dX2_noise_131 : decode cX2_noise 131 = .ok (.ireturn, 1) := dk_172 (dk_at dksX2_noise_5 19 rfl rfl)
theorem dX2_noise_132 : decode cX2_noise 132 = .ok (.iload 4, 2) := dk_21 4 (dk_at dksX2_noise_5 20 rfl rfl)
theorem dX2_noise_134 : decode cX2_noise 134 = .ok (.iconst 2, 1) := dk_5 (dk_at dksX2_noise_5 22 rfl rfl)
theorem dX2_noise_135 : decode cX2_noise 135 = .ok (.idiv, 1) := dk_108 (dk_at dksX2_noise_5 23 rfl rfl)
theorem dX2_noise_136 : decode cX2_noise 136 = .ok (.ireturn, 1) := dk_172 (dk_at dksX2_noise_6 0 rfl rfl)
theorem dX2_noise_137 : decode cX2_noise 137 = .ok (.iconst 0, 1) := dk_3 (dk_at dksX2_noise_6 1 rfl rfl)
theorem dX2_noise_138 : decode cX2_noise 138 = .ok (.ireturn, 1) := dk_172 (dk_at dksX2_noise_6 2 rfl rfl)
theorem dX2_noise_139 : decode cX2_noise 139 = .ok (.iload_n 2, 1) := dk_28 (dk_at dksX2_noise_6 3 rfl rfl)
theorem dX2_noise_140 : decode cX2_noise 140 = .ok (.iload_n 3, 1) := dk_29 (dk_at dksX2_noise_6 4 rfl rfl)
theorem dX2_noise_141 : decode cX2_noise 141 = .ok (.if_icmp .le 7, 3) := dk_164 0 7 (dk_at dksX2_noise_6 5 rfl rfl)
theorem dX2_noise_144 : decode cX2_noise 144 = .ok (.iload_n 2, 1) := dk_28 (dk_at dksX2_noise_6 8 rfl rfl)
theorem dX2_noise_145 : decode cX2_noise 145 = .ok (.goto 4, 3) := dk_167 0 4 (dk_at dksX2_noise_6 9 rfl rfl)
theorem dX2_noise_148 : decode cX2_noise 148 = .ok (.iload_n 3, 1) := dk_29 (dk_at dksX2_noise_6 12 rfl rfl)
theorem dX2_noise_149 : decode cX2_noise 149 = .ok (.istore 5, 2) := dk_54 5 (dk_at dksX2_noise_6 13 rfl rfl)
theorem dX2_noise_151 : decode cX2_noise 151 = .ok (.iload 5, 2) := dk_21 5 (dk_at dksX2_noise_6 15 rfl rfl)
theorem dX2_noise_153 : decode cX2_noise 153 = .ok (.iload 4, 2) := dk_21 4 (dk_at dksX2_noise_6 17 rfl rfl)
theorem dX2_noise_155 : decode cX2_noise 155 = .ok (.if_icmp .le 8, 3) := dk_164 0 8 (dk_at dksX2_noise_6 19 rfl rfl)
theorem dX2_noise_158 : decode cX2_noise 158 = .ok (.iload 5, 2) := dk_21 5 (dk_at dksX2_noise_6 22 rfl rfl)
theorem dX2_noise_160 : decode cX2_noise 160 = .ok (.goto 5, 3) := dk_167 0 5 (dk_at dksX2_noise_7 0 rfl rfl)
theorem dX2_noise_163 : decode cX2_noise 163 = .ok (.iload 4, 2) := dk_21 4 (dk_at dksX2_noise_7 3 rfl rfl)
theorem dX2_noise_165 : decode cX2_noise 165 = .ok (.ireturn, 1) := dk_172 (dk_at dksX2_noise_7 5 rfl rfl)
def dkwX2_script_6 : List UInt8 := [100, 46, 172]
abbrev dktX2_script_6 : List UInt8 := dkwX2_script_6 ++ []
def dkwX2_script_5 : List UInt8 := [180, 0, 239, 27, 46, 46, 172, 42, 180, 0, 242, 27, 46, 172, 42, 180, 0, 251, 7, 27, 104, 28, 96, 7]
abbrev dktX2_script_5 : List UInt8 := dkwX2_script_5 ++ dktX2_script_6
def dkwX2_script_4 : List UInt8 := [180, 0, 172, 42, 180, 0, 239, 27, 46, 46, 16, 54, 160, 0, 7, 2, 167, 0, 14, 42, 180, 0, 175, 42]
abbrev dktX2_script_4 : List UInt8 := dkwX2_script_4 ++ dktX2_script_5
def dkwX2_script_3 : List UInt8 := [42, 180, 0, 234, 27, 46, 172, 42, 180, 0, 237, 27, 46, 172, 42, 180, 0, 234, 27, 46, 154, 0, 19, 42]
abbrev dktX2_script_3 : List UInt8 := dkwX2_script_3 ++ dktX2_script_4
def dkwX2_script_2 : List UInt8 := [170, 0, 0, 0, 0, 92, 0, 0, 0, 0, 0, 0, 0, 3, 0, 0, 0, 30, 0, 0, 0, 37, 0, 0, 0, 44, 0, 0, 0, 85]
abbrev dktX2_script_2 : List UInt8 := dkwX2_script_2 ++ dktX2_script_3
def dkwX2_script_1 : List UInt8 := [4, 182, 2, 72, 154, 0, 5, 3, 172, 28]
abbrev dktX2_script_1 : List UInt8 := dkwX2_script_1 ++ dktX2_script_2
def dkwX2_script_0 : List UInt8 := [42, 42, 27, 182, 2, 69, 153, 0, 17, 28, 155, 0, 13, 28, 16, 7, 163, 0, 7, 4, 167, 0, 4, 3]
abbrev dktX2_script_0 : List UInt8 := dkwX2_script_0 ++ dktX2_script_1
theorem dksX2_script_0 : cX2_script.data.toList.drop 0 = dktX2_script_0 := by decide +kernel
theorem dksX2_script_1 : cX2_script.data.toList.drop 24 = dktX2_script_1 := dk_seg dksX2_script_0 24 rfl rfl
theorem dksX2_script_2 : cX2_script.data.toList.drop 34 = dktX2_script_2 := dk_seg dksX2_script_1 10 rfl rfl
theorem dksX2_script_3 : cX2_script.data.toList.drop 64 = dktX2_script_3 := dk_seg dksX2_script_2 30 rfl rfl
theorem dksX2_script_4 : cX2_script.data.toList.drop 88 = dktX2_script_4 := dk_seg dksX2_script_3 24 rfl rfl
theorem dksX2_script_5 : cX2_script.data.toList.drop 112 = dktX2_script_5 := dk_seg dksX2_script_4 24 rfl rfl
theorem dksX2_script_6 : cX2_script.data.toList.drop 136 = dktX2_script_6 := dk_seg dksX2_script_5 24 rfl rfl
theorem dX2_script_0 : decode cX2_script 0 = .ok (.aload_n 0, 1) := dk_42 (dk_at dksX2_script_0 0 rfl rfl)
theorem dX2_script_1 : decode cX2_script 1 = .ok (.aload_n 0, 1) := dk_42 (dk_at dksX2_script_0 1 rfl rfl)
theorem dX2_script_2 : decode cX2_script 2 = .ok (.iload_n 1, 1) := dk_27 (dk_at dksX2_script_0 2 rfl rfl)
theorem dX2_script_3 : decode cX2_script 3 = .ok (.invokevirtual 581, 3) := dk_182 2 69 (dk_at dksX2_script_0 3 rfl rfl)
theorem dX2_script_6 : decode cX2_script 6 = .ok (.ifCond .eq 17, 3) := dk_153 0 17 (dk_at dksX2_script_0 6 rfl rfl)
theorem dX2_script_9 : decode cX2_script 9 = .ok (.iload_n 2, 1) := dk_28 (dk_at dksX2_script_0 9 rfl rfl)
theorem dX2_script_10 : decode cX2_script 10 = .ok (.ifCond .lt 13, 3) := dk_155 0 13 (dk_at dksX2_script_0 10 rfl rfl)
theorem dX2_script_13 : decode cX2_script 13 = .ok (.iload_n 2, 1) := dk_28 (dk_at dksX2_script_0 13 rfl rfl)
theorem dX2_script_14 : decode cX2_script 14 = .ok (.bipush 7, 2) := dk_16 7 (dk_at dksX2_script_0 14 rfl rfl)
theorem dX2_script_16 : decode cX2_script 16 = .ok (.if_icmp .gt 7, 3) := dk_163 0 7 (dk_at dksX2_script_0 16 rfl rfl)
theorem dX2_script_19 : decode cX2_script 19 = .ok (.iconst 1, 1) := dk_4 (dk_at dksX2_script_0 19 rfl rfl)
theorem dX2_script_20 : decode cX2_script 20 = .ok (.goto 4, 3) := dk_167 0 4 (dk_at dksX2_script_0 20 rfl rfl)
theorem dX2_script_23 : decode cX2_script 23 = .ok (.iconst 0, 1) := dk_3 (dk_at dksX2_script_0 23 rfl rfl)
theorem dX2_script_24 : decode cX2_script 24 = .ok (.iconst 1, 1) := dk_4 (dk_at dksX2_script_1 0 rfl rfl)
theorem dX2_script_25 : decode cX2_script 25 = .ok (.invokevirtual 584, 3) := dk_182 2 72 (dk_at dksX2_script_1 1 rfl rfl)
theorem dX2_script_28 : decode cX2_script 28 = .ok (.ifCond .ne 5, 3) := dk_154 0 5 (dk_at dksX2_script_1 4 rfl rfl)
theorem dX2_script_31 : decode cX2_script 31 = .ok (.iconst 0, 1) := dk_3 (dk_at dksX2_script_1 7 rfl rfl)
theorem dX2_script_32 : decode cX2_script 32 = .ok (.ireturn, 1) := dk_172 (dk_at dksX2_script_1 8 rfl rfl)
theorem dX2_script_33 : decode cX2_script 33 = .ok (.iload_n 2, 1) := dk_28 (dk_at dksX2_script_1 9 rfl rfl)
theorem dX2_script_34 : decode cX2_script 34 = .ok (.tableswitch 92 0 3 #[30, 37, 44, 85], 30) := by decide +kernel
theorem dX2_script_64 : decode cX2_script 64 = .ok (.aload_n 0, 1) := dk_42 (dk_at dksX2_script_3 0 rfl rfl)
theorem dX2_script_65 : decode cX2_script 65 = .ok (.getfield 234, 3) := dk_180 0 234 (dk_at dksX2_script_3 1 rfl rfl)
theorem dX2_script_68 : decode cX2_script 68 = .ok (.iload_n 1, 1) := dk_27 (dk_at dksX2_script_3 4 rfl rfl)
theorem dX2_script_69 : decode cX2_script 69 = .ok (.iaload, 1) := dk_46 (dk_at dksX2_script_3 5 rfl rfl)
theorem dX2_script_70 : decode cX2_script 70 = .ok (.ireturn, 1) := dk_172 (dk_at dksX2_script_3 6 rfl rfl)
theorem dX2_script_71 : decode cX2_script 71 = .ok (.aload_n 0, 1) := dk_42 (dk_at dksX2_script_3 7 rfl rfl)
theorem dX2_script_72 : decode cX2_script 72 = .ok (.getfield 237, 3) := dk_180 0 237 (dk_at dksX2_script_3 8 rfl rfl)
theorem dX2_script_75 : decode cX2_script 75 = .ok (.iload_n 1, 1) := dk_27 (dk_at dksX2_script_3 11 rfl rfl)
theorem dX2_script_76 : decode cX2_script 76 = .ok (.iaload, 1) := dk_46 (dk_at dksX2_script_3 12 rfl rfl)
theorem dX2_script_77 : decode cX2_script 77 = .ok (.ireturn, 1) := dk_172 (dk_at dksX2_script_3 13 rfl rfl)
theorem dX2_script_78 : decode cX2_script 78 = .ok (.aload_n 0, 1) := dk_42 (dk_at dksX2_script_3 14 rfl rfl)
theorem dX2_script_79 : decode cX2_script 79 = .ok (.getfield 234, 3) := dk_180 0 234 (dk_at dksX2_script_3 15 rfl rfl)
theorem dX2_script_82 : decode cX2_script 82 = .ok (.iload_n 1, 1) := dk_27 (dk_at dksX2_script_3 18 rfl rfl)
theorem dX2_script_83 : decode cX2_script 83 = .ok (.iaload, 1) := dk_46 (dk_at dksX2_script_3 19 rfl rfl)
theorem dX2_script_84 : decode cX2_script 84 = .ok (.ifCond .ne 19, 3) := dk_154 0 19 (dk_at dksX2_script_3 20 rfl rfl)
theorem dX2_script_87 : decode cX2_script 87 = .ok (.aload_n 0, 1) := dk_42 (dk_at dksX2_script_3 23 rfl rfl)
theorem dX2_script_88 : decode cX2_script 88 = .ok (.getfield 172, 3) := dk_180 0 172 (dk_at dksX2_script_4 0 rfl rfl)
theorem dX2_script_91 : decode cX2_script 91 = .ok (.aload_n 0, 1) := dk_42 (dk_at dksX2_script_4 3 rfl rfl)
theorem dX2_script_92 : decode cX2_script 92 = .ok (.getfield 239, 3) := dk_180 0 239 (dk_at dksX2_script_4 4 rfl rfl)
theorem dX2_script_95 : decode cX2_script 95 = .ok (.iload_n 1, 1) := dk_27 (dk_at dksX2_script_4 7 rfl rfl)
theorem dX2_script_96 : decode cX2_script 96 = .ok (.iaload, 1) := dk_46 (dk_at dksX2_script_4 8 rfl rfl)
theorem dX2_script_97 : decode cX2_script 97 = .ok (.iaload, 1) := dk_46 (dk_at dksX2_script_4 9 rfl rfl)
theorem dX2_script_98 : decode cX2_script 98 = .ok (.bipush 54, 2) := dk_16 54 (dk_at dksX2_script_4 10 rfl rfl)
theorem dX2_script_100 : decode cX2_script 100 = .ok (.if_icmp .ne 7, 3) := dk_160 0 7 (dk_at dksX2_script_4 12 rfl rfl)
theorem dX2_script_103 : decode cX2_script 103 = .ok (.iconst (-1), 1) := dk_2 (dk_at dksX2_script_4 15 rfl rfl)
theorem dX2_script_104 : decode cX2_script 104 = .ok (.goto 14, 3) := dk_167 0 14 (dk_at dksX2_script_4 16 rfl rfl)
theorem dX2_script_107 : decode cX2_script 107 = .ok (.aload_n 0, 1) := dk_42 (dk_at dksX2_script_4 19 rfl rfl)
theorem dX2_script_108 : decode cX2_script 108 = .ok (.getfield 175, 3) := dk_180 0 175 (dk_at dksX2_script_4 20 rfl rfl)
theorem dX2_script_111 : decode cX2_script 111 = .ok (.aload_n 0, 1) := dk_42 (dk_at dksX2_script_4 23 rfl rfl)
theorem dX2_script_112 : decode cX2_script 112 = .ok (.getfield 239, 3) := dk_180 0 239 (dk_at dksX2_script_5 0 rfl rfl)
theorem dX2_script_115 : decode cX2_script 115 = .ok (.iload_n 1, 1) := dk_27 (dk_at dksX2_script_5 3 rfl rfl)
theorem dX2_script_116 : decode cX2_script 116 = .ok (.iaload, 1) := dk_46 (dk_at dksX2_script_5 4 rfl rfl)
theorem dX2_script_117 : decode cX2_script 117 = .ok (.iaload, 1) := dk_46 (dk_at dksX2_script_5 5 rfl rfl)
theorem dX2_script_118 : decode cX2_script 118 = .ok (.ireturn, 1) := dk_172 (dk_at dksX2_script_5 6 rfl rfl)
theorem dX2_script_119 : decode cX2_script 119 = .ok (.aload_n 0, 1) := dk_42 (dk_at dksX2_script_5 7 rfl rfl)
theorem dX2_script_120 : decode cX2_script 120 = .ok (.getfield 242, 3) := dk_180 0 242 (dk_at dksX2_script_5 8 rfl rfl)
theorem dX2_script_123 : decode cX2_script 123 = .ok (.iload_n 1, 1) := dk_27 (dk_at dksX2_script_5 11 rfl rfl)
theorem dX2_script_124 : decode cX2_script 124 = .ok (.iaload, 1) := dk_46 (dk_at dksX2_script_5 12 rfl rfl)
theorem dX2_script_125 : decode cX2_script 125 = .ok (.ireturn, 1) := dk_172 (dk_at dksX2_script_5 13 rfl rfl)
theorem dX2_script_126 : decode cX2_script 126 = .ok (.aload_n 0, 1) := dk_42 (dk_at dksX2_script_5 14 rfl rfl)
theorem dX2_script_127 : decode cX2_script 127 = .ok (.getfield 251, 3) := dk_180 0 251 (dk_at dksX2_script_5 15 rfl rfl)
theorem dX2_script_130 : decode cX2_script 130 = .ok (.iconst 4, 1) := dk_7 (dk_at dksX2_script_5 18 rfl rfl)
theorem dX2_script_131 : decode cX2_script 131 = .ok (.iload_n 1, 1) := dk_27 (dk_at dksX2_script_5 19 rfl rfl)
theorem dX2_script_132 : decode cX2_script 132 = .ok (.imul, 1) := dk_104 (dk_at dksX2_script_5 20 rfl rfl)
theorem dX2_script_133 : decode cX2_script 133 = .ok (.iload_n 2, 1) := dk_28 (dk_at dksX2_script_5 21 rfl rfl)
theorem dX2_script_134 : decode cX2_script 134 = .ok (.iadd, 1) := dk_96 (dk_at dksX2_script_5 22 rfl rfl)
theorem dX2_script_135 : decode cX2_script 135 = .ok (.iconst 4, 1) := dk_7 (dk_at dksX2_script_5 23 rfl rfl)
theorem dX2_script_136 : decode cX2_script 136 = .ok (.isub, 1) := dk_100 (dk_at dksX2_script_6 0 rfl rfl)
theorem dX2_script_137 : decode cX2_script 137 = .ok (.iaload, 1) := dk_46 (dk_at dksX2_script_6 1 rfl rfl)
theorem dX2_script_138 : decode cX2_script 138 = .ok (.ireturn, 1) := dk_172 (dk_at dksX2_script_6 2 rfl rfl)
def dkwX2_free_1 : List UInt8 := [153, 0, 12, 42, 180, 1, 4, 27, 46, 167, 0, 4, 3, 172]
abbrev dktX2_free_1 : List UInt8 := dkwX2_free_1 ++ []
def dkwX2_free_0 : List UInt8 := [42, 27, 155, 0, 15, 27, 42, 180, 1, 115, 162, 0, 7, 4, 167, 0, 4, 3, 4, 182, 2, 72]
abbrev dktX2_free_0 : List UInt8 := dkwX2_free_0 ++ dktX2_free_1
theorem dksX2_free_0 : cX2_free.data.toList.drop 0 = dktX2_free_0 := by decide +kernel
theorem dksX2_free_1 : cX2_free.data.toList.drop 22 = dktX2_free_1 := dk_seg dksX2_free_0 22 rfl rfl
theorem dX2_free_0 : decode cX2_free 0 = .ok (.aload_n 0, 1) := dk_42 (dk_at dksX2_free_0 0 rfl rfl)
theorem dX2_free_1 : decode cX2_free 1 = .ok (.iload_n 1, 1) := dk_27 (dk_at dksX2_free_0 1 rfl rfl)
theorem dX2_free_2 : decode cX2_free 2 = .ok (.ifCond .lt 15, 3) := dk_155 0 15 (dk_at dksX2_free_0 2 rfl rfl)
theorem dX2_free_5 : decode cX2_free 5 = .ok (.iload_n 1, 1) := dk_27 (dk_at dksX2_free_0 5 rfl rfl)
theorem dX2_free_6 : decode cX2_free 6 = .ok (.aload_n 0, 1) := dk_42 (dk_at dksX2_free_0 6 rfl rfl)
theorem dX2_free_7 : decode cX2_free 7 = .ok (.getfield 371, 3) := dk_180 1 115 (dk_at dksX2_free_0 7 rfl rfl)
theorem dX2_free_10 : decode cX2_free 10 = .ok (.if_icmp .ge 7, 3) := dk_162 0 7 (dk_at dksX2_free_0 10 rfl rfl)
theorem dX2_free_13 : decode cX2_free 13 = .ok (.iconst 1, 1) := dk_4 (dk_at dksX2_free_0 13 rfl rfl)
theorem dX2_free_14 : decode cX2_free 14 = .ok (.goto 4, 3) := dk_167 0 4 (dk_at dksX2_free_0 14 rfl rfl)
theorem dX2_free_17 : decode cX2_free 17 = .ok (.iconst 0, 1) := dk_3 (dk_at dksX2_free_0 17 rfl rfl)
theorem dX2_free_18 : decode cX2_free 18 = .ok (.iconst 1, 1) := dk_4 (dk_at dksX2_free_0 18 rfl rfl)
theorem dX2_free_19 : decode cX2_free 19 = .ok (.invokevirtual 584, 3) := dk_182 2 72 (dk_at dksX2_free_0 19 rfl rfl)
theorem dX2_free_22 : decode cX2_free 22 = .ok (.ifCond .eq 12, 3) := dk_153 0 12 (dk_at dksX2_free_1 0 rfl rfl)
theorem dX2_free_25 : decode cX2_free 25 = .ok (.aload_n 0, 1) := dk_42 (dk_at dksX2_free_1 3 rfl rfl)
theorem dX2_free_26 : decode cX2_free 26 = .ok (.getfield 260, 3) := dk_180 1 4 (dk_at dksX2_free_1 4 rfl rfl)
theorem dX2_free_29 : decode cX2_free 29 = .ok (.iload_n 1, 1) := dk_27 (dk_at dksX2_free_1 7 rfl rfl)
theorem dX2_free_30 : decode cX2_free 30 = .ok (.iaload, 1) := dk_46 (dk_at dksX2_free_1 8 rfl rfl)
theorem dX2_free_31 : decode cX2_free 31 = .ok (.goto 4, 3) := dk_167 0 4 (dk_at dksX2_free_1 9 rfl rfl)
theorem dX2_free_34 : decode cX2_free 34 = .ok (.iconst 0, 1) := dk_3 (dk_at dksX2_free_1 12 rfl rfl)
theorem dX2_free_35 : decode cX2_free 35 = .ok (.ireturn, 1) := dk_172 (dk_at dksX2_free_1 13 rfl rfl)
def dkwX2_isUp_1 : List UInt8 := [153, 0, 16, 42, 180, 1, 7, 27, 51, 153, 0, 7, 4, 167, 0, 4, 3, 172]
abbrev dktX2_isUp_1 : List UInt8 := dkwX2_isUp_1 ++ []
def dkwX2_isUp_0 : List UInt8 := [42, 27, 155, 0, 15, 27, 42, 180, 1, 117, 162, 0, 7, 4, 167, 0, 4, 3, 4, 182, 2, 72]
abbrev dktX2_isUp_0 : List UInt8 := dkwX2_isUp_0 ++ dktX2_isUp_1
theorem dksX2_isUp_0 : cX2_isUp.data.toList.drop 0 = dktX2_isUp_0 := by decide +kernel
theorem dksX2_isUp_1 : cX2_isUp.data.toList.drop 22 = dktX2_isUp_1 := dk_seg dksX2_isUp_0 22 rfl rfl
theorem dX2_isUp_0 : decode cX2_isUp 0 = .ok (.aload_n 0, 1) := dk_42 (dk_at dksX2_isUp_0 0 rfl rfl)
theorem dX2_isUp_1 : decode cX2_isUp 1 = .ok (.iload_n 1, 1) := dk_27 (dk_at dksX2_isUp_0 1 rfl rfl)
theorem dX2_isUp_2 : decode cX2_isUp 2 = .ok (.ifCond .lt 15, 3) := dk_155 0 15 (dk_at dksX2_isUp_0 2 rfl rfl)
theorem dX2_isUp_5 : decode cX2_isUp 5 = .ok (.iload_n 1, 1) := dk_27 (dk_at dksX2_isUp_0 5 rfl rfl)
theorem dX2_isUp_6 : decode cX2_isUp 6 = .ok (.aload_n 0, 1) := dk_42 (dk_at dksX2_isUp_0 6 rfl rfl)
theorem dX2_isUp_7 : decode cX2_isUp 7 = .ok (.getfield 373, 3) := dk_180 1 117 (dk_at dksX2_isUp_0 7 rfl rfl)
theorem dX2_isUp_10 : decode cX2_isUp 10 = .ok (.if_icmp .ge 7, 3) := dk_162 0 7 (dk_at dksX2_isUp_0 10 rfl rfl)
theorem dX2_isUp_13 : decode cX2_isUp 13 = .ok (.iconst 1, 1) := dk_4 (dk_at dksX2_isUp_0 13 rfl rfl)
theorem dX2_isUp_14 : decode cX2_isUp 14 = .ok (.goto 4, 3) := dk_167 0 4 (dk_at dksX2_isUp_0 14 rfl rfl)
theorem dX2_isUp_17 : decode cX2_isUp 17 = .ok (.iconst 0, 1) := dk_3 (dk_at dksX2_isUp_0 17 rfl rfl)
theorem dX2_isUp_18 : decode cX2_isUp 18 = .ok (.iconst 1, 1) := dk_4 (dk_at dksX2_isUp_0 18 rfl rfl)
theorem dX2_isUp_19 : decode cX2_isUp 19 = .ok (.invokevirtual 584, 3) := dk_182 2 72 (dk_at dksX2_isUp_0 19 rfl rfl)
theorem dX2_isUp_22 : decode cX2_isUp 22 = .ok (.ifCond .eq 16, 3) := dk_153 0 16 (dk_at dksX2_isUp_1 0 rfl rfl)
theorem dX2_isUp_25 : decode cX2_isUp 25 = .ok (.aload_n 0, 1) := dk_42 (dk_at dksX2_isUp_1 3 rfl rfl)
theorem dX2_isUp_26 : decode cX2_isUp 26 = .ok (.getfield 263, 3) := dk_180 1 7 (dk_at dksX2_isUp_1 4 rfl rfl)
theorem dX2_isUp_29 : decode cX2_isUp 29 = .ok (.iload_n 1, 1) := dk_27 (dk_at dksX2_isUp_1 7 rfl rfl)
theorem dX2_isUp_30 : decode cX2_isUp 30 = .ok (.baload, 1) := dk_51 (dk_at dksX2_isUp_1 8 rfl rfl)
theorem dX2_isUp_31 : decode cX2_isUp 31 = .ok (.ifCond .eq 7, 3) := dk_153 0 7 (dk_at dksX2_isUp_1 9 rfl rfl)
theorem dX2_isUp_34 : decode cX2_isUp 34 = .ok (.iconst 1, 1) := dk_4 (dk_at dksX2_isUp_1 12 rfl rfl)
theorem dX2_isUp_35 : decode cX2_isUp 35 = .ok (.goto 4, 3) := dk_167 0 4 (dk_at dksX2_isUp_1 13 rfl rfl)
theorem dX2_isUp_38 : decode cX2_isUp 38 = .ok (.iconst 0, 1) := dk_3 (dk_at dksX2_isUp_1 16 rfl rfl)
theorem dX2_isUp_39 : decode cX2_isUp 39 = .ok (.ireturn, 1) := dk_172 (dk_at dksX2_isUp_1 17 rfl rfl)
def dkwX2_set_2 : List UInt8 := [180, 1, 7, 27, 28, 84, 29, 172]
abbrev dktX2_set_2 : List UInt8 := dkwX2_set_2 ++ []
def dkwX2_set_1 : List UInt8 := [154, 0, 5, 3, 172, 42, 180, 1, 7, 27, 51, 28, 159, 0, 7, 4, 167, 0, 4, 3, 62, 42]
abbrev dktX2_set_1 : List UInt8 := dkwX2_set_1 ++ dktX2_set_2
def dkwX2_set_0 : List UInt8 := [42, 27, 155, 0, 15, 27, 42, 180, 1, 117, 162, 0, 7, 4, 167, 0, 4, 3, 4, 182, 2, 72]
abbrev dktX2_set_0 : List UInt8 := dkwX2_set_0 ++ dktX2_set_1
theorem dksX2_set_0 : cX2_set.data.toList.drop 0 = dktX2_set_0 := by decide +kernel
theorem dksX2_set_1 : cX2_set.data.toList.drop 22 = dktX2_set_1 := dk_seg dksX2_set_0 22 rfl rfl
theorem dksX2_set_2 : cX2_set.data.toList.drop 44 = dktX2_set_2 := dk_seg dksX2_set_1 22 rfl rfl
theorem dX2_set_0 : decode cX2_set 0 = .ok (.aload_n 0, 1) := dk_42 (dk_at dksX2_set_0 0 rfl rfl)
theorem dX2_set_1 : decode cX2_set 1 = .ok (.iload_n 1, 1) := dk_27 (dk_at dksX2_set_0 1 rfl rfl)
theorem dX2_set_2 : decode cX2_set 2 = .ok (.ifCond .lt 15, 3) := dk_155 0 15 (dk_at dksX2_set_0 2 rfl rfl)
theorem dX2_set_5 : decode cX2_set 5 = .ok (.iload_n 1, 1) := dk_27 (dk_at dksX2_set_0 5 rfl rfl)
theorem dX2_set_6 : decode cX2_set 6 = .ok (.aload_n 0, 1) := dk_42 (dk_at dksX2_set_0 6 rfl rfl)
theorem dX2_set_7 : decode cX2_set 7 = .ok (.getfield 373, 3) := dk_180 1 117 (dk_at dksX2_set_0 7 rfl rfl)
theorem dX2_set_10 : decode cX2_set 10 = .ok (.if_icmp .ge 7, 3) := dk_162 0 7 (dk_at dksX2_set_0 10 rfl rfl)
theorem dX2_set_13 : decode cX2_set 13 = .ok (.iconst 1, 1) := dk_4 (dk_at dksX2_set_0 13 rfl rfl)
theorem dX2_set_14 : decode cX2_set 14 = .ok (.goto 4, 3) := dk_167 0 4 (dk_at dksX2_set_0 14 rfl rfl)
theorem dX2_set_17 : decode cX2_set 17 = .ok (.iconst 0, 1) := dk_3 (dk_at dksX2_set_0 17 rfl rfl)
theorem dX2_set_18 : decode cX2_set 18 = .ok (.iconst 1, 1) := dk_4 (dk_at dksX2_set_0 18 rfl rfl)
theorem dX2_set_19 : decode cX2_set 19 = .ok (.invokevirtual 584, 3) := dk_182 2 72 (dk_at dksX2_set_0 19 rfl rfl)
theorem dX2_set_22 : decode cX2_set 22 = .ok (.ifCond .ne 5, 3) := dk_154 0 5 (dk_at dksX2_set_1 0 rfl rfl)
theorem dX2_set_25 : decode cX2_set 25 = .ok (.iconst 0, 1) := dk_3 (dk_at dksX2_set_1 3 rfl rfl)
theorem dX2_set_26 : decode cX2_set 26 = .ok (.ireturn, 1) := dk_172 (dk_at dksX2_set_1 4 rfl rfl)
theorem dX2_set_27 : decode cX2_set 27 = .ok (.aload_n 0, 1) := dk_42 (dk_at dksX2_set_1 5 rfl rfl)
theorem dX2_set_28 : decode cX2_set 28 = .ok (.getfield 263, 3) := dk_180 1 7 (dk_at dksX2_set_1 6 rfl rfl)
theorem dX2_set_31 : decode cX2_set 31 = .ok (.iload_n 1, 1) := dk_27 (dk_at dksX2_set_1 9 rfl rfl)
theorem dX2_set_32 : decode cX2_set 32 = .ok (.baload, 1) := dk_51 (dk_at dksX2_set_1 10 rfl rfl)
theorem dX2_set_33 : decode cX2_set 33 = .ok (.iload_n 2, 1) := dk_28 (dk_at dksX2_set_1 11 rfl rfl)
theorem dX2_set_34 : decode cX2_set 34 = .ok (.if_icmp .eq 7, 3) := dk_159 0 7 (dk_at dksX2_set_1 12 rfl rfl)
theorem dX2_set_37 : decode cX2_set 37 = .ok (.iconst 1, 1) := dk_4 (dk_at dksX2_set_1 15 rfl rfl)
theorem dX2_set_38 : decode cX2_set 38 = .ok (.goto 4, 3) := dk_167 0 4 (dk_at dksX2_set_1 16 rfl rfl)
theorem dX2_set_41 : decode cX2_set 41 = .ok (.iconst 0, 1) := dk_3 (dk_at dksX2_set_1 19 rfl rfl)
theorem dX2_set_42 : decode cX2_set 42 = .ok (.istore_n 3, 1) := dk_62 (dk_at dksX2_set_1 20 rfl rfl)
theorem dX2_set_43 : decode cX2_set 43 = .ok (.aload_n 0, 1) := dk_42 (dk_at dksX2_set_1 21 rfl rfl)
theorem dX2_set_44 : decode cX2_set 44 = .ok (.getfield 263, 3) := dk_180 1 7 (dk_at dksX2_set_2 0 rfl rfl)
theorem dX2_set_47 : decode cX2_set 47 = .ok (.iload_n 1, 1) := dk_27 (dk_at dksX2_set_2 3 rfl rfl)
theorem dX2_set_48 : decode cX2_set 48 = .ok (.iload_n 2, 1) := dk_28 (dk_at dksX2_set_2 4 rfl rfl)
theorem dX2_set_49 : decode cX2_set 49 = .ok (.bastore, 1) := dk_84 (dk_at dksX2_set_2 5 rfl rfl)
theorem dX2_set_50 : decode cX2_set 50 = .ok (.iload_n 3, 1) := dk_29 (dk_at dksX2_set_2 6 rfl rfl)
theorem dX2_set_51 : decode cX2_set 51 = .ok (.ireturn, 1) := dk_172 (dk_at dksX2_set_2 7 rfl rfl)
def dkwX2_total_6 : List UInt8 := [172, 42, 180, 1, 221, 172, 28, 172]
abbrev dktX2_total_6 : List UInt8 := dkwX2_total_6 ++ []
def dkwX2_total_5 : List UInt8 := [42, 180, 1, 219, 172, 42, 180, 1, 241, 172, 42, 180, 1, 244, 172, 42, 180, 1, 247, 172, 42, 180, 1, 250]
abbrev dktX2_total_5 : List UInt8 := dkwX2_total_5 ++ dktX2_total_6
def dkwX2_total_4 : List UInt8 := [170, 0, 0, 0, 0, 0, 0, 78, 0, 0, 0, 0, 0, 0, 0, 7, 0, 0, 0, 48, 0, 0, 0, 53, 0, 0, 0, 58, 0, 0, 0, 63, 0, 0, 0, 68, 0, 0, 0, 78, 0, 0, 0, 78, 0, 0, 0, 73]
abbrev dktX2_total_4 : List UInt8 := dkwX2_total_4 ++ dktX2_total_5
def dkwX2_total_3 : List UInt8 := [167, 0, 4, 28, 61, 132, 3, 1, 167, 255, 205, 27]
abbrev dktX2_total_3 : List UInt8 := dkwX2_total_3 ++ dktX2_total_4
def dkwX2_total_2 : List UInt8 := [96, 167, 0, 27, 27, 16, 6, 160, 0, 20, 42, 29, 182, 2, 79, 28, 164, 0, 11, 42, 29, 182, 2, 79]
abbrev dktX2_total_2 : List UInt8 := dkwX2_total_2 ++ dktX2_total_3
def dkwX2_total_1 : List UInt8 := [172, 3, 61, 3, 62, 29, 42, 180, 1, 105, 162, 0, 49, 27, 8, 160, 0, 13, 28, 42, 29, 182, 2, 39]
abbrev dktX2_total_1 : List UInt8 := dkwX2_total_1 ++ dktX2_total_2
def dkwX2_total_0 : List UInt8 := [42, 27, 155, 0, 13, 27, 16, 7, 163, 0, 7, 4, 167, 0, 4, 3, 4, 182, 2, 72, 154, 0, 5, 3]
abbrev dktX2_total_0 : List UInt8 := dkwX2_total_0 ++ dktX2_total_1
theorem dksX2_total_0 : cX2_total.data.toList.drop 0 = dktX2_total_0 := by decide +kernel
theorem dksX2_total_1 : cX2_total.data.toList.drop 24 = dktX2_total_1 := dk_seg dksX2_total_0 24 rfl rfl
theorem dksX2_total_2 : cX2_total.data.toList.drop 48 = dktX2_total_2 := dk_seg dksX2_total_1 24 rfl rfl
theorem dksX2_total_3 : cX2_total.data.toList.drop 72 = dktX2_total_3 := dk_seg dksX2_total_2 24 rfl rfl
theorem dksX2_total_4 : cX2_total.data.toList.drop 84 = dktX2_total_4 := dk_seg dksX2_total_3 12 rfl rfl
theorem dksX2_total_5 : cX2_total.data.toList.drop 132 = dktX2_total_5 := dk_seg dksX2_total_4 48 rfl rfl
theorem dksX2_total_6 : cX2_total.data.toList.drop 156 = dktX2_total_6 := dk_seg dksX2_total_5 24 rfl rfl
theorem dX2_total_0 : decode cX2_total 0 = .ok (.aload_n 0, 1) := dk_42 (dk_at dksX2_total_0 0 rfl rfl)
theorem dX2_total_1 : decode cX2_total 1 = .ok (.iload_n 1, 1) := dk_27 (dk_at dksX2_total_0 1 rfl rfl)
theorem dX2_total_2 : decode cX2_total 2 = .ok (.ifCond .lt 13, 3) := dk_155 0 13 (dk_at dksX2_total_0 2 rfl rfl)
theorem dX2_total_5 : decode cX2_total 5 = .ok (.iload_n 1, 1) := dk_27 (dk_at dksX2_total_0 5 rfl rfl)
theorem dX2_total_6 : decode cX2_total 6 = .ok (.bipush 7, 2) := dk_16 7 (dk_at dksX2_total_0 6 rfl rfl)
theorem dX2_total_8 : decode cX2_total 8 = .ok (.if_icmp .gt 7, 3) := dk_163 0 7 (dk_at dksX2_total_0 8 rfl rfl)
theorem dX2_total_11 : decode cX2_total 11 = .ok (.iconst 1, 1) := dk_4 (dk_at dksX2_total_0 11 rfl rfl)
theorem dX2_total_12 : decode cX2_total 12 = .ok (.goto 4, 3) := dk_167 0 4 (dk_at dksX2_total_0 12 rfl rfl)
theorem dX2_total_15 : decode cX2_total 15 = .ok (.iconst 0, 1) := dk_3 (dk_at dksX2_total_0 15 rfl rfl)
theorem dX2_total_16 : decode cX2_total 16 = .ok (.iconst 1, 1) := dk_4 (dk_at dksX2_total_0 16 rfl rfl)
theorem dX2_total_17 : decode cX2_total 17 = .ok (.invokevirtual 584, 3) := dk_182 2 72 (dk_at dksX2_total_0 17 rfl rfl)
theorem dX2_total_20 : decode cX2_total 20 = .ok (.ifCond .ne 5, 3) := dk_154 0 5 (dk_at dksX2_total_0 20 rfl rfl)
theorem dX2_total_23 : decode cX2_total 23 = .ok (.iconst 0, 1) := dk_3 (dk_at dksX2_total_0 23 rfl rfl)
theorem dX2_total_24 : decode cX2_total 24 = .ok (.ireturn, 1) := dk_172 (dk_at dksX2_total_1 0 rfl rfl)
theorem dX2_total_25 : decode cX2_total 25 = .ok (.iconst 0, 1) := dk_3 (dk_at dksX2_total_1 1 rfl rfl)
theorem dX2_total_26 : decode cX2_total 26 = .ok (.istore_n 2, 1) := dk_61 (dk_at dksX2_total_1 2 rfl rfl)
theorem dX2_total_27 : decode cX2_total 27 = .ok (.iconst 0, 1) := dk_3 (dk_at dksX2_total_1 3 rfl rfl)
theorem dX2_total_28 : decode cX2_total 28 = .ok (.istore_n 3, 1) := dk_62 (dk_at dksX2_total_1 4 rfl rfl)
theorem dX2_total_29 : decode cX2_total 29 = .ok (.iload_n 3, 1) := dk_29 (dk_at dksX2_total_1 5 rfl rfl)
theorem dX2_total_30 : decode cX2_total 30 = .ok (.aload_n 0, 1) := dk_42 (dk_at dksX2_total_1 6 rfl rfl)
theorem dX2_total_31 : decode cX2_total 31 = .ok (.getfield 361, 3) := dk_180 1 105 (dk_at dksX2_total_1 7 rfl rfl)
theorem dX2_total_34 : decode cX2_total 34 = .ok (.if_icmp .ge 49, 3) := dk_162 0 49 (dk_at dksX2_total_1 10 rfl rfl)
theorem dX2_total_37 : decode cX2_total 37 = .ok (.iload_n 1, 1) := dk_27 (dk_at dksX2_total_1 13 rfl rfl)
theorem dX2_total_38 : decode cX2_total 38 = .ok (.iconst 5, 1) := dk_8 (dk_at dksX2_total_1 14 rfl rfl)
theorem dX2_total_39 : decode cX2_total 39 = .ok (.if_icmp .ne 13, 3) := dk_160 0 13 (dk_at dksX2_total_1 15 rfl rfl)
theorem dX2_total_42 : decode cX2_total 42 = .ok (.iload_n 2, 1) := dk_28 (dk_at dksX2_total_1 18 rfl rfl)
theorem dX2_total_43 : decode cX2_total 43 = .ok (.aload_n 0, 1) := dk_42 (dk_at dksX2_total_1 19 rfl rfl)
theorem dX2_total_44 : decode cX2_total 44 = .ok (.iload_n 3, 1) := dk_29 (dk_at dksX2_total_1 20 rfl rfl)
theorem dX2_total_45 : decode cX2_total 45 = .ok (.invokevirtual 551, 3) := dk_182 2 39 (dk_at dksX2_total_1 21 rfl rfl)
theorem dX2_total_48 : decode cX2_total 48 = .ok (.iadd, 1) := dk_96 (dk_at dksX2_total_2 0 rfl rfl)
theorem dX2_total_49 : decode cX2_total 49 = .ok (.goto 27, 3) := dk_167 0 27 (dk_at dksX2_total_2 1 rfl rfl)
theorem dX2_total_52 : decode cX2_total 52 = .ok (.iload_n 1, 1) := dk_27 (dk_at dksX2_total_2 4 rfl rfl)
theorem dX2_total_53 : decode cX2_total 53 = .ok (.bipush 6, 2) := dk_16 6 (dk_at dksX2_total_2 5 rfl rfl)
theorem dX2_total_55 : decode cX2_total 55 = .ok (.if_icmp .ne 20, 3) := dk_160 0 20 (dk_at dksX2_total_2 7 rfl rfl)
theorem dX2_total_58 : decode cX2_total 58 = .ok (.aload_n 0, 1) := dk_42 (dk_at dksX2_total_2 10 rfl rfl)
theorem dX2_total_59 : decode cX2_total 59 = .ok (.iload_n 3, 1) := dk_29 (dk_at dksX2_total_2 11 rfl rfl)
theorem dX2_total_60 : decode cX2_total 60 = .ok (.invokevirtual 591, 3) := dk_182 2 79 (dk_at dksX2_total_2 12 rfl rfl)
theorem dX2_total_63 : decode cX2_total 63 = .ok (.iload_n 2, 1) := dk_28 (dk_at dksX2_total_2 15 rfl rfl)
theorem dX2_total_64 : decode cX2_total 64 = .ok (.if_icmp .le 11, 3) := dk_164 0 11 (dk_at dksX2_total_2 16 rfl rfl)
theorem dX2_total_67 : decode cX2_total 67 = .ok (.aload_n 0, 1) := dk_42 (dk_at dksX2_total_2 19 rfl rfl)
theorem dX2_total_68 : decode cX2_total 68 = .ok (.iload_n 3, 1) := dk_29 (dk_at dksX2_total_2 20 rfl rfl)
theorem dX2_total_69 : decode cX2_total 69 = .ok (.invokevirtual 591, 3) := dk_182 2 79 (dk_at dksX2_total_2 21 rfl rfl)
theorem dX2_total_72 : decode cX2_total 72 = .ok (.goto 4, 3) := dk_167 0 4 (dk_at dksX2_total_3 0 rfl rfl)
theorem dX2_total_75 : decode cX2_total 75 = .ok (.iload_n 2, 1) := dk_28 (dk_at dksX2_total_3 3 rfl rfl)
theorem dX2_total_76 : decode cX2_total 76 = .ok (.istore_n 2, 1) := dk_61 (dk_at dksX2_total_3 4 rfl rfl)
theorem dX2_total_77 : decode cX2_total 77 = .ok (.iinc 3 1, 3) := dk_132 3 1 (dk_at dksX2_total_3 5 rfl rfl)
theorem dX2_total_80 : decode cX2_total 80 = .ok (.goto (-51), 3) := dk_167 255 205 (dk_at dksX2_total_3 8 rfl rfl)
theorem dX2_total_83 : decode cX2_total 83 = .ok (.iload_n 1, 1) := dk_27 (dk_at dksX2_total_3 11 rfl rfl)
theorem dX2_total_84 : decode cX2_total 84 = .ok (.tableswitch 78 0 7 #[48, 53, 58, 63, 68, 78, 78, 73], 48) := by decide +kernel
theorem dX2_total_132 : decode cX2_total 132 = .ok (.aload_n 0, 1) := dk_42 (dk_at dksX2_total_5 0 rfl rfl)
theorem dX2_total_133 : decode cX2_total 133 = .ok (.getfield 475, 3) := dk_180 1 219 (dk_at dksX2_total_5 1 rfl rfl)
theorem dX2_total_136 : decode cX2_total 136 = .ok (.ireturn, 1) := dk_172 (dk_at dksX2_total_5 4 rfl rfl)
theorem dX2_total_137 : decode cX2_total 137 = .ok (.aload_n 0, 1) := dk_42 (dk_at dksX2_total_5 5 rfl rfl)
theorem dX2_total_138 : decode cX2_total 138 = .ok (.getfield 497, 3) := dk_180 1 241 (dk_at dksX2_total_5 6 rfl rfl)
theorem dX2_total_141 : decode cX2_total 141 = .ok (.ireturn, 1) := dk_172 (dk_at dksX2_total_5 9 rfl rfl)
theorem dX2_total_142 : decode cX2_total 142 = .ok (.aload_n 0, 1) := dk_42 (dk_at dksX2_total_5 10 rfl rfl)
theorem dX2_total_143 : decode cX2_total 143 = .ok (.getfield 500, 3) := dk_180 1 244 (dk_at dksX2_total_5 11 rfl rfl)
theorem dX2_total_146 : decode cX2_total 146 = .ok (.ireturn, 1) := dk_172 (dk_at dksX2_total_5 14 rfl rfl)
theorem dX2_total_147 : decode cX2_total 147 = .ok (.aload_n 0, 1) := dk_42 (dk_at dksX2_total_5 15 rfl rfl)
theorem dX2_total_148 : decode cX2_total 148 = .ok (.getfield 503, 3) := dk_180 1 247 (dk_at dksX2_total_5 16 rfl rfl)
theorem dX2_total_151 : decode cX2_total 151 = .ok (.ireturn, 1) := dk_172 (dk_at dksX2_total_5 19 rfl rfl)
theorem dX2_total_152 : decode cX2_total 152 = .ok (.aload_n 0, 1) := dk_42 (dk_at dksX2_total_5 20 rfl rfl)
theorem dX2_total_153 : decode cX2_total 153 = .ok (.getfield 506, 3) := dk_180 1 250 (dk_at dksX2_total_5 21 rfl rfl)
theorem dX2_total_156 : decode cX2_total 156 = .ok (.ireturn, 1) := dk_172 (dk_at dksX2_total_6 0 rfl rfl)
theorem dX2_total_157 : decode cX2_total 157 = .ok (.aload_n 0, 1) := dk_42 (dk_at dksX2_total_6 1 rfl rfl)
theorem dX2_total_158 : decode cX2_total 158 = .ok (.getfield 477, 3) := dk_180 1 221 (dk_at dksX2_total_6 2 rfl rfl)
theorem dX2_total_161 : decode cX2_total 161 = .ok (.ireturn, 1) := dk_172 (dk_at dksX2_total_6 5 rfl rfl)
theorem dX2_total_162 : decode cX2_total 162 = .ok (.iload_n 2, 1) := dk_28 (dk_at dksX2_total_6 6 rfl rfl)
theorem dX2_total_163 : decode cX2_total 163 = .ok (.ireturn, 1) := dk_172 (dk_at dksX2_total_6 7 rfl rfl)
def dkwX2_log_2 : List UInt8 := [27, 104, 28, 96, 46, 167, 0, 4, 3, 172]
abbrev dktX2_log_2 : List UInt8 := dkwX2_log_2 ++ []
def dkwX2_log_1 : List UInt8 := [6, 163, 0, 7, 4, 167, 0, 4, 3, 62, 42, 29, 4, 182, 2, 72, 153, 0, 16, 42, 180, 1, 20, 7]
abbrev dktX2_log_1 : List UInt8 := dkwX2_log_1 ++ dktX2_log_2
def dkwX2_log_0 : List UInt8 := [27, 155, 0, 31, 27, 42, 180, 1, 250, 162, 0, 23, 27, 17, 1, 144, 162, 0, 16, 28, 155, 0, 12, 28]
abbrev dktX2_log_0 : List UInt8 := dkwX2_log_0 ++ dktX2_log_1
theorem dksX2_log_0 : cX2_log.data.toList.drop 0 = dktX2_log_0 := by decide +kernel
theorem dksX2_log_1 : cX2_log.data.toList.drop 24 = dktX2_log_1 := dk_seg dksX2_log_0 24 rfl rfl
theorem dksX2_log_2 : cX2_log.data.toList.drop 48 = dktX2_log_2 := dk_seg dksX2_log_1 24 rfl rfl
theorem dX2_log_0 : decode cX2_log 0 = .ok (.iload_n 1, 1) := dk_27 (dk_at dksX2_log_0 0 rfl rfl)
theorem dX2_log_1 : decode cX2_log 1 = .ok (.ifCond .lt 31, 3) := dk_155 0 31 (dk_at dksX2_log_0 1 rfl rfl)
theorem dX2_log_4 : decode cX2_log 4 = .ok (.iload_n 1, 1) := dk_27 (dk_at dksX2_log_0 4 rfl rfl)
theorem dX2_log_5 : decode cX2_log 5 = .ok (.aload_n 0, 1) := dk_42 (dk_at dksX2_log_0 5 rfl rfl)
theorem dX2_log_6 : decode cX2_log 6 = .ok (.getfield 506, 3) := dk_180 1 250 (dk_at dksX2_log_0 6 rfl rfl)
theorem dX2_log_9 : decode cX2_log 9 = .ok (.if_icmp .ge 23, 3) := dk_162 0 23 (dk_at dksX2_log_0 9 rfl rfl)
theorem dX2_log_12 : decode cX2_log 12 = .ok (.iload_n 1, 1) := dk_27 (dk_at dksX2_log_0 12 rfl rfl)
theorem dX2_log_13 : decode cX2_log 13 = .ok (.sipush 400, 3) := dk_17 1 144 (dk_at dksX2_log_0 13 rfl rfl)
theorem dX2_log_16 : decode cX2_log 16 = .ok (.if_icmp .ge 16, 3) := dk_162 0 16 (dk_at dksX2_log_0 16 rfl rfl)
theorem dX2_log_19 : decode cX2_log 19 = .ok (.iload_n 2, 1) := dk_28 (dk_at dksX2_log_0 19 rfl rfl)
theorem dX2_log_20 : decode cX2_log 20 = .ok (.ifCond .lt 12, 3) := dk_155 0 12 (dk_at dksX2_log_0 20 rfl rfl)
theorem dX2_log_23 : decode cX2_log 23 = .ok (.iload_n 2, 1) := dk_28 (dk_at dksX2_log_0 23 rfl rfl)
theorem dX2_log_24 : decode cX2_log 24 = .ok (.iconst 3, 1) := dk_6 (dk_at dksX2_log_1 0 rfl rfl)
theorem dX2_log_25 : decode cX2_log 25 = .ok (.if_icmp .gt 7, 3) := dk_163 0 7 (dk_at dksX2_log_1 1 rfl rfl)
theorem dX2_log_28 : decode cX2_log 28 = .ok (.iconst 1, 1) := dk_4 (dk_at dksX2_log_1 4 rfl rfl)
theorem dX2_log_29 : decode cX2_log 29 = .ok (.goto 4, 3) := dk_167 0 4 (dk_at dksX2_log_1 5 rfl rfl)
theorem dX2_log_32 : decode cX2_log 32 = .ok (.iconst 0, 1) := dk_3 (dk_at dksX2_log_1 8 rfl rfl)
theorem dX2_log_33 : decode cX2_log 33 = .ok (.istore_n 3, 1) := dk_62 (dk_at dksX2_log_1 9 rfl rfl)
theorem dX2_log_34 : decode cX2_log 34 = .ok (.aload_n 0, 1) := dk_42 (dk_at dksX2_log_1 10 rfl rfl)
theorem dX2_log_35 : decode cX2_log 35 = .ok (.iload_n 3, 1) := dk_29 (dk_at dksX2_log_1 11 rfl rfl)
theorem dX2_log_36 : decode cX2_log 36 = .ok (.iconst 1, 1) := dk_4 (dk_at dksX2_log_1 12 rfl rfl)
theorem dX2_log_37 : decode cX2_log 37 = .ok (.invokevirtual 584, 3) := dk_182 2 72 (dk_at dksX2_log_1 13 rfl rfl)
theorem dX2_log_40 : decode cX2_log 40 = .ok (.ifCond .eq 16, 3) := dk_153 0 16 (dk_at dksX2_log_1 16 rfl rfl)
theorem dX2_log_43 : decode cX2_log 43 = .ok (.aload_n 0, 1) := dk_42 (dk_at dksX2_log_1 19 rfl rfl)
theorem dX2_log_44 : decode cX2_log 44 = .ok (.getfield 276, 3) := dk_180 1 20 (dk_at dksX2_log_1 20 rfl rfl)
theorem dX2_log_47 : decode cX2_log 47 = .ok (.iconst 4, 1) := dk_7 (dk_at dksX2_log_1 23 rfl rfl)
theorem dX2_log_48 : decode cX2_log 48 = .ok (.iload_n 1, 1) := dk_27 (dk_at dksX2_log_2 0 rfl rfl)
theorem dX2_log_49 : decode cX2_log 49 = .ok (.imul, 1) := dk_104 (dk_at dksX2_log_2 1 rfl rfl)
theorem dX2_log_50 : decode cX2_log 50 = .ok (.iload_n 2, 1) := dk_28 (dk_at dksX2_log_2 2 rfl rfl)
theorem dX2_log_51 : decode cX2_log 51 = .ok (.iadd, 1) := dk_96 (dk_at dksX2_log_2 3 rfl rfl)
theorem dX2_log_52 : decode cX2_log 52 = .ok (.iaload, 1) := dk_46 (dk_at dksX2_log_2 4 rfl rfl)
theorem dX2_log_53 : decode cX2_log 53 = .ok (.goto 4, 3) := dk_167 0 4 (dk_at dksX2_log_2 5 rfl rfl)
theorem dX2_log_56 : decode cX2_log 56 = .ok (.iconst 0, 1) := dk_3 (dk_at dksX2_log_2 8 rfl rfl)
theorem dX2_log_57 : decode cX2_log 57 = .ok (.ireturn, 1) := dk_172 (dk_at dksX2_log_2 9 rfl rfl)
