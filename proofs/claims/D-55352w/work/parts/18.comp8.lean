set_option maxRecDepth 100000
abbrev cX11_isCall : ByteArray := prog_2_method_2_code
def dkwX11_isCall_11 : List UInt8 := [42, 180, 0, 15, 4, 16, 60, 184, 0, 59, 172]
abbrev dktX11_isCall_11 : List UInt8 := dkwX11_isCall_11 ++ []
def dkwX11_isCall_10 : List UInt8 := [180, 0, 22, 29, 162, 0, 18, 42, 180, 0, 15, 42, 180, 0, 19, 159, 0, 7, 4, 167, 0, 4, 3, 172]
abbrev dktX11_isCall_10 : List UInt8 := dkwX11_isCall_10 ++ dktX11_isCall_11
def dkwX11_isCall_9 : List UInt8 := [167, 0, 4, 3, 172, 42, 180, 0, 15, 28, 162, 0, 34, 42, 180, 0, 19, 28, 162, 0, 26, 42]
abbrev dktX11_isCall_9 : List UInt8 := dkwX11_isCall_9 ++ dktX11_isCall_10
def dkwX11_isCall_8 : List UInt8 := [42, 180, 0, 15, 29, 162, 0, 7, 4, 167, 0, 4, 3, 172, 42, 180, 0, 15, 28, 162, 0, 7, 4]
abbrev dktX11_isCall_8 : List UInt8 := dkwX11_isCall_8 ++ dktX11_isCall_9
def dkwX11_isCall_7 : List UInt8 := [170, 0, 0, 0, 102, 0, 0, 0, 0, 0, 0, 0, 4, 0, 0, 0, 33, 0, 0, 0, 33, 0, 0, 0, 47, 0, 0, 0, 47, 0, 0, 0, 61]
abbrev dktX11_isCall_7 : List UInt8 := dkwX11_isCall_7 ++ dktX11_isCall_8
def dkwX11_isCall_6 : List UInt8 := [182, 0, 47, 153, 0, 6, 7, 54, 5, 21, 5]
abbrev dktX11_isCall_6 : List UInt8 := dkwX11_isCall_6 ++ dktX11_isCall_7
def dkwX11_isCall_5 : List UInt8 := [167, 0, 32, 25, 4, 18, 55, 182, 0, 47, 153, 0, 22, 6, 54, 5, 167, 0, 16, 25, 4, 18, 57]
abbrev dktX11_isCall_5 : List UInt8 := dkwX11_isCall_5 ++ dktX11_isCall_6
def dkwX11_isCall_4 : List UInt8 := [153, 0, 54, 4, 54, 5, 167, 0, 48, 25, 4, 18, 53, 182, 0, 47, 153, 0, 38, 5, 54, 5]
abbrev dktX11_isCall_4 : List UInt8 := dkwX11_isCall_4 ++ dktX11_isCall_5
def dkwX11_isCall_3 : List UInt8 := [25, 4, 18, 45, 182, 0, 47, 153, 0, 70, 3, 54, 5, 167, 0, 64, 25, 4, 18, 51, 182, 0, 47]
abbrev dktX11_isCall_3 : List UInt8 := dkwX11_isCall_3 ++ dktX11_isCall_4
def dkwX11_isCall_2 : List UInt8 := [171, 0, 0, 0, 0, 127, 0, 0, 0, 5, 174, 122, 46, 122, 0, 0, 0, 66, 0, 1, 122, 121, 0, 0, 0, 50, 0, 55, 145, 164, 0, 0, 0, 98, 5, 203, 13, 84, 0, 0, 0, 82, 6, 33, 78, 68, 0, 0, 0, 114]
abbrev dktX11_isCall_2 : List UInt8 := dkwX11_isCall_2 ++ dktX11_isCall_3
def dkwX11_isCall_1 : List UInt8 := [58, 4, 2, 54, 5, 25, 4, 182, 0, 40]
abbrev dktX11_isCall_1 : List UInt8 := dkwX11_isCall_1 ++ dktX11_isCall_2
def dkwX11_isCall_0 : List UInt8 := [43, 182, 0, 25, 185, 0, 31, 1, 0, 61, 43, 182, 0, 37, 185, 0, 31, 1, 0, 62, 42, 180, 0, 9]
abbrev dktX11_isCall_0 : List UInt8 := dkwX11_isCall_0 ++ dktX11_isCall_1
theorem dksX11_isCall_0 : cX11_isCall.data.toList.drop 0 = dktX11_isCall_0 := by decide +kernel
theorem dksX11_isCall_1 : cX11_isCall.data.toList.drop 24 = dktX11_isCall_1 := dk_seg dksX11_isCall_0 24 rfl rfl
theorem dksX11_isCall_2 : cX11_isCall.data.toList.drop 34 = dktX11_isCall_2 := dk_seg dksX11_isCall_1 10 rfl rfl
theorem dksX11_isCall_3 : cX11_isCall.data.toList.drop 84 = dktX11_isCall_3 := dk_seg dksX11_isCall_2 50 rfl rfl
theorem dksX11_isCall_4 : cX11_isCall.data.toList.drop 107 = dktX11_isCall_4 := dk_seg dksX11_isCall_3 23 rfl rfl
theorem dksX11_isCall_5 : cX11_isCall.data.toList.drop 129 = dktX11_isCall_5 := dk_seg dksX11_isCall_4 22 rfl rfl
theorem dksX11_isCall_6 : cX11_isCall.data.toList.drop 152 = dktX11_isCall_6 := dk_seg dksX11_isCall_5 23 rfl rfl
theorem dksX11_isCall_7 : cX11_isCall.data.toList.drop 163 = dktX11_isCall_7 := dk_seg dksX11_isCall_6 11 rfl rfl
theorem dksX11_isCall_8 : cX11_isCall.data.toList.drop 196 = dktX11_isCall_8 := dk_seg dksX11_isCall_7 33 rfl rfl
theorem dksX11_isCall_9 : cX11_isCall.data.toList.drop 219 = dktX11_isCall_9 := dk_seg dksX11_isCall_8 23 rfl rfl
theorem dksX11_isCall_10 : cX11_isCall.data.toList.drop 241 = dktX11_isCall_10 := dk_seg dksX11_isCall_9 22 rfl rfl
theorem dksX11_isCall_11 : cX11_isCall.data.toList.drop 265 = dktX11_isCall_11 := dk_seg dksX11_isCall_10 24 rfl rfl
theorem dX11_isCall_0 : decode cX11_isCall 0 = .ok (.aload_n 1, 1) := dk_43 (dk_at dksX11_isCall_0 0 rfl rfl)
theorem dX11_isCall_1 : decode cX11_isCall 1 = .ok (.invokevirtual 25, 3) := dk_182 0 25 (dk_at dksX11_isCall_0 1 rfl rfl)
theorem dX11_isCall_4 : decode cX11_isCall 4 = .ok (.invokeinterface 31 1, 5) := by decide +kernel
theorem dX11_isCall_9 : decode cX11_isCall 9 = .ok (.istore_n 2, 1) := dk_61 (dk_at dksX11_isCall_0 9 rfl rfl)
theorem dX11_isCall_10 : decode cX11_isCall 10 = .ok (.aload_n 1, 1) := dk_43 (dk_at dksX11_isCall_0 10 rfl rfl)
theorem dX11_isCall_11 : decode cX11_isCall 11 = .ok (.invokevirtual 37, 3) := dk_182 0 37 (dk_at dksX11_isCall_0 11 rfl rfl)
theorem dX11_isCall_14 : decode cX11_isCall 14 = .ok (.invokeinterface 31 1, 5) := by decide +kernel
theorem dX11_isCall_19 : decode cX11_isCall 19 = .ok (.istore_n 3, 1) := dk_62 (dk_at dksX11_isCall_0 19 rfl rfl)
theorem dX11_isCall_20 : decode cX11_isCall 20 = .ok (.aload_n 0, 1) := dk_42 (dk_at dksX11_isCall_0 20 rfl rfl)
theorem dX11_isCall_21 : decode cX11_isCall 21 = .ok (.getfield 9, 3) := dk_180 0 9 (dk_at dksX11_isCall_0 21 rfl rfl)
theorem dX11_isCall_24 : decode cX11_isCall 24 = .ok (.astore 4, 2) := dk_58 4 (dk_at dksX11_isCall_1 0 rfl rfl)
theorem dX11_isCall_26 : decode cX11_isCall 26 = .ok (.iconst (-1), 1) := dk_2 (dk_at dksX11_isCall_1 2 rfl rfl)
theorem dX11_isCall_27 : decode cX11_isCall 27 = .ok (.istore 5, 2) := dk_54 5 (dk_at dksX11_isCall_1 3 rfl rfl)
theorem dX11_isCall_29 : decode cX11_isCall 29 = .ok (.aload 4, 2) := dk_25 4 (dk_at dksX11_isCall_1 5 rfl rfl)
theorem dX11_isCall_31 : decode cX11_isCall 31 = .ok (.invokevirtual 40, 3) := dk_182 0 40 (dk_at dksX11_isCall_1 7 rfl rfl)
theorem dX11_isCall_34 : decode cX11_isCall 34 = .ok (.lookupswitch 127 #[(-1367724422, 66), (96889, 50), (3641764, 98), (97193300, 82), (102846020, 114)], 50) := by decide +kernel
theorem dX11_isCall_84 : decode cX11_isCall 84 = .ok (.aload 4, 2) := dk_25 4 (dk_at dksX11_isCall_3 0 rfl rfl)
theorem dX11_isCall_86 : decode cX11_isCall 86 = .ok (.ldc 45, 2) := dk_18 45 (dk_at dksX11_isCall_3 2 rfl rfl)
theorem dX11_isCall_88 : decode cX11_isCall 88 = .ok (.invokevirtual 47, 3) := dk_182 0 47 (dk_at dksX11_isCall_3 4 rfl rfl)
theorem dX11_isCall_91 : decode cX11_isCall 91 = .ok (.ifCond .eq 70, 3) := dk_153 0 70 (dk_at dksX11_isCall_3 7 rfl rfl)
theorem dX11_isCall_94 : decode cX11_isCall 94 = .ok (.iconst 0, 1) := dk_3 (dk_at dksX11_isCall_3 10 rfl rfl)
theorem dX11_isCall_95 : decode cX11_isCall 95 = .ok (.istore 5, 2) := dk_54 5 (dk_at dksX11_isCall_3 11 rfl rfl)
theorem dX11_isCall_97 : decode cX11_isCall 97 = .ok (.goto 64, 3) := dk_167 0 64 (dk_at dksX11_isCall_3 13 rfl rfl)
theorem dX11_isCall_100 : decode cX11_isCall 100 = .ok (.aload 4, 2) := dk_25 4 (dk_at dksX11_isCall_3 16 rfl rfl)
theorem dX11_isCall_102 : decode cX11_isCall 102 = .ok (.ldc 51, 2) := dk_18 51 (dk_at dksX11_isCall_3 18 rfl rfl)
theorem dX11_isCall_104 : decode cX11_isCall 104 = .ok (.invokevirtual 47, 3) := dk_182 0 47 (dk_at dksX11_isCall_3 20 rfl rfl)
theorem dX11_isCall_107 : decode cX11_isCall 107 = .ok (.ifCond .eq 54, 3) := dk_153 0 54 (dk_at dksX11_isCall_4 0 rfl rfl)
theorem dX11_isCall_110 : decode cX11_isCall 110 = .ok (.iconst 1, 1) := dk_4 (dk_at dksX11_isCall_4 3 rfl rfl)
theorem dX11_isCall_111 : decode cX11_isCall 111 = .ok (.istore 5, 2) := dk_54 5 (dk_at dksX11_isCall_4 4 rfl rfl)
theorem dX11_isCall_113 : decode cX11_isCall 113 = .ok (.goto 48, 3) := dk_167 0 48 (dk_at dksX11_isCall_4 6 rfl rfl)
theorem dX11_isCall_116 : decode cX11_isCall 116 = .ok (.aload 4, 2) := dk_25 4 (dk_at dksX11_isCall_4 9 rfl rfl)
theorem dX11_isCall_118 : decode cX11_isCall 118 = .ok (.ldc 53, 2) := dk_18 53 (dk_at dksX11_isCall_4 11 rfl rfl)
theorem dX11_isCall_120 : decode cX11_isCall 120 = .ok (.invokevirtual 47, 3) := dk_182 0 47 (dk_at dksX11_isCall_4 13 rfl rfl)
theorem dX11_isCall_123 : decode cX11_isCall 123 = .ok (.ifCond .eq 38, 3) := dk_153 0 38 (dk_at dksX11_isCall_4 16 rfl rfl)
theorem dX11_isCall_126 : decode cX11_isCall 126 = .ok (.iconst 2, 1) := dk_5 (dk_at dksX11_isCall_4 19 rfl rfl)
theorem dX11_isCall_127 : decode cX11_isCall 127 = .ok (.istore 5, 2) := dk_54 5 (dk_at dksX11_isCall_4 20 rfl rfl)
theorem dX11_isCall_129 : decode cX11_isCall 129 = .ok (.goto 32, 3) := dk_167 0 32 (dk_at dksX11_isCall_5 0 rfl rfl)
theorem dX11_isCall_132 : decode cX11_isCall 132 = .ok (.aload 4, 2) := dk_25 4 (dk_at dksX11_isCall_5 3 rfl rfl)
theorem dX11_isCall_134 : decode cX11_isCall 134 = .ok (.ldc 55, 2) := dk_18 55 (dk_at dksX11_isCall_5 5 rfl rfl)
theorem dX11_isCall_136 : decode cX11_isCall 136 = .ok (.invokevirtual 47, 3) := dk_182 0 47 (dk_at dksX11_isCall_5 7 rfl rfl)
theorem dX11_isCall_139 : decode cX11_isCall 139 = .ok (.ifCond .eq 22, 3) := dk_153 0 22 (dk_at dksX11_isCall_5 10 rfl rfl)
theorem dX11_isCall_142 : decode cX11_isCall 142 = .ok (.iconst 3, 1) := dk_6 (dk_at dksX11_isCall_5 13 rfl rfl)
theorem dX11_isCall_143 : decode cX11_isCall 143 = .ok (.istore 5, 2) := dk_54 5 (dk_at dksX11_isCall_5 14 rfl rfl)
theorem dX11_isCall_145 : decode cX11_isCall 145 = .ok (.goto 16, 3) := dk_167 0 16 (dk_at dksX11_isCall_5 16 rfl rfl)
theorem dX11_isCall_148 : decode cX11_isCall 148 = .ok (.aload 4, 2) := dk_25 4 (dk_at dksX11_isCall_5 19 rfl rfl)
theorem dX11_isCall_150 : decode cX11_isCall 150 = .ok (.ldc 57, 2) := dk_18 57 (dk_at dksX11_isCall_5 21 rfl rfl)
theorem dX11_isCall_152 : decode cX11_isCall 152 = .ok (.invokevirtual 47, 3) := dk_182 0 47 (dk_at dksX11_isCall_6 0 rfl rfl)
theorem dX11_isCall_155 : decode cX11_isCall 155 = .ok (.ifCond .eq 6, 3) := dk_153 0 6 (dk_at dksX11_isCall_6 3 rfl rfl)
theorem dX11_isCall_158 : decode cX11_isCall 158 = .ok (.iconst 4, 1) := dk_7 (dk_at dksX11_isCall_6 6 rfl rfl)
theorem dX11_isCall_159 : decode cX11_isCall 159 = .ok (.istore 5, 2) := dk_54 5 (dk_at dksX11_isCall_6 7 rfl rfl)
theorem dX11_isCall_161 : decode cX11_isCall 161 = .ok (.iload 5, 2) := dk_21 5 (dk_at dksX11_isCall_6 9 rfl rfl)
theorem dX11_isCall_163 : decode cX11_isCall 163 = .ok (.tableswitch 102 0 4 #[33, 33, 47, 47, 61], 33) := by decide +kernel
theorem dX11_isCall_196 : decode cX11_isCall 196 = .ok (.aload_n 0, 1) := dk_42 (dk_at dksX11_isCall_8 0 rfl rfl)
theorem dX11_isCall_197 : decode cX11_isCall 197 = .ok (.getfield 15, 3) := dk_180 0 15 (dk_at dksX11_isCall_8 1 rfl rfl)
theorem dX11_isCall_200 : decode cX11_isCall 200 = .ok (.iload_n 3, 1) := dk_29 (dk_at dksX11_isCall_8 4 rfl rfl)
theorem dX11_isCall_201 : decode cX11_isCall 201 = .ok (.if_icmp .ge 7, 3) := dk_162 0 7 (dk_at dksX11_isCall_8 5 rfl rfl)
theorem dX11_isCall_204 : decode cX11_isCall 204 = .ok (.iconst 1, 1) := dk_4 (dk_at dksX11_isCall_8 8 rfl rfl)
theorem dX11_isCall_205 : decode cX11_isCall 205 = .ok (.goto 4, 3) := dk_167 0 4 (dk_at dksX11_isCall_8 9 rfl rfl)
theorem dX11_isCall_208 : decode cX11_isCall 208 = .ok (.iconst 0, 1) := dk_3 (dk_at dksX11_isCall_8 12 rfl rfl)
theorem dX11_isCall_209 : decode cX11_isCall 209 = .ok (.ireturn, 1) := dk_172 (dk_at dksX11_isCall_8 13 rfl rfl)
theorem dX11_isCall_210 : decode cX11_isCall 210 = .ok (.aload_n 0, 1) := dk_42 (dk_at dksX11_isCall_8 14 rfl rfl)
theorem dX11_isCall_211 : decode cX11_isCall 211 = .ok (.getfield 15, 3) := dk_180 0 15 (dk_at dksX11_isCall_8 15 rfl rfl)
theorem dX11_isCall_214 : decode cX11_isCall 214 = .ok (.iload_n 2, 1) := dk_28 (dk_at dksX11_isCall_8 18 rfl rfl)
theorem dX11_isCall_215 : decode cX11_isCall 215 = .ok (.if_icmp .ge 7, 3) := dk_162 0 7 (dk_at dksX11_isCall_8 19 rfl rfl)
theorem dX11_isCall_218 : decode cX11_isCall 218 = .ok (.iconst 1, 1) := dk_4 (dk_at dksX11_isCall_8 22 rfl rfl)
theorem dX11_isCall_219 : decode cX11_isCall 219 = .ok (.goto 4, 3) := dk_167 0 4 (dk_at dksX11_isCall_9 0 rfl rfl)
theorem dX11_isCall_222 : decode cX11_isCall 222 = .ok (.iconst 0, 1) := dk_3 (dk_at dksX11_isCall_9 3 rfl rfl)
theorem dX11_isCall_223 : decode cX11_isCall 223 = .ok (.ireturn, 1) := dk_172 (dk_at dksX11_isCall_9 4 rfl rfl)
theorem dX11_isCall_224 : decode cX11_isCall 224 = .ok (.aload_n 0, 1) := dk_42 (dk_at dksX11_isCall_9 5 rfl rfl)
theorem dX11_isCall_225 : decode cX11_isCall 225 = .ok (.getfield 15, 3) := dk_180 0 15 (dk_at dksX11_isCall_9 6 rfl rfl)
theorem dX11_isCall_228 : decode cX11_isCall 228 = .ok (.iload_n 2, 1) := dk_28 (dk_at dksX11_isCall_9 9 rfl rfl)
theorem dX11_isCall_229 : decode cX11_isCall 229 = .ok (.if_icmp .ge 34, 3) := dk_162 0 34 (dk_at dksX11_isCall_9 10 rfl rfl)
theorem dX11_isCall_232 : decode cX11_isCall 232 = .ok (.aload_n 0, 1) := dk_42 (dk_at dksX11_isCall_9 13 rfl rfl)
theorem dX11_isCall_233 : decode cX11_isCall 233 = .ok (.getfield 19, 3) := dk_180 0 19 (dk_at dksX11_isCall_9 14 rfl rfl)
theorem dX11_isCall_236 : decode cX11_isCall 236 = .ok (.iload_n 2, 1) := dk_28 (dk_at dksX11_isCall_9 17 rfl rfl)
theorem dX11_isCall_237 : decode cX11_isCall 237 = .ok (.if_icmp .ge 26, 3) := dk_162 0 26 (dk_at dksX11_isCall_9 18 rfl rfl)
theorem dX11_isCall_240 : decode cX11_isCall 240 = .ok (.aload_n 0, 1) := dk_42 (dk_at dksX11_isCall_9 21 rfl rfl)
theorem dX11_isCall_241 : decode cX11_isCall 241 = .ok (.getfield 22, 3) := dk_180 0 22 (dk_at dksX11_isCall_10 0 rfl rfl)
theorem dX11_isCall_244 : decode cX11_isCall 244 = .ok (.iload_n 3, 1) := dk_29 (dk_at dksX11_isCall_10 3 rfl rfl)
theorem dX11_isCall_245 : decode cX11_isCall 245 = .ok (.if_icmp .ge 18, 3) := dk_162 0 18 (dk_at dksX11_isCall_10 4 rfl rfl)
theorem dX11_isCall_248 : decode cX11_isCall 248 = .ok (.aload_n 0, 1) := dk_42 (dk_at dksX11_isCall_10 7 rfl rfl)
theorem dX11_isCall_249 : decode cX11_isCall 249 = .ok (.getfield 15, 3) := dk_180 0 15 (dk_at dksX11_isCall_10 8 rfl rfl)
theorem dX11_isCall_252 : decode cX11_isCall 252 = .ok (.aload_n 0, 1) := dk_42 (dk_at dksX11_isCall_10 11 rfl rfl)
theorem dX11_isCall_253 : decode cX11_isCall 253 = .ok (.getfield 19, 3) := dk_180 0 19 (dk_at dksX11_isCall_10 12 rfl rfl)
theorem dX11_isCall_256 : decode cX11_isCall 256 = .ok (.if_icmp .eq 7, 3) := dk_159 0 7 (dk_at dksX11_isCall_10 15 rfl rfl)
theorem dX11_isCall_259 : decode cX11_isCall 259 = .ok (.iconst 1, 1) := dk_4 (dk_at dksX11_isCall_10 18 rfl rfl)
theorem dX11_isCall_260 : decode cX11_isCall 260 = .ok (.goto 4, 3) := dk_167 0 4 (dk_at dksX11_isCall_10 19 rfl rfl)
theorem dX11_isCall_263 : decode cX11_isCall 263 = .ok (.iconst 0, 1) := dk_3 (dk_at dksX11_isCall_10 22 rfl rfl)
theorem dX11_isCall_264 : decode cX11_isCall 264 = .ok (.ireturn, 1) := dk_172 (dk_at dksX11_isCall_10 23 rfl rfl)
theorem dX11_isCall_265 : decode cX11_isCall 265 = .ok (.aload_n 0, 1) := dk_42 (dk_at dksX11_isCall_11 0 rfl rfl)
theorem dX11_isCall_266 : decode cX11_isCall 266 = .ok (.getfield 15, 3) := dk_180 0 15 (dk_at dksX11_isCall_11 1 rfl rfl)
theorem dX11_isCall_269 : decode cX11_isCall 269 = .ok (.iconst 1, 1) := dk_4 (dk_at dksX11_isCall_11 4 rfl rfl)
theorem dX11_isCall_270 : decode cX11_isCall 270 = .ok (.bipush 60, 2) := dk_16 60 (dk_at dksX11_isCall_11 5 rfl rfl)
theorem dX11_isCall_272 : decode cX11_isCall 272 = .ok (.invokestatic 59, 3) := dk_184 0 59 (dk_at dksX11_isCall_11 7 rfl rfl)
theorem dX11_isCall_275 : decode cX11_isCall 275 = .ok (.ireturn, 1) := dk_172 (dk_at dksX11_isCall_11 10 rfl rfl)
abbrev cX1_init : ByteArray := prog_1_method_4_code
def dkwX1_init_2 : List UInt8 := [181, 0, 45, 177]
abbrev dktX1_init_2 : List UInt8 := dkwX1_init_2 ++ []
def dkwX1_init_1 : List UInt8 := [181, 0, 28, 42, 187, 0, 32, 89, 183, 0, 34, 181, 0, 35, 42, 2, 181, 0, 39, 42, 18, 43]
abbrev dktX1_init_1 : List UInt8 := dkwX1_init_1 ++ dktX1_init_2
def dkwX1_init_0 : List UInt8 := [42, 183, 0, 11, 42, 187, 0, 16, 89, 183, 0, 18, 181, 0, 19, 42, 187, 0, 25, 89, 183, 0, 27]
abbrev dktX1_init_0 : List UInt8 := dkwX1_init_0 ++ dktX1_init_1
theorem dksX1_init_0 : cX1_init.data.toList.drop 0 = dktX1_init_0 := by decide +kernel
theorem dksX1_init_1 : cX1_init.data.toList.drop 23 = dktX1_init_1 := dk_seg dksX1_init_0 23 rfl rfl
theorem dksX1_init_2 : cX1_init.data.toList.drop 45 = dktX1_init_2 := dk_seg dksX1_init_1 22 rfl rfl
theorem dX1_init_0 : decode cX1_init 0 = .ok (.aload_n 0, 1) := dk_42 (dk_at dksX1_init_0 0 rfl rfl)
theorem dX1_init_1 : decode cX1_init 1 = .ok (.invokespecial 11, 3) := dk_183 0 11 (dk_at dksX1_init_0 1 rfl rfl)
theorem dX1_init_4 : decode cX1_init 4 = .ok (.aload_n 0, 1) := dk_42 (dk_at dksX1_init_0 4 rfl rfl)
theorem dX1_init_5 : decode cX1_init 5 = .ok (.new 16, 3) := dk_187 0 16 (dk_at dksX1_init_0 5 rfl rfl)
theorem dX1_init_8 : decode cX1_init 8 = .ok (.dup, 1) := dk_89 (dk_at dksX1_init_0 8 rfl rfl)
theorem dX1_init_9 : decode cX1_init 9 = .ok (.invokespecial 18, 3) := dk_183 0 18 (dk_at dksX1_init_0 9 rfl rfl)
theorem dX1_init_12 : decode cX1_init 12 = .ok (.putfield 19, 3) := dk_181 0 19 (dk_at dksX1_init_0 12 rfl rfl)
theorem dX1_init_15 : decode cX1_init 15 = .ok (.aload_n 0, 1) := dk_42 (dk_at dksX1_init_0 15 rfl rfl)
theorem dX1_init_16 : decode cX1_init 16 = .ok (.new 25, 3) := dk_187 0 25 (dk_at dksX1_init_0 16 rfl rfl)
theorem dX1_init_19 : decode cX1_init 19 = .ok (.dup, 1) := dk_89 (dk_at dksX1_init_0 19 rfl rfl)
theorem dX1_init_20 : decode cX1_init 20 = .ok (.invokespecial 27, 3) := dk_183 0 27 (dk_at dksX1_init_0 20 rfl rfl)
theorem dX1_init_23 : decode cX1_init 23 = .ok (.putfield 28, 3) := dk_181 0 28 (dk_at dksX1_init_1 0 rfl rfl)
theorem dX1_init_26 : decode cX1_init 26 = .ok (.aload_n 0, 1) := dk_42 (dk_at dksX1_init_1 3 rfl rfl)
theorem dX1_init_27 : decode cX1_init 27 = .ok (.new 32, 3) := dk_187 0 32 (dk_at dksX1_init_1 4 rfl rfl)
theorem dX1_init_30 : decode cX1_init 30 = .ok (.dup, 1) := dk_89 (dk_at dksX1_init_1 7 rfl rfl)
theorem dX1_init_31 : decode cX1_init 31 = .ok (.invokespecial 34, 3) := dk_183 0 34 (dk_at dksX1_init_1 8 rfl rfl)
theorem dX1_init_34 : decode cX1_init 34 = .ok (.putfield 35, 3) := dk_181 0 35 (dk_at dksX1_init_1 11 rfl rfl)
theorem dX1_init_37 : decode cX1_init 37 = .ok (.aload_n 0, 1) := dk_42 (dk_at dksX1_init_1 14 rfl rfl)
theorem dX1_init_38 : decode cX1_init 38 = .ok (.iconst (-1), 1) := dk_2 (dk_at dksX1_init_1 15 rfl rfl)
theorem dX1_init_39 : decode cX1_init 39 = .ok (.putfield 39, 3) := dk_181 0 39 (dk_at dksX1_init_1 16 rfl rfl)
theorem dX1_init_42 : decode cX1_init 42 = .ok (.aload_n 0, 1) := dk_42 (dk_at dksX1_init_1 19 rfl rfl)
theorem dX1_init_43 : decode cX1_init 43 = .ok (.ldc 43, 2) := dk_18 43 (dk_at dksX1_init_1 20 rfl rfl)
theorem dX1_init_45 : decode cX1_init 45 = .ok (.putfield 45, 3) := dk_181 0 45 (dk_at dksX1_init_2 0 rfl rfl)
theorem dX1_init_48 : decode cX1_init 48 = .ok (.return_, 1) := dk_177 (dk_at dksX1_init_2 3 rfl rfl)
abbrev cX1_isSafe : ByteArray := prog_1_method_33_code
def dkwX1_isSafe_0 : List UInt8 := [42, 180, 0, 19, 182, 1, 21, 172]
abbrev dktX1_isSafe_0 : List UInt8 := dkwX1_isSafe_0 ++ []
theorem dksX1_isSafe_0 : cX1_isSafe.data.toList.drop 0 = dktX1_isSafe_0 := by decide +kernel
theorem dX1_isSafe_0 : decode cX1_isSafe 0 = .ok (.aload_n 0, 1) := dk_42 (dk_at dksX1_isSafe_0 0 rfl rfl)
theorem dX1_isSafe_1 : decode cX1_isSafe 1 = .ok (.getfield 19, 3) := dk_180 0 19 (dk_at dksX1_isSafe_0 1 rfl rfl)
theorem dX1_isSafe_4 : decode cX1_isSafe 4 = .ok (.invokevirtual 277, 3) := dk_182 1 21 (dk_at dksX1_isSafe_0 4 rfl rfl)
theorem dX1_isSafe_7 : decode cX1_isSafe 7 = .ok (.ireturn, 1) := dk_172 (dk_at dksX1_isSafe_0 7 rfl rfl)
abbrev cX1_save : ByteArray := prog_1_method_48_code
def dkwX1_save_0 : List UInt8 := [42, 42, 180, 0, 19, 181, 1, 171, 42, 180, 0, 19, 182, 1, 141, 172]
abbrev dktX1_save_0 : List UInt8 := dkwX1_save_0 ++ []
theorem dksX1_save_0 : cX1_save.data.toList.drop 0 = dktX1_save_0 := by decide +kernel
theorem dX1_save_0 : decode cX1_save 0 = .ok (.aload_n 0, 1) := dk_42 (dk_at dksX1_save_0 0 rfl rfl)
theorem dX1_save_1 : decode cX1_save 1 = .ok (.aload_n 0, 1) := dk_42 (dk_at dksX1_save_0 1 rfl rfl)
theorem dX1_save_2 : decode cX1_save 2 = .ok (.getfield 19, 3) := dk_180 0 19 (dk_at dksX1_save_0 2 rfl rfl)
theorem dX1_save_5 : decode cX1_save 5 = .ok (.putfield 427, 3) := dk_181 1 171 (dk_at dksX1_save_0 5 rfl rfl)
theorem dX1_save_8 : decode cX1_save 8 = .ok (.aload_n 0, 1) := dk_42 (dk_at dksX1_save_0 8 rfl rfl)
theorem dX1_save_9 : decode cX1_save 9 = .ok (.getfield 19, 3) := dk_180 0 19 (dk_at dksX1_save_0 9 rfl rfl)
theorem dX1_save_12 : decode cX1_save 12 = .ok (.invokevirtual 397, 3) := dk_182 1 141 (dk_at dksX1_save_0 12 rfl rfl)
theorem dX1_save_15 : decode cX1_save 15 = .ok (.ireturn, 1) := dk_172 (dk_at dksX1_save_0 15 rfl rfl)
abbrev cX1_read : ByteArray := prog_1_method_39_code
def dkwX1_read_2 : List UInt8 := [182, 1, 111, 181, 0, 39, 187, 0, 49, 89, 183, 0, 51, 191, 77, 42, 44, 182, 0, 125, 191]
abbrev dktX1_read_2 : List UInt8 := dkwX1_read_2 ++ []
def dkwX1_read_1 : List UInt8 := [182, 1, 102, 77, 42, 42, 44, 182, 1, 105, 44, 185, 0, 69, 1, 0, 182, 0, 121, 172, 77, 42, 44]
abbrev dktX1_read_1 : List UInt8 := dkwX1_read_1 ++ dktX1_read_2
def dkwX1_read_0 : List UInt8 := [42, 180, 0, 35, 182, 1, 90, 76, 42, 180, 0, 35, 3, 182, 1, 94, 187, 1, 97, 89, 43, 183, 1, 99]
abbrev dktX1_read_0 : List UInt8 := dkwX1_read_0 ++ dktX1_read_1
theorem dksX1_read_0 : cX1_read.data.toList.drop 0 = dktX1_read_0 := by decide +kernel
theorem dksX1_read_1 : cX1_read.data.toList.drop 24 = dktX1_read_1 := dk_seg dksX1_read_0 24 rfl rfl
theorem dksX1_read_2 : cX1_read.data.toList.drop 47 = dktX1_read_2 := dk_seg dksX1_read_1 23 rfl rfl
theorem dX1_read_0 : decode cX1_read 0 = .ok (.aload_n 0, 1) := dk_42 (dk_at dksX1_read_0 0 rfl rfl)
theorem dX1_read_1 : decode cX1_read 1 = .ok (.getfield 35, 3) := dk_180 0 35 (dk_at dksX1_read_0 1 rfl rfl)
theorem dX1_read_4 : decode cX1_read 4 = .ok (.invokevirtual 346, 3) := dk_182 1 90 (dk_at dksX1_read_0 4 rfl rfl)
theorem dX1_read_7 : decode cX1_read 7 = .ok (.astore_n 1, 1) := dk_76 (dk_at dksX1_read_0 7 rfl rfl)
theorem dX1_read_8 : decode cX1_read 8 = .ok (.aload_n 0, 1) := dk_42 (dk_at dksX1_read_0 8 rfl rfl)
theorem dX1_read_9 : decode cX1_read 9 = .ok (.getfield 35, 3) := dk_180 0 35 (dk_at dksX1_read_0 9 rfl rfl)
theorem dX1_read_12 : decode cX1_read 12 = .ok (.iconst 0, 1) := dk_3 (dk_at dksX1_read_0 12 rfl rfl)
theorem dX1_read_13 : decode cX1_read 13 = .ok (.invokevirtual 350, 3) := dk_182 1 94 (dk_at dksX1_read_0 13 rfl rfl)
theorem dX1_read_16 : decode cX1_read 16 = .ok (.new 353, 3) := dk_187 1 97 (dk_at dksX1_read_0 16 rfl rfl)
theorem dX1_read_19 : decode cX1_read 19 = .ok (.dup, 1) := dk_89 (dk_at dksX1_read_0 19 rfl rfl)
theorem dX1_read_20 : decode cX1_read 20 = .ok (.aload_n 1, 1) := dk_43 (dk_at dksX1_read_0 20 rfl rfl)
theorem dX1_read_21 : decode cX1_read 21 = .ok (.invokespecial 355, 3) := dk_183 1 99 (dk_at dksX1_read_0 21 rfl rfl)
theorem dX1_read_24 : decode cX1_read 24 = .ok (.invokevirtual 358, 3) := dk_182 1 102 (dk_at dksX1_read_1 0 rfl rfl)
theorem dX1_read_27 : decode cX1_read 27 = .ok (.astore_n 2, 1) := dk_77 (dk_at dksX1_read_1 3 rfl rfl)
theorem dX1_read_28 : decode cX1_read 28 = .ok (.aload_n 0, 1) := dk_42 (dk_at dksX1_read_1 4 rfl rfl)
theorem dX1_read_29 : decode cX1_read 29 = .ok (.aload_n 0, 1) := dk_42 (dk_at dksX1_read_1 5 rfl rfl)
theorem dX1_read_30 : decode cX1_read 30 = .ok (.aload_n 2, 1) := dk_44 (dk_at dksX1_read_1 6 rfl rfl)
theorem dX1_read_31 : decode cX1_read 31 = .ok (.invokevirtual 361, 3) := dk_182 1 105 (dk_at dksX1_read_1 7 rfl rfl)
theorem dX1_read_34 : decode cX1_read 34 = .ok (.aload_n 2, 1) := dk_44 (dk_at dksX1_read_1 10 rfl rfl)
theorem dX1_read_35 : decode cX1_read 35 = .ok (.invokeinterface 69 1, 5) := by decide +kernel
theorem dX1_read_40 : decode cX1_read 40 = .ok (.invokevirtual 121, 3) := dk_182 0 121 (dk_at dksX1_read_1 16 rfl rfl)
theorem dX1_read_43 : decode cX1_read 43 = .ok (.ireturn, 1) := dk_172 (dk_at dksX1_read_1 19 rfl rfl)
theorem dX1_read_44 : decode cX1_read 44 = .ok (.astore_n 2, 1) := dk_77 (dk_at dksX1_read_1 20 rfl rfl)
theorem dX1_read_45 : decode cX1_read 45 = .ok (.aload_n 0, 1) := dk_42 (dk_at dksX1_read_1 21 rfl rfl)
theorem dX1_read_46 : decode cX1_read 46 = .ok (.aload_n 2, 1) := dk_44 (dk_at dksX1_read_1 22 rfl rfl)
theorem dX1_read_47 : decode cX1_read 47 = .ok (.invokevirtual 367, 3) := dk_182 1 111 (dk_at dksX1_read_2 0 rfl rfl)
theorem dX1_read_50 : decode cX1_read 50 = .ok (.putfield 39, 3) := dk_181 0 39 (dk_at dksX1_read_2 3 rfl rfl)
theorem dX1_read_53 : decode cX1_read 53 = .ok (.new 49, 3) := dk_187 0 49 (dk_at dksX1_read_2 6 rfl rfl)
theorem dX1_read_56 : decode cX1_read 56 = .ok (.dup, 1) := dk_89 (dk_at dksX1_read_2 9 rfl rfl)
theorem dX1_read_57 : decode cX1_read 57 = .ok (.invokespecial 51, 3) := dk_183 0 51 (dk_at dksX1_read_2 10 rfl rfl)
theorem dX1_read_60 : decode cX1_read 60 = .ok (.athrow, 1) := dk_191 (dk_at dksX1_read_2 13 rfl rfl)
theorem dX1_read_61 : decode cX1_read 61 = .ok (.astore_n 2, 1) := dk_77 (dk_at dksX1_read_2 14 rfl rfl)
theorem dX1_read_62 : decode cX1_read 62 = .ok (.aload_n 0, 1) := dk_42 (dk_at dksX1_read_2 15 rfl rfl)
theorem dX1_read_63 : decode cX1_read 63 = .ok (.aload_n 2, 1) := dk_44 (dk_at dksX1_read_2 16 rfl rfl)
theorem dX1_read_64 : decode cX1_read 64 = .ok (.invokevirtual 125, 3) := dk_182 0 125 (dk_at dksX1_read_2 17 rfl rfl)
theorem dX1_read_67 : decode cX1_read 67 = .ok (.athrow, 1) := dk_191 (dk_at dksX1_read_2 20 rfl rfl)
abbrev cX1_carriedOut : ByteArray := prog_1_method_38_code
def dkwX1_carriedOut_3 : List UInt8 := [89, 16, 13, 29, 183, 0, 3, 191, 132, 3, 1, 167, 255, 196, 44, 176]
abbrev dktX1_carriedOut_3 : List UInt8 := dkwX1_carriedOut_3 ++ []
def dkwX1_carriedOut_2 : List UInt8 := [182, 1, 82, 16, 13, 29, 184, 1, 86, 25, 5, 44, 182, 0, 117, 87, 167, 0, 16, 58, 6, 187, 0, 1]
abbrev dktX1_carriedOut_2 : List UInt8 := dkwX1_carriedOut_2 ++ dktX1_carriedOut_3
def dkwX1_carriedOut_1 : List UInt8 := [185, 1, 74, 1, 0, 153, 0, 56, 25, 4, 185, 1, 79, 1, 0, 192, 0, 112, 58, 5, 25, 5, 44]
abbrev dktX1_carriedOut_1 : List UInt8 := dkwX1_carriedOut_1 ++ dktX1_carriedOut_2
def dkwX1_carriedOut_0 : List UInt8 := [42, 180, 0, 19, 182, 0, 108, 77, 3, 62, 43, 185, 1, 70, 1, 0, 58, 4, 25, 4]
abbrev dktX1_carriedOut_0 : List UInt8 := dkwX1_carriedOut_0 ++ dktX1_carriedOut_1
theorem dksX1_carriedOut_0 : cX1_carriedOut.data.toList.drop 0 = dktX1_carriedOut_0 := by decide +kernel
theorem dksX1_carriedOut_1 : cX1_carriedOut.data.toList.drop 20 = dktX1_carriedOut_1 := dk_seg dksX1_carriedOut_0 20 rfl rfl
theorem dksX1_carriedOut_2 : cX1_carriedOut.data.toList.drop 43 = dktX1_carriedOut_2 := dk_seg dksX1_carriedOut_1 23 rfl rfl
theorem dksX1_carriedOut_3 : cX1_carriedOut.data.toList.drop 67 = dktX1_carriedOut_3 := dk_seg dksX1_carriedOut_2 24 rfl rfl
theorem dX1_carriedOut_0 : decode cX1_carriedOut 0 = .ok (.aload_n 0, 1) := dk_42 (dk_at dksX1_carriedOut_0 0 rfl rfl)
theorem dX1_carriedOut_1 : decode cX1_carriedOut 1 = .ok (.getfield 19, 3) := dk_180 0 19 (dk_at dksX1_carriedOut_0 1 rfl rfl)
theorem dX1_carriedOut_4 : decode cX1_carriedOut 4 = .ok (.invokevirtual 108, 3) := dk_182 0 108 (dk_at dksX1_carriedOut_0 4 rfl rfl)
theorem dX1_carriedOut_7 : decode cX1_carriedOut 7 = .ok (.astore_n 2, 1) := dk_77 (dk_at dksX1_carriedOut_0 7 rfl rfl)
theorem dX1_carriedOut_8 : decode cX1_carriedOut 8 = .ok (.iconst 0, 1) := dk_3 (dk_at dksX1_carriedOut_0 8 rfl rfl)
theorem dX1_carriedOut_9 : decode cX1_carriedOut 9 = .ok (.istore_n 3, 1) := dk_62 (dk_at dksX1_carriedOut_0 9 rfl rfl)
theorem dX1_carriedOut_10 : decode cX1_carriedOut 10 = .ok (.aload_n 1, 1) := dk_43 (dk_at dksX1_carriedOut_0 10 rfl rfl)
theorem dX1_carriedOut_11 : decode cX1_carriedOut 11 = .ok (.invokeinterface 326 1, 5) := by decide +kernel
theorem dX1_carriedOut_16 : decode cX1_carriedOut 16 = .ok (.astore 4, 2) := dk_58 4 (dk_at dksX1_carriedOut_0 16 rfl rfl)
theorem dX1_carriedOut_18 : decode cX1_carriedOut 18 = .ok (.aload 4, 2) := dk_25 4 (dk_at dksX1_carriedOut_0 18 rfl rfl)
theorem dX1_carriedOut_20 : decode cX1_carriedOut 20 = .ok (.invokeinterface 330 1, 5) := by decide +kernel
theorem dX1_carriedOut_25 : decode cX1_carriedOut 25 = .ok (.ifCond .eq 56, 3) := dk_153 0 56 (dk_at dksX1_carriedOut_1 5 rfl rfl)
theorem dX1_carriedOut_28 : decode cX1_carriedOut 28 = .ok (.aload 4, 2) := dk_25 4 (dk_at dksX1_carriedOut_1 8 rfl rfl)
theorem dX1_carriedOut_30 : decode cX1_carriedOut 30 = .ok (.invokeinterface 335 1, 5) := by decide +kernel
theorem dX1_carriedOut_35 : decode cX1_carriedOut 35 = .ok (.checkcast 112, 3) := dk_192 0 112 (dk_at dksX1_carriedOut_1 15 rfl rfl)
theorem dX1_carriedOut_38 : decode cX1_carriedOut 38 = .ok (.astore 5, 2) := dk_58 5 (dk_at dksX1_carriedOut_1 18 rfl rfl)
theorem dX1_carriedOut_40 : decode cX1_carriedOut 40 = .ok (.aload 5, 2) := dk_25 5 (dk_at dksX1_carriedOut_1 20 rfl rfl)
theorem dX1_carriedOut_42 : decode cX1_carriedOut 42 = .ok (.aload_n 2, 1) := dk_44 (dk_at dksX1_carriedOut_1 22 rfl rfl)
theorem dX1_carriedOut_43 : decode cX1_carriedOut 43 = .ok (.invokevirtual 338, 3) := dk_182 1 82 (dk_at dksX1_carriedOut_2 0 rfl rfl)
theorem dX1_carriedOut_46 : decode cX1_carriedOut 46 = .ok (.bipush 13, 2) := dk_16 13 (dk_at dksX1_carriedOut_2 3 rfl rfl)
theorem dX1_carriedOut_48 : decode cX1_carriedOut 48 = .ok (.iload_n 3, 1) := dk_29 (dk_at dksX1_carriedOut_2 5 rfl rfl)
theorem dX1_carriedOut_49 : decode cX1_carriedOut 49 = .ok (.invokestatic 342, 3) := dk_184 1 86 (dk_at dksX1_carriedOut_2 6 rfl rfl)
theorem dX1_carriedOut_52 : decode cX1_carriedOut 52 = .ok (.aload 5, 2) := dk_25 5 (dk_at dksX1_carriedOut_2 9 rfl rfl)
theorem dX1_carriedOut_54 : decode cX1_carriedOut 54 = .ok (.aload_n 2, 1) := dk_44 (dk_at dksX1_carriedOut_2 11 rfl rfl)
theorem dX1_carriedOut_55 : decode cX1_carriedOut 55 = .ok (.invokevirtual 117, 3) := dk_182 0 117 (dk_at dksX1_carriedOut_2 12 rfl rfl)
theorem dX1_carriedOut_58 : decode cX1_carriedOut 58 = .ok (.pop, 1) := dk_87 (dk_at dksX1_carriedOut_2 15 rfl rfl)
theorem dX1_carriedOut_59 : decode cX1_carriedOut 59 = .ok (.goto 16, 3) := dk_167 0 16 (dk_at dksX1_carriedOut_2 16 rfl rfl)
theorem dX1_carriedOut_62 : decode cX1_carriedOut 62 = .ok (.astore 6, 2) := dk_58 6 (dk_at dksX1_carriedOut_2 19 rfl rfl)
theorem dX1_carriedOut_64 : decode cX1_carriedOut 64 = .ok (.new 1, 3) := dk_187 0 1 (dk_at dksX1_carriedOut_2 21 rfl rfl)
theorem dX1_carriedOut_67 : decode cX1_carriedOut 67 = .ok (.dup, 1) := dk_89 (dk_at dksX1_carriedOut_3 0 rfl rfl)
theorem dX1_carriedOut_68 : decode cX1_carriedOut 68 = .ok (.bipush 13, 2) := dk_16 13 (dk_at dksX1_carriedOut_3 1 rfl rfl)
theorem dX1_carriedOut_70 : decode cX1_carriedOut 70 = .ok (.iload_n 3, 1) := dk_29 (dk_at dksX1_carriedOut_3 3 rfl rfl)
theorem dX1_carriedOut_71 : decode cX1_carriedOut 71 = .ok (.invokespecial 3, 3) := dk_183 0 3 (dk_at dksX1_carriedOut_3 4 rfl rfl)
theorem dX1_carriedOut_74 : decode cX1_carriedOut 74 = .ok (.athrow, 1) := dk_191 (dk_at dksX1_carriedOut_3 7 rfl rfl)
theorem dX1_carriedOut_75 : decode cX1_carriedOut 75 = .ok (.iinc 3 1, 3) := dk_132 3 1 (dk_at dksX1_carriedOut_3 8 rfl rfl)
theorem dX1_carriedOut_78 : decode cX1_carriedOut 78 = .ok (.goto (-60), 3) := dk_167 255 196 (dk_at dksX1_carriedOut_3 11 rfl rfl)
theorem dX1_carriedOut_81 : decode cX1_carriedOut 81 = .ok (.aload_n 2, 1) := dk_44 (dk_at dksX1_carriedOut_3 14 rfl rfl)
theorem dX1_carriedOut_82 : decode cX1_carriedOut 82 = .ok (.areturn, 1) := dk_176 (dk_at dksX1_carriedOut_3 15 rfl rfl)
abbrev cX1_errorPosition : ByteArray := prog_1_method_40_code
def dkwX1_errorPosition_0 : List UInt8 := [42, 180, 0, 39, 2, 159, 0, 7, 4, 167, 0, 4, 3, 184, 0, 225, 42, 180, 0, 39, 172]
abbrev dktX1_errorPosition_0 : List UInt8 := dkwX1_errorPosition_0 ++ []
theorem dksX1_errorPosition_0 : cX1_errorPosition.data.toList.drop 0 = dktX1_errorPosition_0 := by decide +kernel
theorem dX1_errorPosition_0 : decode cX1_errorPosition 0 = .ok (.aload_n 0, 1) := dk_42 (dk_at dksX1_errorPosition_0 0 rfl rfl)
theorem dX1_errorPosition_1 : decode cX1_errorPosition 1 = .ok (.getfield 39, 3) := dk_180 0 39 (dk_at dksX1_errorPosition_0 1 rfl rfl)
theorem dX1_errorPosition_4 : decode cX1_errorPosition 4 = .ok (.iconst (-1), 1) := dk_2 (dk_at dksX1_errorPosition_0 4 rfl rfl)
theorem dX1_errorPosition_5 : decode cX1_errorPosition 5 = .ok (.if_icmp .eq 7, 3) := dk_159 0 7 (dk_at dksX1_errorPosition_0 5 rfl rfl)
theorem dX1_errorPosition_8 : decode cX1_errorPosition 8 = .ok (.iconst 1, 1) := dk_4 (dk_at dksX1_errorPosition_0 8 rfl rfl)
theorem dX1_errorPosition_9 : decode cX1_errorPosition 9 = .ok (.goto 4, 3) := dk_167 0 4 (dk_at dksX1_errorPosition_0 9 rfl rfl)
theorem dX1_errorPosition_12 : decode cX1_errorPosition 12 = .ok (.iconst 0, 1) := dk_3 (dk_at dksX1_errorPosition_0 12 rfl rfl)
theorem dX1_errorPosition_13 : decode cX1_errorPosition 13 = .ok (.invokestatic 225, 3) := dk_184 0 225 (dk_at dksX1_errorPosition_0 13 rfl rfl)
theorem dX1_errorPosition_16 : decode cX1_errorPosition 16 = .ok (.aload_n 0, 1) := dk_42 (dk_at dksX1_errorPosition_0 16 rfl rfl)
theorem dX1_errorPosition_17 : decode cX1_errorPosition 17 = .ok (.getfield 39, 3) := dk_180 0 39 (dk_at dksX1_errorPosition_0 17 rfl rfl)
theorem dX1_errorPosition_20 : decode cX1_errorPosition 20 = .ok (.ireturn, 1) := dk_172 (dk_at dksX1_errorPosition_0 20 rfl rfl)
abbrev cX1_refusal : ByteArray := prog_1_method_41_code
def dkwX1_refusal_1 : List UInt8 := [167, 0, 7, 42, 180, 0, 98, 172]
abbrev dktX1_refusal_1 : List UInt8 := dkwX1_refusal_1 ++ []
def dkwX1_refusal_0 : List UInt8 := [42, 180, 0, 98, 158, 0, 7, 4, 167, 0, 4, 3, 184, 0, 225, 27, 153, 0, 10, 42, 180, 0, 103]
abbrev dktX1_refusal_0 : List UInt8 := dkwX1_refusal_0 ++ dktX1_refusal_1
theorem dksX1_refusal_0 : cX1_refusal.data.toList.drop 0 = dktX1_refusal_0 := by decide +kernel
theorem dksX1_refusal_1 : cX1_refusal.data.toList.drop 23 = dktX1_refusal_1 := dk_seg dksX1_refusal_0 23 rfl rfl
theorem dX1_refusal_0 : decode cX1_refusal 0 = .ok (.aload_n 0, 1) := dk_42 (dk_at dksX1_refusal_0 0 rfl rfl)
theorem dX1_refusal_1 : decode cX1_refusal 1 = .ok (.getfield 98, 3) := dk_180 0 98 (dk_at dksX1_refusal_0 1 rfl rfl)
theorem dX1_refusal_4 : decode cX1_refusal 4 = .ok (.ifCond .le 7, 3) := dk_158 0 7 (dk_at dksX1_refusal_0 4 rfl rfl)
theorem dX1_refusal_7 : decode cX1_refusal 7 = .ok (.iconst 1, 1) := dk_4 (dk_at dksX1_refusal_0 7 rfl rfl)
theorem dX1_refusal_8 : decode cX1_refusal 8 = .ok (.goto 4, 3) := dk_167 0 4 (dk_at dksX1_refusal_0 8 rfl rfl)
theorem dX1_refusal_11 : decode cX1_refusal 11 = .ok (.iconst 0, 1) := dk_3 (dk_at dksX1_refusal_0 11 rfl rfl)
theorem dX1_refusal_12 : decode cX1_refusal 12 = .ok (.invokestatic 225, 3) := dk_184 0 225 (dk_at dksX1_refusal_0 12 rfl rfl)
theorem dX1_refusal_15 : decode cX1_refusal 15 = .ok (.iload_n 1, 1) := dk_27 (dk_at dksX1_refusal_0 15 rfl rfl)
theorem dX1_refusal_16 : decode cX1_refusal 16 = .ok (.ifCond .eq 10, 3) := dk_153 0 10 (dk_at dksX1_refusal_0 16 rfl rfl)
theorem dX1_refusal_19 : decode cX1_refusal 19 = .ok (.aload_n 0, 1) := dk_42 (dk_at dksX1_refusal_0 19 rfl rfl)
theorem dX1_refusal_20 : decode cX1_refusal 20 = .ok (.getfield 103, 3) := dk_180 0 103 (dk_at dksX1_refusal_0 20 rfl rfl)
theorem dX1_refusal_23 : decode cX1_refusal 23 = .ok (.goto 7, 3) := dk_167 0 7 (dk_at dksX1_refusal_1 0 rfl rfl)
theorem dX1_refusal_26 : decode cX1_refusal 26 = .ok (.aload_n 0, 1) := dk_42 (dk_at dksX1_refusal_1 3 rfl rfl)
theorem dX1_refusal_27 : decode cX1_refusal 27 = .ok (.getfield 98, 3) := dk_180 0 98 (dk_at dksX1_refusal_1 4 rfl rfl)
theorem dX1_refusal_30 : decode cX1_refusal 30 = .ok (.ireturn, 1) := dk_172 (dk_at dksX1_refusal_1 7 rfl rfl)
abbrev cX1_describe : ByteArray := prog_1_method_42_code
def dkwX1_describe_5 : List UInt8 := [180, 0, 45, 182, 1, 140, 172]
abbrev dktX1_describe_5 : List UInt8 := dkwX1_describe_5 ++ []
def dkwX1_describe_4 : List UInt8 := [182, 1, 132, 182, 1, 136, 182, 1, 66, 87, 167, 255, 204, 42, 45, 182, 1, 90, 181, 0, 45, 42]
abbrev dktX1_describe_4 : List UInt8 := dkwX1_describe_4 ++ dktX1_describe_5
def dkwX1_describe_3 : List UInt8 := [182, 1, 57, 54, 5, 45, 16, 32, 182, 1, 66, 21, 5, 182, 1, 129, 44, 21, 5, 182, 0, 221]
abbrev dktX1_describe_3 : List UInt8 := dkwX1_describe_3 ++ dktX1_describe_4
def dkwX1_describe_2 : List UInt8 := [58, 4, 25, 4, 185, 1, 74, 1, 0, 153, 0, 48, 25, 4, 185, 1, 79, 1, 0, 192, 1, 55]
abbrev dktX1_describe_2 : List UInt8 := dkwX1_describe_2 ++ dktX1_describe_3
def dkwX1_describe_1 : List UInt8 := [44, 182, 0, 193, 182, 1, 116, 182, 1, 66, 78, 44, 182, 0, 198, 182, 1, 122, 185, 1, 126, 1, 0]
abbrev dktX1_describe_1 : List UInt8 := dkwX1_describe_1 ++ dktX1_describe_2
def dkwX1_describe_0 : List UInt8 := [42, 27, 182, 0, 182, 42, 180, 0, 19, 27, 182, 0, 189, 77, 187, 0, 32, 89, 183, 0, 34, 19, 1, 114]
abbrev dktX1_describe_0 : List UInt8 := dkwX1_describe_0 ++ dktX1_describe_1
theorem dksX1_describe_0 : cX1_describe.data.toList.drop 0 = dktX1_describe_0 := by decide +kernel
theorem dksX1_describe_1 : cX1_describe.data.toList.drop 24 = dktX1_describe_1 := dk_seg dksX1_describe_0 24 rfl rfl
theorem dksX1_describe_2 : cX1_describe.data.toList.drop 47 = dktX1_describe_2 := dk_seg dksX1_describe_1 23 rfl rfl
theorem dksX1_describe_3 : cX1_describe.data.toList.drop 69 = dktX1_describe_3 := dk_seg dksX1_describe_2 22 rfl rfl
theorem dksX1_describe_4 : cX1_describe.data.toList.drop 91 = dktX1_describe_4 := dk_seg dksX1_describe_3 22 rfl rfl
theorem dksX1_describe_5 : cX1_describe.data.toList.drop 113 = dktX1_describe_5 := dk_seg dksX1_describe_4 22 rfl rfl
theorem dX1_describe_0 : decode cX1_describe 0 = .ok (.aload_n 0, 1) := dk_42 (dk_at dksX1_describe_0 0 rfl rfl)
theorem dX1_describe_1 : decode cX1_describe 1 = .ok (.iload_n 1, 1) := dk_27 (dk_at dksX1_describe_0 1 rfl rfl)
theorem dX1_describe_2 : decode cX1_describe 2 = .ok (.invokevirtual 182, 3) := dk_182 0 182 (dk_at dksX1_describe_0 2 rfl rfl)
theorem dX1_describe_5 : decode cX1_describe 5 = .ok (.aload_n 0, 1) := dk_42 (dk_at dksX1_describe_0 5 rfl rfl)
theorem dX1_describe_6 : decode cX1_describe 6 = .ok (.getfield 19, 3) := dk_180 0 19 (dk_at dksX1_describe_0 6 rfl rfl)
theorem dX1_describe_9 : decode cX1_describe 9 = .ok (.iload_n 1, 1) := dk_27 (dk_at dksX1_describe_0 9 rfl rfl)
theorem dX1_describe_10 : decode cX1_describe 10 = .ok (.invokevirtual 189, 3) := dk_182 0 189 (dk_at dksX1_describe_0 10 rfl rfl)
theorem dX1_describe_13 : decode cX1_describe 13 = .ok (.astore_n 2, 1) := dk_77 (dk_at dksX1_describe_0 13 rfl rfl)
theorem dX1_describe_14 : decode cX1_describe 14 = .ok (.new 32, 3) := dk_187 0 32 (dk_at dksX1_describe_0 14 rfl rfl)
theorem dX1_describe_17 : decode cX1_describe 17 = .ok (.dup, 1) := dk_89 (dk_at dksX1_describe_0 17 rfl rfl)
theorem dX1_describe_18 : decode cX1_describe 18 = .ok (.invokespecial 34, 3) := dk_183 0 34 (dk_at dksX1_describe_0 18 rfl rfl)
theorem dX1_describe_21 : decode cX1_describe 21 = .ok (.ldc_w 370, 3) := dk_19 1 114 (dk_at dksX1_describe_0 21 rfl rfl)
theorem dX1_describe_24 : decode cX1_describe 24 = .ok (.aload_n 2, 1) := dk_44 (dk_at dksX1_describe_1 0 rfl rfl)
theorem dX1_describe_25 : decode cX1_describe 25 = .ok (.invokevirtual 193, 3) := dk_182 0 193 (dk_at dksX1_describe_1 1 rfl rfl)
theorem dX1_describe_28 : decode cX1_describe 28 = .ok (.invokevirtual 372, 3) := dk_182 1 116 (dk_at dksX1_describe_1 4 rfl rfl)
theorem dX1_describe_31 : decode cX1_describe 31 = .ok (.invokevirtual 322, 3) := dk_182 1 66 (dk_at dksX1_describe_1 7 rfl rfl)
theorem dX1_describe_34 : decode cX1_describe 34 = .ok (.astore_n 3, 1) := dk_78 (dk_at dksX1_describe_1 10 rfl rfl)
theorem dX1_describe_35 : decode cX1_describe 35 = .ok (.aload_n 2, 1) := dk_44 (dk_at dksX1_describe_1 11 rfl rfl)
theorem dX1_describe_36 : decode cX1_describe 36 = .ok (.invokevirtual 198, 3) := dk_182 0 198 (dk_at dksX1_describe_1 12 rfl rfl)
theorem dX1_describe_39 : decode cX1_describe 39 = .ok (.invokevirtual 378, 3) := dk_182 1 122 (dk_at dksX1_describe_1 15 rfl rfl)
theorem dX1_describe_42 : decode cX1_describe 42 = .ok (.invokeinterface 382 1, 5) := by decide +kernel
theorem dX1_describe_47 : decode cX1_describe 47 = .ok (.astore 4, 2) := dk_58 4 (dk_at dksX1_describe_2 0 rfl rfl)
theorem dX1_describe_49 : decode cX1_describe 49 = .ok (.aload 4, 2) := dk_25 4 (dk_at dksX1_describe_2 2 rfl rfl)
theorem dX1_describe_51 : decode cX1_describe 51 = .ok (.invokeinterface 330 1, 5) := by decide +kernel
theorem dX1_describe_56 : decode cX1_describe 56 = .ok (.ifCond .eq 48, 3) := dk_153 0 48 (dk_at dksX1_describe_2 9 rfl rfl)
theorem dX1_describe_59 : decode cX1_describe 59 = .ok (.aload 4, 2) := dk_25 4 (dk_at dksX1_describe_2 12 rfl rfl)
theorem dX1_describe_61 : decode cX1_describe 61 = .ok (.invokeinterface 335 1, 5) := by decide +kernel
theorem dX1_describe_66 : decode cX1_describe 66 = .ok (.checkcast 311, 3) := dk_192 1 55 (dk_at dksX1_describe_2 19 rfl rfl)
theorem dX1_describe_69 : decode cX1_describe 69 = .ok (.invokevirtual 313, 3) := dk_182 1 57 (dk_at dksX1_describe_3 0 rfl rfl)
theorem dX1_describe_72 : decode cX1_describe 72 = .ok (.istore 5, 2) := dk_54 5 (dk_at dksX1_describe_3 3 rfl rfl)
theorem dX1_describe_74 : decode cX1_describe 74 = .ok (.aload_n 3, 1) := dk_45 (dk_at dksX1_describe_3 5 rfl rfl)
theorem dX1_describe_75 : decode cX1_describe 75 = .ok (.bipush 32, 2) := dk_16 32 (dk_at dksX1_describe_3 6 rfl rfl)
theorem dX1_describe_77 : decode cX1_describe 77 = .ok (.invokevirtual 322, 3) := dk_182 1 66 (dk_at dksX1_describe_3 8 rfl rfl)
theorem dX1_describe_80 : decode cX1_describe 80 = .ok (.iload 5, 2) := dk_21 5 (dk_at dksX1_describe_3 11 rfl rfl)
theorem dX1_describe_82 : decode cX1_describe 82 = .ok (.invokevirtual 385, 3) := dk_182 1 129 (dk_at dksX1_describe_3 13 rfl rfl)
theorem dX1_describe_85 : decode cX1_describe 85 = .ok (.aload_n 2, 1) := dk_44 (dk_at dksX1_describe_3 16 rfl rfl)
theorem dX1_describe_86 : decode cX1_describe 86 = .ok (.iload 5, 2) := dk_21 5 (dk_at dksX1_describe_3 17 rfl rfl)
theorem dX1_describe_88 : decode cX1_describe 88 = .ok (.invokevirtual 221, 3) := dk_182 0 221 (dk_at dksX1_describe_3 19 rfl rfl)
theorem dX1_describe_91 : decode cX1_describe 91 = .ok (.invokevirtual 388, 3) := dk_182 1 132 (dk_at dksX1_describe_4 0 rfl rfl)
theorem dX1_describe_94 : decode cX1_describe 94 = .ok (.invokevirtual 392, 3) := dk_182 1 136 (dk_at dksX1_describe_4 3 rfl rfl)
theorem dX1_describe_97 : decode cX1_describe 97 = .ok (.invokevirtual 322, 3) := dk_182 1 66 (dk_at dksX1_describe_4 6 rfl rfl)
theorem dX1_describe_100 : decode cX1_describe 100 = .ok (.pop, 1) := dk_87 (dk_at dksX1_describe_4 9 rfl rfl)
theorem dX1_describe_101 : decode cX1_describe 101 = .ok (.goto (-52), 3) := dk_167 255 204 (dk_at dksX1_describe_4 10 rfl rfl)
theorem dX1_describe_104 : decode cX1_describe 104 = .ok (.aload_n 0, 1) := dk_42 (dk_at dksX1_describe_4 13 rfl rfl)
theorem dX1_describe_105 : decode cX1_describe 105 = .ok (.aload_n 3, 1) := dk_45 (dk_at dksX1_describe_4 14 rfl rfl)
theorem dX1_describe_106 : decode cX1_describe 106 = .ok (.invokevirtual 346, 3) := dk_182 1 90 (dk_at dksX1_describe_4 15 rfl rfl)
theorem dX1_describe_109 : decode cX1_describe 109 = .ok (.putfield 45, 3) := dk_181 0 45 (dk_at dksX1_describe_4 18 rfl rfl)
theorem dX1_describe_112 : decode cX1_describe 112 = .ok (.aload_n 0, 1) := dk_42 (dk_at dksX1_describe_4 21 rfl rfl)
theorem dX1_describe_113 : decode cX1_describe 113 = .ok (.getfield 45, 3) := dk_180 0 45 (dk_at dksX1_describe_5 0 rfl rfl)
theorem dX1_describe_116 : decode cX1_describe 116 = .ok (.invokevirtual 396, 3) := dk_182 1 140 (dk_at dksX1_describe_5 3 rfl rfl)
theorem dX1_describe_119 : decode cX1_describe 119 = .ok (.ireturn, 1) := dk_172 (dk_at dksX1_describe_5 6 rfl rfl)
abbrev cX1_written : ByteArray := prog_1_method_43_code
def dkwX1_written_1 : List UInt8 := [182, 1, 116, 172]
abbrev dktX1_written_1 : List UInt8 := dkwX1_written_1 ++ []
def dkwX1_written_0 : List UInt8 := [27, 3, 42, 180, 0, 45, 182, 1, 140, 4, 100, 184, 0, 58, 184, 0, 225, 42, 180, 0, 45, 27]
abbrev dktX1_written_0 : List UInt8 := dkwX1_written_0 ++ dktX1_written_1
theorem dksX1_written_0 : cX1_written.data.toList.drop 0 = dktX1_written_0 := by decide +kernel
theorem dksX1_written_1 : cX1_written.data.toList.drop 22 = dktX1_written_1 := dk_seg dksX1_written_0 22 rfl rfl
theorem dX1_written_0 : decode cX1_written 0 = .ok (.iload_n 1, 1) := dk_27 (dk_at dksX1_written_0 0 rfl rfl)
theorem dX1_written_1 : decode cX1_written 1 = .ok (.iconst 0, 1) := dk_3 (dk_at dksX1_written_0 1 rfl rfl)
theorem dX1_written_2 : decode cX1_written 2 = .ok (.aload_n 0, 1) := dk_42 (dk_at dksX1_written_0 2 rfl rfl)
theorem dX1_written_3 : decode cX1_written 3 = .ok (.getfield 45, 3) := dk_180 0 45 (dk_at dksX1_written_0 3 rfl rfl)
theorem dX1_written_6 : decode cX1_written 6 = .ok (.invokevirtual 396, 3) := dk_182 1 140 (dk_at dksX1_written_0 6 rfl rfl)
theorem dX1_written_9 : decode cX1_written 9 = .ok (.iconst 1, 1) := dk_4 (dk_at dksX1_written_0 9 rfl rfl)
theorem dX1_written_10 : decode cX1_written 10 = .ok (.isub, 1) := dk_100 (dk_at dksX1_written_0 10 rfl rfl)
theorem dX1_written_11 : decode cX1_written 11 = .ok (.invokestatic 58, 3) := dk_184 0 58 (dk_at dksX1_written_0 11 rfl rfl)
theorem dX1_written_14 : decode cX1_written 14 = .ok (.invokestatic 225, 3) := dk_184 0 225 (dk_at dksX1_written_0 14 rfl rfl)
theorem dX1_written_17 : decode cX1_written 17 = .ok (.aload_n 0, 1) := dk_42 (dk_at dksX1_written_0 17 rfl rfl)
theorem dX1_written_18 : decode cX1_written 18 = .ok (.getfield 45, 3) := dk_180 0 45 (dk_at dksX1_written_0 18 rfl rfl)
theorem dX1_written_21 : decode cX1_written 21 = .ok (.iload_n 1, 1) := dk_27 (dk_at dksX1_written_0 21 rfl rfl)
theorem dX1_written_22 : decode cX1_written 22 = .ok (.invokevirtual 372, 3) := dk_182 1 116 (dk_at dksX1_written_1 0 rfl rfl)
theorem dX1_written_25 : decode cX1_written 25 = .ok (.ireturn, 1) := dk_172 (dk_at dksX1_written_1 3 rfl rfl)
abbrev cX1_account : ByteArray := prog_1_method_44_code
def dkwX1_account_7 : List UInt8 := [187, 0, 49, 89, 183, 0, 51, 191]
abbrev dktX1_account_7 : List UInt8 := dkwX1_account_7 ++ []
def dkwX1_account_6 : List UInt8 := [180, 0, 19, 182, 1, 157, 172, 42, 180, 0, 35, 182, 1, 60, 172, 42, 180, 0, 28, 182, 0, 86, 172]
abbrev dktX1_account_6 : List UInt8 := dkwX1_account_6 ++ dktX1_account_7
def dkwX1_account_5 : List UInt8 := [185, 0, 69, 1, 0, 172, 42, 180, 0, 19, 182, 1, 151, 172, 42, 180, 0, 19, 182, 1, 154, 172, 42]
abbrev dktX1_account_5 : List UInt8 := dkwX1_account_5 ++ dktX1_account_6
def dkwX1_account_4 : List UInt8 := [180, 0, 19, 182, 1, 146, 172, 42, 180, 0, 19, 182, 1, 148, 172, 42, 180, 0, 19, 182, 1, 24]
abbrev dktX1_account_4 : List UInt8 := dkwX1_account_4 ++ dktX1_account_5
def dkwX1_account_3 : List UInt8 := [180, 0, 19, 182, 0, 79, 185, 0, 69, 1, 0, 172, 42, 180, 0, 19, 27, 6, 100, 182, 1, 144, 172, 42]
abbrev dktX1_account_3 : List UInt8 := dkwX1_account_3 ++ dktX1_account_4
def dkwX1_account_2 : List UInt8 := [42, 180, 0, 19, 182, 1, 141, 172, 42, 180, 0, 19, 182, 0, 65, 185, 0, 69, 1, 0, 172, 42]
abbrev dktX1_account_2 : List UInt8 := dkwX1_account_2 ++ dktX1_account_3
def dkwX1_account_1 : List UInt8 := [170, 0, 0, 0, 0, 0, 189, 0, 0, 0, 0, 0, 0, 0, 14, 0, 0, 0, 75, 0, 0, 0, 83, 0, 0, 0, 96, 0, 0, 0, 109, 0, 0, 0, 109, 0, 0, 0, 109, 0, 0, 0, 109, 0, 0, 0, 120, 0, 0, 0, 128, 0, 0, 0, 136, 0, 0, 0, 149, 0, 0, 0, 157, 0, 0, 0, 165, 0, 0, 0, 173, 0, 0, 0, 181]
abbrev dktX1_account_1 : List UInt8 := dkwX1_account_1 ++ dktX1_account_2
def dkwX1_account_0 : List UInt8 := [27]
abbrev dktX1_account_0 : List UInt8 := dkwX1_account_0 ++ dktX1_account_1
theorem dksX1_account_0 : cX1_account.data.toList.drop 0 = dktX1_account_0 := by decide +kernel
theorem dksX1_account_1 : cX1_account.data.toList.drop 1 = dktX1_account_1 := dk_seg dksX1_account_0 1 rfl rfl
theorem dksX1_account_2 : cX1_account.data.toList.drop 76 = dktX1_account_2 := dk_seg dksX1_account_1 75 rfl rfl
theorem dksX1_account_3 : cX1_account.data.toList.drop 98 = dktX1_account_3 := dk_seg dksX1_account_2 22 rfl rfl
theorem dksX1_account_4 : cX1_account.data.toList.drop 122 = dktX1_account_4 := dk_seg dksX1_account_3 24 rfl rfl
theorem dksX1_account_5 : cX1_account.data.toList.drop 144 = dktX1_account_5 := dk_seg dksX1_account_4 22 rfl rfl
theorem dksX1_account_6 : cX1_account.data.toList.drop 167 = dktX1_account_6 := dk_seg dksX1_account_5 23 rfl rfl
theorem dksX1_account_7 : cX1_account.data.toList.drop 190 = dktX1_account_7 := dk_seg dksX1_account_6 23 rfl rfl
theorem dX1_account_0 : decode cX1_account 0 = .ok (.iload_n 1, 1) := dk_27 (dk_at dksX1_account_0 0 rfl rfl)
theorem dX1_account_1 : decode cX1_account 1 = .ok (.tableswitch 189 0 14 #[75, 83, 96, 109, 109, 109, 109, 120, 128, 136, 149, 157, 165, 173, 181], 75) := by decide +kernel
theorem dX1_account_76 : decode cX1_account 76 = .ok (.aload_n 0, 1) := dk_42 (dk_at dksX1_account_2 0 rfl rfl)
theorem dX1_account_77 : decode cX1_account 77 = .ok (.getfield 19, 3) := dk_180 0 19 (dk_at dksX1_account_2 1 rfl rfl)
theorem dX1_account_80 : decode cX1_account 80 = .ok (.invokevirtual 397, 3) := dk_182 1 141 (dk_at dksX1_account_2 4 rfl rfl)
theorem dX1_account_83 : decode cX1_account 83 = .ok (.ireturn, 1) := dk_172 (dk_at dksX1_account_2 7 rfl rfl)
theorem dX1_account_84 : decode cX1_account 84 = .ok (.aload_n 0, 1) := dk_42 (dk_at dksX1_account_2 8 rfl rfl)
theorem dX1_account_85 : decode cX1_account 85 = .ok (.getfield 19, 3) := dk_180 0 19 (dk_at dksX1_account_2 9 rfl rfl)
theorem dX1_account_88 : decode cX1_account 88 = .ok (.invokevirtual 65, 3) := dk_182 0 65 (dk_at dksX1_account_2 12 rfl rfl)
theorem dX1_account_91 : decode cX1_account 91 = .ok (.invokeinterface 69 1, 5) := by decide +kernel
theorem dX1_account_96 : decode cX1_account 96 = .ok (.ireturn, 1) := dk_172 (dk_at dksX1_account_2 20 rfl rfl)
theorem dX1_account_97 : decode cX1_account 97 = .ok (.aload_n 0, 1) := dk_42 (dk_at dksX1_account_2 21 rfl rfl)
theorem dX1_account_98 : decode cX1_account 98 = .ok (.getfield 19, 3) := dk_180 0 19 (dk_at dksX1_account_3 0 rfl rfl)
theorem dX1_account_101 : decode cX1_account 101 = .ok (.invokevirtual 79, 3) := dk_182 0 79 (dk_at dksX1_account_3 3 rfl rfl)
theorem dX1_account_104 : decode cX1_account 104 = .ok (.invokeinterface 69 1, 5) := by decide +kernel
theorem dX1_account_109 : decode cX1_account 109 = .ok (.ireturn, 1) := dk_172 (dk_at dksX1_account_3 11 rfl rfl)
theorem dX1_account_110 : decode cX1_account 110 = .ok (.aload_n 0, 1) := dk_42 (dk_at dksX1_account_3 12 rfl rfl)
theorem dX1_account_111 : decode cX1_account 111 = .ok (.getfield 19, 3) := dk_180 0 19 (dk_at dksX1_account_3 13 rfl rfl)
theorem dX1_account_114 : decode cX1_account 114 = .ok (.iload_n 1, 1) := dk_27 (dk_at dksX1_account_3 16 rfl rfl)
theorem dX1_account_115 : decode cX1_account 115 = .ok (.iconst 3, 1) := dk_6 (dk_at dksX1_account_3 17 rfl rfl)
theorem dX1_account_116 : decode cX1_account 116 = .ok (.isub, 1) := dk_100 (dk_at dksX1_account_3 18 rfl rfl)
theorem dX1_account_117 : decode cX1_account 117 = .ok (.invokevirtual 400, 3) := dk_182 1 144 (dk_at dksX1_account_3 19 rfl rfl)
theorem dX1_account_120 : decode cX1_account 120 = .ok (.ireturn, 1) := dk_172 (dk_at dksX1_account_3 22 rfl rfl)
theorem dX1_account_121 : decode cX1_account 121 = .ok (.aload_n 0, 1) := dk_42 (dk_at dksX1_account_3 23 rfl rfl)
theorem dX1_account_122 : decode cX1_account 122 = .ok (.getfield 19, 3) := dk_180 0 19 (dk_at dksX1_account_4 0 rfl rfl)
theorem dX1_account_125 : decode cX1_account 125 = .ok (.invokevirtual 402, 3) := dk_182 1 146 (dk_at dksX1_account_4 3 rfl rfl)
theorem dX1_account_128 : decode cX1_account 128 = .ok (.ireturn, 1) := dk_172 (dk_at dksX1_account_4 6 rfl rfl)
theorem dX1_account_129 : decode cX1_account 129 = .ok (.aload_n 0, 1) := dk_42 (dk_at dksX1_account_4 7 rfl rfl)
theorem dX1_account_130 : decode cX1_account 130 = .ok (.getfield 19, 3) := dk_180 0 19 (dk_at dksX1_account_4 8 rfl rfl)
theorem dX1_account_133 : decode cX1_account 133 = .ok (.invokevirtual 404, 3) := dk_182 1 148 (dk_at dksX1_account_4 11 rfl rfl)
theorem dX1_account_136 : decode cX1_account 136 = .ok (.ireturn, 1) := dk_172 (dk_at dksX1_account_4 14 rfl rfl)
theorem dX1_account_137 : decode cX1_account 137 = .ok (.aload_n 0, 1) := dk_42 (dk_at dksX1_account_4 15 rfl rfl)
theorem dX1_account_138 : decode cX1_account 138 = .ok (.getfield 19, 3) := dk_180 0 19 (dk_at dksX1_account_4 16 rfl rfl)
theorem dX1_account_141 : decode cX1_account 141 = .ok (.invokevirtual 280, 3) := dk_182 1 24 (dk_at dksX1_account_4 19 rfl rfl)
theorem dX1_account_144 : decode cX1_account 144 = .ok (.invokeinterface 69 1, 5) := by decide +kernel
theorem dX1_account_149 : decode cX1_account 149 = .ok (.ireturn, 1) := dk_172 (dk_at dksX1_account_5 5 rfl rfl)
theorem dX1_account_150 : decode cX1_account 150 = .ok (.aload_n 0, 1) := dk_42 (dk_at dksX1_account_5 6 rfl rfl)
theorem dX1_account_151 : decode cX1_account 151 = .ok (.getfield 19, 3) := dk_180 0 19 (dk_at dksX1_account_5 7 rfl rfl)
theorem dX1_account_154 : decode cX1_account 154 = .ok (.invokevirtual 407, 3) := dk_182 1 151 (dk_at dksX1_account_5 10 rfl rfl)
theorem dX1_account_157 : decode cX1_account 157 = .ok (.ireturn, 1) := dk_172 (dk_at dksX1_account_5 13 rfl rfl)
theorem dX1_account_158 : decode cX1_account 158 = .ok (.aload_n 0, 1) := dk_42 (dk_at dksX1_account_5 14 rfl rfl)
theorem dX1_account_159 : decode cX1_account 159 = .ok (.getfield 19, 3) := dk_180 0 19 (dk_at dksX1_account_5 15 rfl rfl)
theorem dX1_account_162 : decode cX1_account 162 = .ok (.invokevirtual 410, 3) := dk_182 1 154 (dk_at dksX1_account_5 18 rfl rfl)
theorem dX1_account_165 : decode cX1_account 165 = .ok (.ireturn, 1) := dk_172 (dk_at dksX1_account_5 21 rfl rfl)
theorem dX1_account_166 : decode cX1_account 166 = .ok (.aload_n 0, 1) := dk_42 (dk_at dksX1_account_5 22 rfl rfl)
theorem dX1_account_167 : decode cX1_account 167 = .ok (.getfield 19, 3) := dk_180 0 19 (dk_at dksX1_account_6 0 rfl rfl)
theorem dX1_account_170 : decode cX1_account 170 = .ok (.invokevirtual 413, 3) := dk_182 1 157 (dk_at dksX1_account_6 3 rfl rfl)
theorem dX1_account_173 : decode cX1_account 173 = .ok (.ireturn, 1) := dk_172 (dk_at dksX1_account_6 6 rfl rfl)
theorem dX1_account_174 : decode cX1_account 174 = .ok (.aload_n 0, 1) := dk_42 (dk_at dksX1_account_6 7 rfl rfl)
theorem dX1_account_175 : decode cX1_account 175 = .ok (.getfield 35, 3) := dk_180 0 35 (dk_at dksX1_account_6 8 rfl rfl)
theorem dX1_account_178 : decode cX1_account 178 = .ok (.invokevirtual 316, 3) := dk_182 1 60 (dk_at dksX1_account_6 11 rfl rfl)
theorem dX1_account_181 : decode cX1_account 181 = .ok (.ireturn, 1) := dk_172 (dk_at dksX1_account_6 14 rfl rfl)
theorem dX1_account_182 : decode cX1_account 182 = .ok (.aload_n 0, 1) := dk_42 (dk_at dksX1_account_6 15 rfl rfl)
theorem dX1_account_183 : decode cX1_account 183 = .ok (.getfield 28, 3) := dk_180 0 28 (dk_at dksX1_account_6 16 rfl rfl)
theorem dX1_account_186 : decode cX1_account 186 = .ok (.invokevirtual 86, 3) := dk_182 0 86 (dk_at dksX1_account_6 19 rfl rfl)
theorem dX1_account_189 : decode cX1_account 189 = .ok (.ireturn, 1) := dk_172 (dk_at dksX1_account_6 22 rfl rfl)
theorem dX1_account_190 : decode cX1_account 190 = .ok (.new 49, 3) := dk_187 0 49 (dk_at dksX1_account_7 0 rfl rfl)
theorem dX1_account_193 : decode cX1_account 193 = .ok (.dup, 1) := dk_89 (dk_at dksX1_account_7 3 rfl rfl)
theorem dX1_account_194 : decode cX1_account 194 = .ok (.invokespecial 51, 3) := dk_183 0 51 (dk_at dksX1_account_7 4 rfl rfl)
theorem dX1_account_197 : decode cX1_account 197 = .ok (.athrow, 1) := dk_191 (dk_at dksX1_account_7 7 rfl rfl)
abbrev cX1_meanWait : ByteArray := prog_1_method_45_code
def dkwX1_meanWait_5 : List UInt8 := [135, 111, 175]
abbrev dktX1_meanWait_5 : List UInt8 := dkwX1_meanWait_5 ++ []
def dkwX1_meanWait_4 : List UInt8 := [167, 0, 4, 3, 96, 61, 167, 255, 176, 28, 154, 0, 11, 187, 1, 161, 89, 183, 1, 163, 191, 27, 135, 28]
abbrev dktX1_meanWait_4 : List UInt8 := dkwX1_meanWait_4 ++ dktX1_meanWait_5
def dkwX1_meanWait_3 : List UInt8 := [182, 0, 215, 25, 4, 182, 0, 212, 100, 167, 0, 4, 3, 96, 60, 28, 21, 5, 153, 0, 7, 4]
abbrev dktX1_meanWait_3 : List UInt8 := dkwX1_meanWait_3 ++ dktX1_meanWait_4
def dkwX1_meanWait_2 : List UInt8 := [25, 4, 182, 1, 158, 153, 0, 7, 4, 167, 0, 4, 3, 54, 5, 27, 21, 5, 153, 0, 17, 25, 4]
abbrev dktX1_meanWait_2 : List UInt8 := dkwX1_meanWait_2 ++ dktX1_meanWait_3
def dkwX1_meanWait_1 : List UInt8 := [153, 0, 77, 45, 185, 1, 79, 1, 0, 192, 0, 194, 58, 4, 25, 4, 182, 0, 212, 2, 159, 0, 15]
abbrev dktX1_meanWait_1 : List UInt8 := dkwX1_meanWait_1 ++ dktX1_meanWait_2
def dkwX1_meanWait_0 : List UInt8 := [3, 60, 3, 61, 42, 180, 0, 19, 182, 0, 79, 185, 1, 70, 1, 0, 78, 45, 185, 1, 74, 1, 0]
abbrev dktX1_meanWait_0 : List UInt8 := dkwX1_meanWait_0 ++ dktX1_meanWait_1
theorem dksX1_meanWait_0 : cX1_meanWait.data.toList.drop 0 = dktX1_meanWait_0 := by decide +kernel
theorem dksX1_meanWait_1 : cX1_meanWait.data.toList.drop 23 = dktX1_meanWait_1 := dk_seg dksX1_meanWait_0 23 rfl rfl
theorem dksX1_meanWait_2 : cX1_meanWait.data.toList.drop 46 = dktX1_meanWait_2 := dk_seg dksX1_meanWait_1 23 rfl rfl
theorem dksX1_meanWait_3 : cX1_meanWait.data.toList.drop 69 = dktX1_meanWait_3 := dk_seg dksX1_meanWait_2 23 rfl rfl
theorem dksX1_meanWait_4 : cX1_meanWait.data.toList.drop 91 = dktX1_meanWait_4 := dk_seg dksX1_meanWait_3 22 rfl rfl
theorem dksX1_meanWait_5 : cX1_meanWait.data.toList.drop 115 = dktX1_meanWait_5 := dk_seg dksX1_meanWait_4 24 rfl rfl
theorem dX1_meanWait_0 : decode cX1_meanWait 0 = .ok (.iconst 0, 1) := dk_3 (dk_at dksX1_meanWait_0 0 rfl rfl)
theorem dX1_meanWait_1 : decode cX1_meanWait 1 = .ok (.istore_n 1, 1) := dk_60 (dk_at dksX1_meanWait_0 1 rfl rfl)
theorem dX1_meanWait_2 : decode cX1_meanWait 2 = .ok (.iconst 0, 1) := dk_3 (dk_at dksX1_meanWait_0 2 rfl rfl)
theorem dX1_meanWait_3 : decode cX1_meanWait 3 = .ok (.istore_n 2, 1) := dk_61 (dk_at dksX1_meanWait_0 3 rfl rfl)
theorem dX1_meanWait_4 : decode cX1_meanWait 4 = .ok (.aload_n 0, 1) := dk_42 (dk_at dksX1_meanWait_0 4 rfl rfl)
theorem dX1_meanWait_5 : decode cX1_meanWait 5 = .ok (.getfield 19, 3) := dk_180 0 19 (dk_at dksX1_meanWait_0 5 rfl rfl)
theorem dX1_meanWait_8 : decode cX1_meanWait 8 = .ok (.invokevirtual 79, 3) := dk_182 0 79 (dk_at dksX1_meanWait_0 8 rfl rfl)
theorem dX1_meanWait_11 : decode cX1_meanWait 11 = .ok (.invokeinterface 326 1, 5) := by decide +kernel
theorem dX1_meanWait_16 : decode cX1_meanWait 16 = .ok (.astore_n 3, 1) := dk_78 (dk_at dksX1_meanWait_0 16 rfl rfl)
theorem dX1_meanWait_17 : decode cX1_meanWait 17 = .ok (.aload_n 3, 1) := dk_45 (dk_at dksX1_meanWait_0 17 rfl rfl)
theorem dX1_meanWait_18 : decode cX1_meanWait 18 = .ok (.invokeinterface 330 1, 5) := by decide +kernel
theorem dX1_meanWait_23 : decode cX1_meanWait 23 = .ok (.ifCond .eq 77, 3) := dk_153 0 77 (dk_at dksX1_meanWait_1 0 rfl rfl)
theorem dX1_meanWait_26 : decode cX1_meanWait 26 = .ok (.aload_n 3, 1) := dk_45 (dk_at dksX1_meanWait_1 3 rfl rfl)
theorem dX1_meanWait_27 : decode cX1_meanWait 27 = .ok (.invokeinterface 335 1, 5) := by decide +kernel
theorem dX1_meanWait_32 : decode cX1_meanWait 32 = .ok (.checkcast 194, 3) := dk_192 0 194 (dk_at dksX1_meanWait_1 9 rfl rfl)
theorem dX1_meanWait_35 : decode cX1_meanWait 35 = .ok (.astore 4, 2) := dk_58 4 (dk_at dksX1_meanWait_1 12 rfl rfl)
theorem dX1_meanWait_37 : decode cX1_meanWait 37 = .ok (.aload 4, 2) := dk_25 4 (dk_at dksX1_meanWait_1 14 rfl rfl)
theorem dX1_meanWait_39 : decode cX1_meanWait 39 = .ok (.invokevirtual 212, 3) := dk_182 0 212 (dk_at dksX1_meanWait_1 16 rfl rfl)
theorem dX1_meanWait_42 : decode cX1_meanWait 42 = .ok (.iconst (-1), 1) := dk_2 (dk_at dksX1_meanWait_1 19 rfl rfl)
theorem dX1_meanWait_43 : decode cX1_meanWait 43 = .ok (.if_icmp .eq 15, 3) := dk_159 0 15 (dk_at dksX1_meanWait_1 20 rfl rfl)
theorem dX1_meanWait_46 : decode cX1_meanWait 46 = .ok (.aload 4, 2) := dk_25 4 (dk_at dksX1_meanWait_2 0 rfl rfl)
theorem dX1_meanWait_48 : decode cX1_meanWait 48 = .ok (.invokevirtual 414, 3) := dk_182 1 158 (dk_at dksX1_meanWait_2 2 rfl rfl)
theorem dX1_meanWait_51 : decode cX1_meanWait 51 = .ok (.ifCond .eq 7, 3) := dk_153 0 7 (dk_at dksX1_meanWait_2 5 rfl rfl)
theorem dX1_meanWait_54 : decode cX1_meanWait 54 = .ok (.iconst 1, 1) := dk_4 (dk_at dksX1_meanWait_2 8 rfl rfl)
theorem dX1_meanWait_55 : decode cX1_meanWait 55 = .ok (.goto 4, 3) := dk_167 0 4 (dk_at dksX1_meanWait_2 9 rfl rfl)
theorem dX1_meanWait_58 : decode cX1_meanWait 58 = .ok (.iconst 0, 1) := dk_3 (dk_at dksX1_meanWait_2 12 rfl rfl)
theorem dX1_meanWait_59 : decode cX1_meanWait 59 = .ok (.istore 5, 2) := dk_54 5 (dk_at dksX1_meanWait_2 13 rfl rfl)
theorem dX1_meanWait_61 : decode cX1_meanWait 61 = .ok (.iload_n 1, 1) := dk_27 (dk_at dksX1_meanWait_2 15 rfl rfl)
theorem dX1_meanWait_62 : decode cX1_meanWait 62 = .ok (.iload 5, 2) := dk_21 5 (dk_at dksX1_meanWait_2 16 rfl rfl)
theorem dX1_meanWait_64 : decode cX1_meanWait 64 = .ok (.ifCond .eq 17, 3) := dk_153 0 17 (dk_at dksX1_meanWait_2 18 rfl rfl)
theorem dX1_meanWait_67 : decode cX1_meanWait 67 = .ok (.aload 4, 2) := dk_25 4 (dk_at dksX1_meanWait_2 21 rfl rfl)
theorem dX1_meanWait_69 : decode cX1_meanWait 69 = .ok (.invokevirtual 215, 3) := dk_182 0 215 (dk_at dksX1_meanWait_3 0 rfl rfl)
theorem dX1_meanWait_72 : decode cX1_meanWait 72 = .ok (.aload 4, 2) := dk_25 4 (dk_at dksX1_meanWait_3 3 rfl rfl)
theorem dX1_meanWait_74 : decode cX1_meanWait 74 = .ok (.invokevirtual 212, 3) := dk_182 0 212 (dk_at dksX1_meanWait_3 5 rfl rfl)
theorem dX1_meanWait_77 : decode cX1_meanWait 77 = .ok (.isub, 1) := dk_100 (dk_at dksX1_meanWait_3 8 rfl rfl)
theorem dX1_meanWait_78 : decode cX1_meanWait 78 = .ok (.goto 4, 3) := dk_167 0 4 (dk_at dksX1_meanWait_3 9 rfl rfl)
theorem dX1_meanWait_81 : decode cX1_meanWait 81 = .ok (.iconst 0, 1) := dk_3 (dk_at dksX1_meanWait_3 12 rfl rfl)
theorem dX1_meanWait_82 : decode cX1_meanWait 82 = .ok (.iadd, 1) := dk_96 (dk_at dksX1_meanWait_3 13 rfl rfl)
theorem dX1_meanWait_83 : decode cX1_meanWait 83 = .ok (.istore_n 1, 1) := dk_60 (dk_at dksX1_meanWait_3 14 rfl rfl)
theorem dX1_meanWait_84 : decode cX1_meanWait 84 = .ok (.iload_n 2, 1) := dk_28 (dk_at dksX1_meanWait_3 15 rfl rfl)
theorem dX1_meanWait_85 : decode cX1_meanWait 85 = .ok (.iload 5, 2) := dk_21 5 (dk_at dksX1_meanWait_3 16 rfl rfl)
theorem dX1_meanWait_87 : decode cX1_meanWait 87 = .ok (.ifCond .eq 7, 3) := dk_153 0 7 (dk_at dksX1_meanWait_3 18 rfl rfl)
theorem dX1_meanWait_90 : decode cX1_meanWait 90 = .ok (.iconst 1, 1) := dk_4 (dk_at dksX1_meanWait_3 21 rfl rfl)
theorem dX1_meanWait_91 : decode cX1_meanWait 91 = .ok (.goto 4, 3) := dk_167 0 4 (dk_at dksX1_meanWait_4 0 rfl rfl)
theorem dX1_meanWait_94 : decode cX1_meanWait 94 = .ok (.iconst 0, 1) := dk_3 (dk_at dksX1_meanWait_4 3 rfl rfl)
theorem dX1_meanWait_95 : decode cX1_meanWait 95 = .ok (.iadd, 1) := dk_96 (dk_at dksX1_meanWait_4 4 rfl rfl)
theorem dX1_meanWait_96 : decode cX1_meanWait 96 = .ok (.istore_n 2, 1) := dk_61 (dk_at dksX1_meanWait_4 5 rfl rfl)
theorem dX1_meanWait_97 : decode cX1_meanWait 97 = .ok (.goto (-80), 3) := dk_167 255 176 (dk_at dksX1_meanWait_4 6 rfl rfl)
theorem dX1_meanWait_100 : decode cX1_meanWait 100 = .ok (.iload_n 2, 1) := dk_28 (dk_at dksX1_meanWait_4 9 rfl rfl)
theorem dX1_meanWait_101 : decode cX1_meanWait 101 = .ok (.ifCond .ne 11, 3) := dk_154 0 11 (dk_at dksX1_meanWait_4 10 rfl rfl)
theorem dX1_meanWait_104 : decode cX1_meanWait 104 = .ok (.new 417, 3) := dk_187 1 161 (dk_at dksX1_meanWait_4 13 rfl rfl)
theorem dX1_meanWait_107 : decode cX1_meanWait 107 = .ok (.dup, 1) := dk_89 (dk_at dksX1_meanWait_4 16 rfl rfl)
theorem dX1_meanWait_108 : decode cX1_meanWait 108 = .ok (.invokespecial 419, 3) := dk_183 1 163 (dk_at dksX1_meanWait_4 17 rfl rfl)
theorem dX1_meanWait_111 : decode cX1_meanWait 111 = .ok (.athrow, 1) := dk_191 (dk_at dksX1_meanWait_4 20 rfl rfl)
theorem dX1_meanWait_112 : decode cX1_meanWait 112 = .ok (.iload_n 1, 1) := dk_27 (dk_at dksX1_meanWait_4 21 rfl rfl)
theorem dX1_meanWait_113 : decode cX1_meanWait 113 = .ok (.i2d, 1) := dk_135 (dk_at dksX1_meanWait_4 22 rfl rfl)
theorem dX1_meanWait_114 : decode cX1_meanWait 114 = .ok (.iload_n 2, 1) := dk_28 (dk_at dksX1_meanWait_4 23 rfl rfl)
theorem dX1_meanWait_115 : decode cX1_meanWait 115 = .ok (.i2d, 1) := dk_135 (dk_at dksX1_meanWait_5 0 rfl rfl)
theorem dX1_meanWait_116 : decode cX1_meanWait 116 = .ok (.ddiv, 1) := dk_111 (dk_at dksX1_meanWait_5 1 rfl rfl)
theorem dX1_meanWait_117 : decode cX1_meanWait 117 = .ok (.dreturn, 1) := dk_175 (dk_at dksX1_meanWait_5 2 rfl rfl)
abbrev cX1_servedShare : ByteArray := prog_1_method_46_code
def dkwX1_servedShare_1 : List UInt8 := [182, 1, 144, 134, 42, 180, 0, 19, 182, 1, 164, 134, 110, 174]
abbrev dktX1_servedShare_1 : List UInt8 := dkwX1_servedShare_1 ++ []
def dkwX1_servedShare_0 : List UInt8 := [42, 180, 0, 19, 182, 1, 164, 154, 0, 11, 187, 1, 161, 89, 183, 1, 163, 191, 42, 180, 0, 19, 5]
abbrev dktX1_servedShare_0 : List UInt8 := dkwX1_servedShare_0 ++ dktX1_servedShare_1
theorem dksX1_servedShare_0 : cX1_servedShare.data.toList.drop 0 = dktX1_servedShare_0 := by decide +kernel
theorem dksX1_servedShare_1 : cX1_servedShare.data.toList.drop 23 = dktX1_servedShare_1 := dk_seg dksX1_servedShare_0 23 rfl rfl
theorem dX1_servedShare_0 : decode cX1_servedShare 0 = .ok (.aload_n 0, 1) := dk_42 (dk_at dksX1_servedShare_0 0 rfl rfl)
theorem dX1_servedShare_1 : decode cX1_servedShare 1 = .ok (.getfield 19, 3) := dk_180 0 19 (dk_at dksX1_servedShare_0 1 rfl rfl)
theorem dX1_servedShare_4 : decode cX1_servedShare 4 = .ok (.invokevirtual 420, 3) := dk_182 1 164 (dk_at dksX1_servedShare_0 4 rfl rfl)
theorem dX1_servedShare_7 : decode cX1_servedShare 7 = .ok (.ifCond .ne 11, 3) := dk_154 0 11 (dk_at dksX1_servedShare_0 7 rfl rfl)
theorem dX1_servedShare_10 : decode cX1_servedShare 10 = .ok (.new 417, 3) := dk_187 1 161 (dk_at dksX1_servedShare_0 10 rfl rfl)
theorem dX1_servedShare_13 : decode cX1_servedShare 13 = .ok (.dup, 1) := dk_89 (dk_at dksX1_servedShare_0 13 rfl rfl)
theorem dX1_servedShare_14 : decode cX1_servedShare 14 = .ok (.invokespecial 419, 3) := dk_183 1 163 (dk_at dksX1_servedShare_0 14 rfl rfl)
theorem dX1_servedShare_17 : decode cX1_servedShare 17 = .ok (.athrow, 1) := dk_191 (dk_at dksX1_servedShare_0 17 rfl rfl)
theorem dX1_servedShare_18 : decode cX1_servedShare 18 = .ok (.aload_n 0, 1) := dk_42 (dk_at dksX1_servedShare_0 18 rfl rfl)
theorem dX1_servedShare_19 : decode cX1_servedShare 19 = .ok (.getfield 19, 3) := dk_180 0 19 (dk_at dksX1_servedShare_0 19 rfl rfl)
theorem dX1_servedShare_22 : decode cX1_servedShare 22 = .ok (.iconst 2, 1) := dk_5 (dk_at dksX1_servedShare_0 22 rfl rfl)
theorem dX1_servedShare_23 : decode cX1_servedShare 23 = .ok (.invokevirtual 400, 3) := dk_182 1 144 (dk_at dksX1_servedShare_1 0 rfl rfl)
theorem dX1_servedShare_26 : decode cX1_servedShare 26 = .ok (.i2f, 1) := dk_134 (dk_at dksX1_servedShare_1 3 rfl rfl)
theorem dX1_servedShare_27 : decode cX1_servedShare 27 = .ok (.aload_n 0, 1) := dk_42 (dk_at dksX1_servedShare_1 4 rfl rfl)
theorem dX1_servedShare_28 : decode cX1_servedShare 28 = .ok (.getfield 19, 3) := dk_180 0 19 (dk_at dksX1_servedShare_1 5 rfl rfl)
theorem dX1_servedShare_31 : decode cX1_servedShare 31 = .ok (.invokevirtual 420, 3) := dk_182 1 164 (dk_at dksX1_servedShare_1 8 rfl rfl)
theorem dX1_servedShare_34 : decode cX1_servedShare 34 = .ok (.i2f, 1) := dk_134 (dk_at dksX1_servedShare_1 11 rfl rfl)
theorem dX1_servedShare_35 : decode cX1_servedShare 35 = .ok (.fdiv, 1) := dk_110 (dk_at dksX1_servedShare_1 12 rfl rfl)
theorem dX1_servedShare_36 : decode cX1_servedShare 36 = .ok (.freturn, 1) := dk_174 (dk_at dksX1_servedShare_1 13 rfl rfl)
abbrev cX1_undo : ByteArray := prog_1_method_47_code
def dkwX1_undo_1 : List UInt8 := [182, 1, 168, 192, 0, 16, 181, 0, 19, 42, 180, 0, 28, 182, 0, 86, 172]
abbrev dktX1_undo_1 : List UInt8 := dkwX1_undo_1 ++ []
def dkwX1_undo_0 : List UInt8 := [42, 180, 0, 28, 182, 1, 165, 154, 0, 7, 4, 167, 0, 4, 3, 184, 1, 63, 42, 42, 180, 0, 28]
abbrev dktX1_undo_0 : List UInt8 := dkwX1_undo_0 ++ dktX1_undo_1
theorem dksX1_undo_0 : cX1_undo.data.toList.drop 0 = dktX1_undo_0 := by decide +kernel
theorem dksX1_undo_1 : cX1_undo.data.toList.drop 23 = dktX1_undo_1 := dk_seg dksX1_undo_0 23 rfl rfl
theorem dX1_undo_0 : decode cX1_undo 0 = .ok (.aload_n 0, 1) := dk_42 (dk_at dksX1_undo_0 0 rfl rfl)
theorem dX1_undo_1 : decode cX1_undo 1 = .ok (.getfield 28, 3) := dk_180 0 28 (dk_at dksX1_undo_0 1 rfl rfl)
theorem dX1_undo_4 : decode cX1_undo 4 = .ok (.invokevirtual 421, 3) := dk_182 1 165 (dk_at dksX1_undo_0 4 rfl rfl)
theorem dX1_undo_7 : decode cX1_undo 7 = .ok (.ifCond .ne 7, 3) := dk_154 0 7 (dk_at dksX1_undo_0 7 rfl rfl)
theorem dX1_undo_10 : decode cX1_undo 10 = .ok (.iconst 1, 1) := dk_4 (dk_at dksX1_undo_0 10 rfl rfl)
theorem dX1_undo_11 : decode cX1_undo 11 = .ok (.goto 4, 3) := dk_167 0 4 (dk_at dksX1_undo_0 11 rfl rfl)
theorem dX1_undo_14 : decode cX1_undo 14 = .ok (.iconst 0, 1) := dk_3 (dk_at dksX1_undo_0 14 rfl rfl)
theorem dX1_undo_15 : decode cX1_undo 15 = .ok (.invokestatic 319, 3) := dk_184 1 63 (dk_at dksX1_undo_0 15 rfl rfl)
theorem dX1_undo_18 : decode cX1_undo 18 = .ok (.aload_n 0, 1) := dk_42 (dk_at dksX1_undo_0 18 rfl rfl)
theorem dX1_undo_19 : decode cX1_undo 19 = .ok (.aload_n 0, 1) := dk_42 (dk_at dksX1_undo_0 19 rfl rfl)
theorem dX1_undo_20 : decode cX1_undo 20 = .ok (.getfield 28, 3) := dk_180 0 28 (dk_at dksX1_undo_0 20 rfl rfl)
theorem dX1_undo_23 : decode cX1_undo 23 = .ok (.invokevirtual 424, 3) := dk_182 1 168 (dk_at dksX1_undo_1 0 rfl rfl)
theorem dX1_undo_26 : decode cX1_undo 26 = .ok (.checkcast 16, 3) := dk_192 0 16 (dk_at dksX1_undo_1 3 rfl rfl)
theorem dX1_undo_29 : decode cX1_undo 29 = .ok (.putfield 19, 3) := dk_181 0 19 (dk_at dksX1_undo_1 6 rfl rfl)
theorem dX1_undo_32 : decode cX1_undo 32 = .ok (.aload_n 0, 1) := dk_42 (dk_at dksX1_undo_1 9 rfl rfl)
theorem dX1_undo_33 : decode cX1_undo 33 = .ok (.getfield 28, 3) := dk_180 0 28 (dk_at dksX1_undo_1 10 rfl rfl)
theorem dX1_undo_36 : decode cX1_undo 36 = .ok (.invokevirtual 86, 3) := dk_182 0 86 (dk_at dksX1_undo_1 13 rfl rfl)
theorem dX1_undo_39 : decode cX1_undo 39 = .ok (.ireturn, 1) := dk_172 (dk_at dksX1_undo_1 16 rfl rfl)
abbrev cX1_restore : ByteArray := prog_1_method_49_code
def dkwX1_restore_1 : List UInt8 := [180, 0, 28, 182, 1, 174, 42, 180, 0, 19, 182, 1, 141, 172]
abbrev dktX1_restore_1 : List UInt8 := dkwX1_restore_1 ++ []
def dkwX1_restore_0 : List UInt8 := [42, 180, 1, 171, 198, 0, 7, 4, 167, 0, 4, 3, 184, 1, 63, 42, 42, 180, 1, 171, 181, 0, 19, 42]
abbrev dktX1_restore_0 : List UInt8 := dkwX1_restore_0 ++ dktX1_restore_1
theorem dksX1_restore_0 : cX1_restore.data.toList.drop 0 = dktX1_restore_0 := by decide +kernel
theorem dksX1_restore_1 : cX1_restore.data.toList.drop 24 = dktX1_restore_1 := dk_seg dksX1_restore_0 24 rfl rfl
theorem dX1_restore_0 : decode cX1_restore 0 = .ok (.aload_n 0, 1) := dk_42 (dk_at dksX1_restore_0 0 rfl rfl)
theorem dX1_restore_1 : decode cX1_restore 1 = .ok (.getfield 427, 3) := dk_180 1 171 (dk_at dksX1_restore_0 1 rfl rfl)
theorem dX1_restore_4 : decode cX1_restore 4 = .ok (.ifnull 7, 3) := dk_198 0 7 (dk_at dksX1_restore_0 4 rfl rfl)
theorem dX1_restore_7 : decode cX1_restore 7 = .ok (.iconst 1, 1) := dk_4 (dk_at dksX1_restore_0 7 rfl rfl)
theorem dX1_restore_8 : decode cX1_restore 8 = .ok (.goto 4, 3) := dk_167 0 4 (dk_at dksX1_restore_0 8 rfl rfl)
theorem dX1_restore_11 : decode cX1_restore 11 = .ok (.iconst 0, 1) := dk_3 (dk_at dksX1_restore_0 11 rfl rfl)
theorem dX1_restore_12 : decode cX1_restore 12 = .ok (.invokestatic 319, 3) := dk_184 1 63 (dk_at dksX1_restore_0 12 rfl rfl)
theorem dX1_restore_15 : decode cX1_restore 15 = .ok (.aload_n 0, 1) := dk_42 (dk_at dksX1_restore_0 15 rfl rfl)
theorem dX1_restore_16 : decode cX1_restore 16 = .ok (.aload_n 0, 1) := dk_42 (dk_at dksX1_restore_0 16 rfl rfl)
theorem dX1_restore_17 : decode cX1_restore 17 = .ok (.getfield 427, 3) := dk_180 1 171 (dk_at dksX1_restore_0 17 rfl rfl)
theorem dX1_restore_20 : decode cX1_restore 20 = .ok (.putfield 19, 3) := dk_181 0 19 (dk_at dksX1_restore_0 20 rfl rfl)
theorem dX1_restore_23 : decode cX1_restore 23 = .ok (.aload_n 0, 1) := dk_42 (dk_at dksX1_restore_0 23 rfl rfl)
theorem dX1_restore_24 : decode cX1_restore 24 = .ok (.getfield 28, 3) := dk_180 0 28 (dk_at dksX1_restore_1 0 rfl rfl)
theorem dX1_restore_27 : decode cX1_restore 27 = .ok (.invokevirtual 430, 3) := dk_182 1 174 (dk_at dksX1_restore_1 3 rfl rfl)
theorem dX1_restore_30 : decode cX1_restore 30 = .ok (.aload_n 0, 1) := dk_42 (dk_at dksX1_restore_1 6 rfl rfl)
theorem dX1_restore_31 : decode cX1_restore 31 = .ok (.getfield 19, 3) := dk_180 0 19 (dk_at dksX1_restore_1 7 rfl rfl)
theorem dX1_restore_34 : decode cX1_restore 34 = .ok (.invokevirtual 397, 3) := dk_182 1 141 (dk_at dksX1_restore_1 10 rfl rfl)
theorem dX1_restore_37 : decode cX1_restore 37 = .ok (.ireturn, 1) := dk_172 (dk_at dksX1_restore_1 13 rfl rfl)
abbrev cX18_position : ByteArray := prog_21_method_2_code
theorem dX18_position_0 : decode cX18_position 0 = .ok (.aload_n 0, 1) := by decide +kernel
theorem dX18_position_1 : decode cX18_position 1 = .ok (.getfield 7, 3) := by decide +kernel
theorem dX18_position_4 : decode cX18_position 4 = .ok (.ireturn, 1) := by decide +kernel
abbrev cX2_isSafe : ByteArray := prog_14_method_49_code
def dkwX2_isSafe_1 : List UInt8 := [185, 0, 48, 1, 0, 192, 0, 62, 77, 44, 182, 1, 124, 154, 0, 5, 3, 172, 167, 255, 228, 4, 172]
abbrev dktX2_isSafe_1 : List UInt8 := dkwX2_isSafe_1 ++ []
def dkwX2_isSafe_0 : List UInt8 := [42, 180, 0, 18, 185, 0, 36, 1, 0, 76, 43, 185, 0, 42, 1, 0, 153, 0, 25, 43]
abbrev dktX2_isSafe_0 : List UInt8 := dkwX2_isSafe_0 ++ dktX2_isSafe_1
theorem dksX2_isSafe_0 : cX2_isSafe.data.toList.drop 0 = dktX2_isSafe_0 := by decide +kernel
theorem dksX2_isSafe_1 : cX2_isSafe.data.toList.drop 20 = dktX2_isSafe_1 := dk_seg dksX2_isSafe_0 20 rfl rfl
theorem dX2_isSafe_0 : decode cX2_isSafe 0 = .ok (.aload_n 0, 1) := dk_42 (dk_at dksX2_isSafe_0 0 rfl rfl)
theorem dX2_isSafe_1 : decode cX2_isSafe 1 = .ok (.getfield 18, 3) := dk_180 0 18 (dk_at dksX2_isSafe_0 1 rfl rfl)
theorem dX2_isSafe_4 : decode cX2_isSafe 4 = .ok (.invokeinterface 36 1, 5) := by decide +kernel
theorem dX2_isSafe_9 : decode cX2_isSafe 9 = .ok (.astore_n 1, 1) := dk_76 (dk_at dksX2_isSafe_0 9 rfl rfl)
theorem dX2_isSafe_10 : decode cX2_isSafe 10 = .ok (.aload_n 1, 1) := dk_43 (dk_at dksX2_isSafe_0 10 rfl rfl)
theorem dX2_isSafe_11 : decode cX2_isSafe 11 = .ok (.invokeinterface 42 1, 5) := by decide +kernel
theorem dX2_isSafe_16 : decode cX2_isSafe 16 = .ok (.ifCond .eq 25, 3) := dk_153 0 25 (dk_at dksX2_isSafe_0 16 rfl rfl)
theorem dX2_isSafe_19 : decode cX2_isSafe 19 = .ok (.aload_n 1, 1) := dk_43 (dk_at dksX2_isSafe_0 19 rfl rfl)
theorem dX2_isSafe_20 : decode cX2_isSafe 20 = .ok (.invokeinterface 48 1, 5) := by decide +kernel
theorem dX2_isSafe_25 : decode cX2_isSafe 25 = .ok (.checkcast 62, 3) := dk_192 0 62 (dk_at dksX2_isSafe_1 5 rfl rfl)
theorem dX2_isSafe_28 : decode cX2_isSafe 28 = .ok (.astore_n 2, 1) := dk_77 (dk_at dksX2_isSafe_1 8 rfl rfl)
theorem dX2_isSafe_29 : decode cX2_isSafe 29 = .ok (.aload_n 2, 1) := dk_44 (dk_at dksX2_isSafe_1 9 rfl rfl)
theorem dX2_isSafe_30 : decode cX2_isSafe 30 = .ok (.invokevirtual 380, 3) := dk_182 1 124 (dk_at dksX2_isSafe_1 10 rfl rfl)
theorem dX2_isSafe_33 : decode cX2_isSafe 33 = .ok (.ifCond .ne 5, 3) := dk_154 0 5 (dk_at dksX2_isSafe_1 13 rfl rfl)
theorem dX2_isSafe_36 : decode cX2_isSafe 36 = .ok (.iconst 0, 1) := dk_3 (dk_at dksX2_isSafe_1 16 rfl rfl)
theorem dX2_isSafe_37 : decode cX2_isSafe 37 = .ok (.ireturn, 1) := dk_172 (dk_at dksX2_isSafe_1 17 rfl rfl)
theorem dX2_isSafe_38 : decode cX2_isSafe 38 = .ok (.goto (-28), 3) := dk_167 255 228 (dk_at dksX2_isSafe_1 18 rfl rfl)
theorem dX2_isSafe_41 : decode cX2_isSafe 41 = .ok (.iconst 1, 1) := dk_4 (dk_at dksX2_isSafe_1 21 rfl rfl)
theorem dX2_isSafe_42 : decode cX2_isSafe 42 = .ok (.ireturn, 1) := dk_172 (dk_at dksX2_isSafe_1 22 rfl rfl)
abbrev cX2_minute : ByteArray := prog_14_method_8_code
theorem dX2_minute_0 : decode cX2_minute 0 = .ok (.aload_n 0, 1) := by decide +kernel
theorem dX2_minute_1 : decode cX2_minute 1 = .ok (.getfield 75, 3) := by decide +kernel
theorem dX2_minute_4 : decode cX2_minute 4 = .ok (.ireturn, 1) := by decide +kernel
abbrev cX2_dishes : ByteArray := prog_14_method_45_code
def dkwX2_dishes_1 : List UInt8 := [185, 0, 48, 1, 0, 192, 0, 62, 78, 27, 45, 182, 0, 135, 182, 0, 153, 96, 60, 167, 255, 227, 27, 172]
abbrev dktX2_dishes_1 : List UInt8 := dkwX2_dishes_1 ++ []
def dkwX2_dishes_0 : List UInt8 := [3, 60, 42, 180, 0, 18, 185, 0, 36, 1, 0, 77, 44, 185, 0, 42, 1, 0, 153, 0, 26, 44]
abbrev dktX2_dishes_0 : List UInt8 := dkwX2_dishes_0 ++ dktX2_dishes_1
theorem dksX2_dishes_0 : cX2_dishes.data.toList.drop 0 = dktX2_dishes_0 := by decide +kernel
theorem dksX2_dishes_1 : cX2_dishes.data.toList.drop 22 = dktX2_dishes_1 := dk_seg dksX2_dishes_0 22 rfl rfl
theorem dX2_dishes_0 : decode cX2_dishes 0 = .ok (.iconst 0, 1) := dk_3 (dk_at dksX2_dishes_0 0 rfl rfl)
theorem dX2_dishes_1 : decode cX2_dishes 1 = .ok (.istore_n 1, 1) := dk_60 (dk_at dksX2_dishes_0 1 rfl rfl)
theorem dX2_dishes_2 : decode cX2_dishes 2 = .ok (.aload_n 0, 1) := dk_42 (dk_at dksX2_dishes_0 2 rfl rfl)
theorem dX2_dishes_3 : decode cX2_dishes 3 = .ok (.getfield 18, 3) := dk_180 0 18 (dk_at dksX2_dishes_0 3 rfl rfl)
theorem dX2_dishes_6 : decode cX2_dishes 6 = .ok (.invokeinterface 36 1, 5) := by decide +kernel
theorem dX2_dishes_11 : decode cX2_dishes 11 = .ok (.astore_n 2, 1) := dk_77 (dk_at dksX2_dishes_0 11 rfl rfl)
theorem dX2_dishes_12 : decode cX2_dishes 12 = .ok (.aload_n 2, 1) := dk_44 (dk_at dksX2_dishes_0 12 rfl rfl)
theorem dX2_dishes_13 : decode cX2_dishes 13 = .ok (.invokeinterface 42 1, 5) := by decide +kernel
theorem dX2_dishes_18 : decode cX2_dishes 18 = .ok (.ifCond .eq 26, 3) := dk_153 0 26 (dk_at dksX2_dishes_0 18 rfl rfl)
theorem dX2_dishes_21 : decode cX2_dishes 21 = .ok (.aload_n 2, 1) := dk_44 (dk_at dksX2_dishes_0 21 rfl rfl)
theorem dX2_dishes_22 : decode cX2_dishes 22 = .ok (.invokeinterface 48 1, 5) := by decide +kernel
theorem dX2_dishes_27 : decode cX2_dishes 27 = .ok (.checkcast 62, 3) := dk_192 0 62 (dk_at dksX2_dishes_1 5 rfl rfl)
theorem dX2_dishes_30 : decode cX2_dishes 30 = .ok (.astore_n 3, 1) := dk_78 (dk_at dksX2_dishes_1 8 rfl rfl)
theorem dX2_dishes_31 : decode cX2_dishes 31 = .ok (.iload_n 1, 1) := dk_27 (dk_at dksX2_dishes_1 9 rfl rfl)
theorem dX2_dishes_32 : decode cX2_dishes 32 = .ok (.aload_n 3, 1) := dk_45 (dk_at dksX2_dishes_1 10 rfl rfl)
theorem dX2_dishes_33 : decode cX2_dishes 33 = .ok (.invokevirtual 135, 3) := dk_182 0 135 (dk_at dksX2_dishes_1 11 rfl rfl)
theorem dX2_dishes_36 : decode cX2_dishes 36 = .ok (.invokevirtual 153, 3) := dk_182 0 153 (dk_at dksX2_dishes_1 14 rfl rfl)
theorem dX2_dishes_39 : decode cX2_dishes 39 = .ok (.iadd, 1) := dk_96 (dk_at dksX2_dishes_1 17 rfl rfl)
theorem dX2_dishes_40 : decode cX2_dishes 40 = .ok (.istore_n 1, 1) := dk_60 (dk_at dksX2_dishes_1 18 rfl rfl)
theorem dX2_dishes_41 : decode cX2_dishes 41 = .ok (.goto (-29), 3) := dk_167 255 227 (dk_at dksX2_dishes_1 19 rfl rfl)
theorem dX2_dishes_44 : decode cX2_dishes 44 = .ok (.iload_n 1, 1) := dk_27 (dk_at dksX2_dishes_1 22 rfl rfl)
theorem dX2_dishes_45 : decode cX2_dishes 45 = .ok (.ireturn, 1) := dk_172 (dk_at dksX2_dishes_1 23 rfl rfl)
abbrev cX2_ready : ByteArray := prog_14_method_46_code
def dkwX2_ready_1 : List UInt8 := [185, 0, 48, 1, 0, 192, 0, 62, 78, 27, 45, 178, 1, 7, 182, 1, 115, 96, 60, 167, 255, 227, 27, 172]
abbrev dktX2_ready_1 : List UInt8 := dkwX2_ready_1 ++ []
def dkwX2_ready_0 : List UInt8 := [3, 60, 42, 180, 0, 18, 185, 0, 36, 1, 0, 77, 44, 185, 0, 42, 1, 0, 153, 0, 26, 44]
abbrev dktX2_ready_0 : List UInt8 := dkwX2_ready_0 ++ dktX2_ready_1
theorem dksX2_ready_0 : cX2_ready.data.toList.drop 0 = dktX2_ready_0 := by decide +kernel
theorem dksX2_ready_1 : cX2_ready.data.toList.drop 22 = dktX2_ready_1 := dk_seg dksX2_ready_0 22 rfl rfl
theorem dX2_ready_0 : decode cX2_ready 0 = .ok (.iconst 0, 1) := dk_3 (dk_at dksX2_ready_0 0 rfl rfl)
theorem dX2_ready_1 : decode cX2_ready 1 = .ok (.istore_n 1, 1) := dk_60 (dk_at dksX2_ready_0 1 rfl rfl)
theorem dX2_ready_2 : decode cX2_ready 2 = .ok (.aload_n 0, 1) := dk_42 (dk_at dksX2_ready_0 2 rfl rfl)
theorem dX2_ready_3 : decode cX2_ready 3 = .ok (.getfield 18, 3) := dk_180 0 18 (dk_at dksX2_ready_0 3 rfl rfl)
theorem dX2_ready_6 : decode cX2_ready 6 = .ok (.invokeinterface 36 1, 5) := by decide +kernel
theorem dX2_ready_11 : decode cX2_ready 11 = .ok (.astore_n 2, 1) := dk_77 (dk_at dksX2_ready_0 11 rfl rfl)
theorem dX2_ready_12 : decode cX2_ready 12 = .ok (.aload_n 2, 1) := dk_44 (dk_at dksX2_ready_0 12 rfl rfl)
theorem dX2_ready_13 : decode cX2_ready 13 = .ok (.invokeinterface 42 1, 5) := by decide +kernel
theorem dX2_ready_18 : decode cX2_ready 18 = .ok (.ifCond .eq 26, 3) := dk_153 0 26 (dk_at dksX2_ready_0 18 rfl rfl)
theorem dX2_ready_21 : decode cX2_ready 21 = .ok (.aload_n 2, 1) := dk_44 (dk_at dksX2_ready_0 21 rfl rfl)
theorem dX2_ready_22 : decode cX2_ready 22 = .ok (.invokeinterface 48 1, 5) := by decide +kernel
theorem dX2_ready_27 : decode cX2_ready 27 = .ok (.checkcast 62, 3) := dk_192 0 62 (dk_at dksX2_ready_1 5 rfl rfl)
theorem dX2_ready_30 : decode cX2_ready 30 = .ok (.astore_n 3, 1) := dk_78 (dk_at dksX2_ready_1 8 rfl rfl)
theorem dX2_ready_31 : decode cX2_ready 31 = .ok (.iload_n 1, 1) := dk_27 (dk_at dksX2_ready_1 9 rfl rfl)
theorem dX2_ready_32 : decode cX2_ready 32 = .ok (.aload_n 3, 1) := dk_45 (dk_at dksX2_ready_1 10 rfl rfl)
theorem dX2_ready_33 : decode cX2_ready 33 = .ok (.getstatic 263, 3) := dk_178 1 7 (dk_at dksX2_ready_1 11 rfl rfl)
theorem dX2_ready_36 : decode cX2_ready 36 = .ok (.invokevirtual 371, 3) := dk_182 1 115 (dk_at dksX2_ready_1 14 rfl rfl)
theorem dX2_ready_39 : decode cX2_ready 39 = .ok (.iadd, 1) := dk_96 (dk_at dksX2_ready_1 17 rfl rfl)
theorem dX2_ready_40 : decode cX2_ready 40 = .ok (.istore_n 1, 1) := dk_60 (dk_at dksX2_ready_1 18 rfl rfl)
theorem dX2_ready_41 : decode cX2_ready 41 = .ok (.goto (-29), 3) := dk_167 255 227 (dk_at dksX2_ready_1 19 rfl rfl)
theorem dX2_ready_44 : decode cX2_ready 44 = .ok (.iload_n 1, 1) := dk_27 (dk_at dksX2_ready_1 22 rfl rfl)
theorem dX2_ready_45 : decode cX2_ready 45 = .ok (.ireturn, 1) := dk_172 (dk_at dksX2_ready_1 23 rfl rfl)
abbrev cX2_lost : ByteArray := prog_14_method_9_code
theorem dX2_lost_0 : decode cX2_lost 0 = .ok (.aload_n 0, 1) := by decide +kernel
theorem dX2_lost_1 : decode cX2_lost 1 = .ok (.getfield 79, 3) := by decide +kernel
theorem dX2_lost_4 : decode cX2_lost 4 = .ok (.ireturn, 1) := by decide +kernel
abbrev cX2_served : ByteArray := prog_14_method_47_code
def dkwX2_served_1 : List UInt8 := [185, 0, 48, 1, 0, 192, 0, 52, 78, 27, 45, 182, 1, 121, 96, 60, 167, 255, 230, 27, 172]
abbrev dktX2_served_1 : List UInt8 := dkwX2_served_1 ++ []
def dkwX2_served_0 : List UInt8 := [3, 60, 42, 180, 0, 12, 185, 0, 36, 1, 0, 77, 44, 185, 0, 42, 1, 0, 153, 0, 23, 44]
abbrev dktX2_served_0 : List UInt8 := dkwX2_served_0 ++ dktX2_served_1
theorem dksX2_served_0 : cX2_served.data.toList.drop 0 = dktX2_served_0 := by decide +kernel
theorem dksX2_served_1 : cX2_served.data.toList.drop 22 = dktX2_served_1 := dk_seg dksX2_served_0 22 rfl rfl
theorem dX2_served_0 : decode cX2_served 0 = .ok (.iconst 0, 1) := dk_3 (dk_at dksX2_served_0 0 rfl rfl)
theorem dX2_served_1 : decode cX2_served 1 = .ok (.istore_n 1, 1) := dk_60 (dk_at dksX2_served_0 1 rfl rfl)
theorem dX2_served_2 : decode cX2_served 2 = .ok (.aload_n 0, 1) := dk_42 (dk_at dksX2_served_0 2 rfl rfl)
theorem dX2_served_3 : decode cX2_served 3 = .ok (.getfield 12, 3) := dk_180 0 12 (dk_at dksX2_served_0 3 rfl rfl)
theorem dX2_served_6 : decode cX2_served 6 = .ok (.invokeinterface 36 1, 5) := by decide +kernel
theorem dX2_served_11 : decode cX2_served 11 = .ok (.astore_n 2, 1) := dk_77 (dk_at dksX2_served_0 11 rfl rfl)
theorem dX2_served_12 : decode cX2_served 12 = .ok (.aload_n 2, 1) := dk_44 (dk_at dksX2_served_0 12 rfl rfl)
theorem dX2_served_13 : decode cX2_served 13 = .ok (.invokeinterface 42 1, 5) := by decide +kernel
theorem dX2_served_18 : decode cX2_served 18 = .ok (.ifCond .eq 23, 3) := dk_153 0 23 (dk_at dksX2_served_0 18 rfl rfl)
theorem dX2_served_21 : decode cX2_served 21 = .ok (.aload_n 2, 1) := dk_44 (dk_at dksX2_served_0 21 rfl rfl)
theorem dX2_served_22 : decode cX2_served 22 = .ok (.invokeinterface 48 1, 5) := by decide +kernel
theorem dX2_served_27 : decode cX2_served 27 = .ok (.checkcast 52, 3) := dk_192 0 52 (dk_at dksX2_served_1 5 rfl rfl)
theorem dX2_served_30 : decode cX2_served 30 = .ok (.astore_n 3, 1) := dk_78 (dk_at dksX2_served_1 8 rfl rfl)
theorem dX2_served_31 : decode cX2_served 31 = .ok (.iload_n 1, 1) := dk_27 (dk_at dksX2_served_1 9 rfl rfl)
theorem dX2_served_32 : decode cX2_served 32 = .ok (.aload_n 3, 1) := dk_45 (dk_at dksX2_served_1 10 rfl rfl)
theorem dX2_served_33 : decode cX2_served 33 = .ok (.invokevirtual 377, 3) := dk_182 1 121 (dk_at dksX2_served_1 11 rfl rfl)
theorem dX2_served_36 : decode cX2_served 36 = .ok (.iadd, 1) := dk_96 (dk_at dksX2_served_1 14 rfl rfl)
theorem dX2_served_37 : decode cX2_served 37 = .ok (.istore_n 1, 1) := dk_60 (dk_at dksX2_served_1 15 rfl rfl)
theorem dX2_served_38 : decode cX2_served 38 = .ok (.goto (-26), 3) := dk_167 255 230 (dk_at dksX2_served_1 16 rfl rfl)
theorem dX2_served_41 : decode cX2_served 41 = .ok (.iload_n 1, 1) := dk_27 (dk_at dksX2_served_1 19 rfl rfl)
theorem dX2_served_42 : decode cX2_served 42 = .ok (.ireturn, 1) := dk_172 (dk_at dksX2_served_1 20 rfl rfl)
abbrev cX7_isSafe : ByteArray := prog_4_method_15_code
def dkwX7_isSafe_0 : List UInt8 := [42, 178, 0, 100, 182, 0, 93, 153, 0, 10, 42, 182, 0, 103, 154, 0, 7, 4, 167, 0, 4, 3, 172]
abbrev dktX7_isSafe_0 : List UInt8 := dkwX7_isSafe_0 ++ []
theorem dksX7_isSafe_0 : cX7_isSafe.data.toList.drop 0 = dktX7_isSafe_0 := by decide +kernel
theorem dX7_isSafe_0 : decode cX7_isSafe 0 = .ok (.aload_n 0, 1) := dk_42 (dk_at dksX7_isSafe_0 0 rfl rfl)
theorem dX7_isSafe_1 : decode cX7_isSafe 1 = .ok (.getstatic 100, 3) := dk_178 0 100 (dk_at dksX7_isSafe_0 1 rfl rfl)
theorem dX7_isSafe_4 : decode cX7_isSafe 4 = .ok (.invokevirtual 93, 3) := dk_182 0 93 (dk_at dksX7_isSafe_0 4 rfl rfl)
theorem dX7_isSafe_7 : decode cX7_isSafe 7 = .ok (.ifCond .eq 10, 3) := dk_153 0 10 (dk_at dksX7_isSafe_0 7 rfl rfl)
theorem dX7_isSafe_10 : decode cX7_isSafe 10 = .ok (.aload_n 0, 1) := dk_42 (dk_at dksX7_isSafe_0 10 rfl rfl)
theorem dX7_isSafe_11 : decode cX7_isSafe 11 = .ok (.invokevirtual 103, 3) := dk_182 0 103 (dk_at dksX7_isSafe_0 11 rfl rfl)
theorem dX7_isSafe_14 : decode cX7_isSafe 14 = .ok (.ifCond .ne 7, 3) := dk_154 0 7 (dk_at dksX7_isSafe_0 14 rfl rfl)
theorem dX7_isSafe_17 : decode cX7_isSafe 17 = .ok (.iconst 1, 1) := dk_4 (dk_at dksX7_isSafe_0 17 rfl rfl)
theorem dX7_isSafe_18 : decode cX7_isSafe 18 = .ok (.goto 4, 3) := dk_167 0 4 (dk_at dksX7_isSafe_0 18 rfl rfl)
theorem dX7_isSafe_21 : decode cX7_isSafe 21 = .ok (.iconst 0, 1) := dk_3 (dk_at dksX7_isSafe_0 21 rfl rfl)
theorem dX7_isSafe_22 : decode cX7_isSafe 22 = .ok (.ireturn, 1) := dk_172 (dk_at dksX7_isSafe_0 22 rfl rfl)
abbrev cX19_sign : ByteArray := prog_8_method_2_code
theorem dX19_sign_0 : decode cX19_sign 0 = .ok (.bipush 46, 2) := by decide +kernel
theorem dX19_sign_2 : decode cX19_sign 2 = .ok (.ireturn, 1) := by decide +kernel
abbrev cX20_sign : ByteArray := prog_9_method_2_code
theorem dX20_sign_0 : decode cX20_sign 0 = .ok (.bipush 63, 2) := by decide +kernel
theorem dX20_sign_2 : decode cX20_sign 2 = .ok (.ireturn, 1) := by decide +kernel
abbrev cX21_sign : ByteArray := prog_10_method_2_code
theorem dX21_sign_0 : decode cX21_sign 0 = .ok (.bipush 45, 2) := by decide +kernel
theorem dX21_sign_2 : decode cX21_sign 2 = .ok (.ireturn, 1) := by decide +kernel
abbrev cX22_sign : ByteArray := prog_11_method_2_code
theorem dX22_sign_0 : decode cX22_sign 0 = .ok (.bipush 43, 2) := by decide +kernel
theorem dX22_sign_2 : decode cX22_sign 2 = .ok (.ireturn, 1) := by decide +kernel
abbrev cX23_sign : ByteArray := prog_12_method_2_code
theorem dX23_sign_0 : decode cX23_sign 0 = .ok (.bipush 120, 2) := by decide +kernel
theorem dX23_sign_2 : decode cX23_sign 2 = .ok (.ireturn, 1) := by decide +kernel
theorem q178 : (Jvm.Cond.initialized "java/lang/ArithmeticException") ∈ lw_all := lw_g (lw_at lw_m1 71 rfl) rfl
theorem q184 : (Jvm.Cond.methodLink "BanquetVotes" (11 : Nat) ({ cls := "java/lang/Object", name := "<init>", desc := "()V" } : Jvm.MethodName)) ∈ lw_all := lw_g (lw_at lw_m1 77 rfl) rfl
theorem q187 : (Jvm.Cond.classLink "BanquetVotes" (16 : Nat) "BanquetVotes$Kitchen") ∈ lw_all := lw_g (lw_at lw_m1 80 rfl) rfl
theorem q189 : (Jvm.Cond.methodLinkNest "BanquetVotes" (18 : Nat) ({ cls := "BanquetVotes$Kitchen", name := "<init>", desc := "()V" } : Jvm.MethodName) "BanquetVotes") ∈ lw_tbl := lw_at lw_m1 82 rfl
theorem mv189 : (Jvm.Cond.methodLinkNest "BanquetVotes" (18 : Nat) ({ cls := "BanquetVotes$Kitchen", name := "<init>", desc := "()V" } : Jvm.MethodName) "BanquetVotes") ∈ lw_mv := List.mem_filter.mpr ⟨q189, rfl⟩
theorem q284 : (Jvm.Cond.classLink "BanquetVotes" (25 : Nat) "java/util/LinkedList") ∈ lw_all := lw_g (lw_at lw_m1 177 rfl) rfl
theorem q285 : (Jvm.Cond.methodLink "BanquetVotes" (27 : Nat) ({ cls := "java/util/LinkedList", name := "<init>", desc := "()V" } : Jvm.MethodName)) ∈ lw_all := lw_g (lw_at lw_m1 178 rfl) rfl
theorem q286 : (Jvm.Cond.classLink "BanquetVotes" (32 : Nat) "java/lang/StringBuilder") ∈ lw_all := lw_g (lw_at lw_m1 179 rfl) rfl
theorem q288 : (Jvm.Cond.methodLink "BanquetVotes" (34 : Nat) ({ cls := "java/lang/StringBuilder", name := "<init>", desc := "()V" } : Jvm.MethodName)) ∈ lw_all := lw_g (lw_at lw_m1 181 rfl) rfl
theorem q321 : (Jvm.Cond.fieldLink "BanquetVotes" (427 : Nat) "BanquetVotes" "saved" "LBanquetVotes$Kitchen;") ∈ lw_all := lw_g (lw_at lw_m1 214 rfl) rfl
theorem q324 : (Jvm.Cond.fieldLink "BanquetVotes" (39 : Nat) "BanquetVotes" "error" "I") ∈ lw_all := lw_g (lw_at lw_m1 217 rfl) rfl
theorem q327 : (Jvm.Cond.fieldLink "BanquetVotes" (45 : Nat) "BanquetVotes" "line" "Ljava/lang/String;") ∈ lw_all := lw_g (lw_at lw_m1 220 rfl) rfl
theorem q349 : (Jvm.Cond.methodLink "BanquetVotes" (277 : Nat) ({ cls := "BanquetVotes$Kitchen", name := "isSafe", desc := "()Z" } : Jvm.MethodName)) ∈ lw_all := lw_g (lw_at lw_m2 2 rfl) rfl
theorem q350 : (Jvm.Cond.instanceMethod ({ cls := "BanquetVotes$Kitchen", name := "isSafe", desc := "()Z" } : Jvm.MethodName)) ∈ lw_all := lw_g (lw_at lw_m2 3 rfl) rfl
theorem q351 : (Jvm.Cond.selects "BanquetVotes$Kitchen" ({ cls := "BanquetVotes$Kitchen", name := "isSafe", desc := "()Z" } : Jvm.MethodName) ({ cls := "BanquetVotes$Kitchen", name := "isSafe", desc := "()Z" } : Jvm.MethodName)) ∈ lw_all := lw_g (lw_at lw_m2 4 rfl) rfl
theorem q352 : (Jvm.Cond.code ({ cls := "BanquetVotes$Kitchen", name := "isSafe", desc := "()Z" } : Jvm.MethodName) prog_14_method_49_code (3 : Nat) (Option.some Jvm.ClassFile.FieldType.boolean)) ∈ lw_all := lw_g (lw_at lw_m2 5 rfl) rfl
theorem q582 : (Jvm.Cond.instanceMethod ({ cls := "java/lang/StringBuilder", name := "append", desc := "(I)Ljava/lang/StringBuilder;" } : Jvm.MethodName)) ∈ lw_all := lw_g (lw_at lw_m2 235 rfl) rfl
theorem q583 : (Jvm.Cond.selects "java/lang/StringBuilder" ({ cls := "java/lang/StringBuilder", name := "append", desc := "(I)Ljava/lang/StringBuilder;" } : Jvm.MethodName) ({ cls := "java/lang/StringBuilder", name := "append", desc := "(I)Ljava/lang/StringBuilder;" } : Jvm.MethodName)) ∈ lw_all := lw_g (lw_at lw_m2 236 rfl) rfl
theorem q584 : (Jvm.Cond.code ({ cls := "java/lang/StringBuilder", name := "append", desc := "(I)Ljava/lang/StringBuilder;" } : Jvm.MethodName) prog_49_method_15_code (2 : Nat) (Option.some (Jvm.ClassFile.FieldType.object "java/lang/StringBuilder"))) ∈ lw_all := lw_g (lw_at lw_m2 237 rfl) rfl
theorem q1064 : (Jvm.Cond.methodLink "BanquetVotes$Kitchen" (380 : Nat) ({ cls := "BanquetVotes$Course", name := "isSafe", desc := "()Z" } : Jvm.MethodName)) ∈ lw_all := lw_g (lw_at lw_m4 237 rfl) rfl
theorem q1065 : (Jvm.Cond.instanceMethod ({ cls := "BanquetVotes$Course", name := "isSafe", desc := "()Z" } : Jvm.MethodName)) ∈ lw_all := lw_g (lw_at lw_m4 238 rfl) rfl
theorem q1066 : (Jvm.Cond.selects "BanquetVotes$Course" ({ cls := "BanquetVotes$Course", name := "isSafe", desc := "()Z" } : Jvm.MethodName) ({ cls := "BanquetVotes$Course", name := "isSafe", desc := "()Z" } : Jvm.MethodName)) ∈ lw_all := lw_g (lw_at lw_m4 239 rfl) rfl
theorem q1067 : (Jvm.Cond.code ({ cls := "BanquetVotes$Course", name := "isSafe", desc := "()Z" } : Jvm.MethodName) prog_4_method_15_code (1 : Nat) (Option.some Jvm.ClassFile.FieldType.boolean)) ∈ lw_all := lw_g (lw_at lw_m5 0 rfl) rfl
theorem q1068 : (Jvm.Cond.fieldLink "BanquetVotes$Course" (100 : Nat) "BanquetVotes$How" "SERVED" "LBanquetVotes$How;") ∈ lw_all := lw_g (lw_at lw_m5 1 rfl) rfl
theorem q1182 : (Jvm.Cond.methodLink "BanquetVotes$Course" (103 : Nat) ({ cls := "BanquetVotes$Course", name := "off", desc := "()I" } : Jvm.MethodName)) ∈ lw_all := lw_g (lw_at lw_m5 115 rfl) rfl
theorem q1194 : (Jvm.Cond.methodLink "BanquetVotes" (397 : Nat) ({ cls := "BanquetVotes$Kitchen", name := "minute", desc := "()I" } : Jvm.MethodName)) ∈ lw_all := lw_g (lw_at lw_m5 127 rfl) rfl
theorem q1195 : (Jvm.Cond.instanceMethod ({ cls := "BanquetVotes$Kitchen", name := "minute", desc := "()I" } : Jvm.MethodName)) ∈ lw_all := lw_g (lw_at lw_m5 128 rfl) rfl
theorem q1196 : (Jvm.Cond.selects "BanquetVotes$Kitchen" ({ cls := "BanquetVotes$Kitchen", name := "minute", desc := "()I" } : Jvm.MethodName) ({ cls := "BanquetVotes$Kitchen", name := "minute", desc := "()I" } : Jvm.MethodName)) ∈ lw_all := lw_g (lw_at lw_m5 129 rfl) rfl
theorem q1197 : (Jvm.Cond.code ({ cls := "BanquetVotes$Kitchen", name := "minute", desc := "()I" } : Jvm.MethodName) prog_14_method_8_code (1 : Nat) (Option.some Jvm.ClassFile.FieldType.int)) ∈ lw_all := lw_g (lw_at lw_m5 130 rfl) rfl
theorem q2950 : (Jvm.Cond.classLink "BanquetVotes" (365 : Nat) "BanquetVotes$TextError") ∈ lw_all := lw_g (lw_at lw_m12 203 rfl) rfl
theorem q2951 : (Jvm.Cond.methodLink "BanquetVotes" (346 : Nat) ({ cls := "java/lang/StringBuilder", name := "toString", desc := "()Ljava/lang/String;" } : Jvm.MethodName)) ∈ lw_all := lw_g (lw_at lw_m12 204 rfl) rfl
theorem q2952 : (Jvm.Cond.methodLink "BanquetVotes" (350 : Nat) ({ cls := "java/lang/StringBuilder", name := "setLength", desc := "(I)V" } : Jvm.MethodName)) ∈ lw_all := lw_g (lw_at lw_m12 205 rfl) rfl
theorem q2953 : (Jvm.Cond.instanceMethod ({ cls := "java/lang/StringBuilder", name := "setLength", desc := "(I)V" } : Jvm.MethodName)) ∈ lw_all := lw_g (lw_at lw_m12 206 rfl) rfl
theorem q2954 : (Jvm.Cond.selects "java/lang/StringBuilder" ({ cls := "java/lang/StringBuilder", name := "setLength", desc := "(I)V" } : Jvm.MethodName) ({ cls := "java/lang/StringBuilder", name := "setLength", desc := "(I)V" } : Jvm.MethodName)) ∈ lw_all := lw_g (lw_at lw_m12 207 rfl) rfl
theorem q2955 : (Jvm.Cond.code ({ cls := "java/lang/StringBuilder", name := "setLength", desc := "(I)V" } : Jvm.MethodName) prog_49_method_89_code (2 : Nat) (Option.none : Option Jvm.ClassFile.FieldType)) ∈ lw_all := lw_g (lw_at lw_m12 208 rfl) rfl
theorem q3004 : (Jvm.Cond.classLink "BanquetVotes" (353 : Nat) "BanquetVotes$Reader") ∈ lw_all := lw_g (lw_at lw_m13 17 rfl) rfl
theorem q3006 : (Jvm.Cond.methodLink "BanquetVotes" (355 : Nat) ({ cls := "BanquetVotes$Reader", name := "<init>", desc := "(Ljava/lang/String;)V" } : Jvm.MethodName)) ∈ lw_all := lw_g (lw_at lw_m13 19 rfl) rfl
theorem q3007 : (Jvm.Cond.instanceMethod ({ cls := "BanquetVotes$Reader", name := "<init>", desc := "(Ljava/lang/String;)V" } : Jvm.MethodName)) ∈ lw_all := lw_g (lw_at lw_m13 20 rfl) rfl
theorem q3008 : (Jvm.Cond.code ({ cls := "BanquetVotes$Reader", name := "<init>", desc := "(Ljava/lang/String;)V" } : Jvm.MethodName) prog_18_method_1_code (2 : Nat) (Option.none : Option Jvm.ClassFile.FieldType)) ∈ lw_all := lw_g (lw_at lw_m13 21 rfl) rfl
theorem q3017 : (Jvm.Cond.methodLink "BanquetVotes" (358 : Nat) ({ cls := "BanquetVotes$Reader", name := "commands", desc := "()Ljava/util/List;" } : Jvm.MethodName)) ∈ lw_all := lw_g (lw_at lw_m13 30 rfl) rfl
theorem q3018 : (Jvm.Cond.instanceMethod ({ cls := "BanquetVotes$Reader", name := "commands", desc := "()Ljava/util/List;" } : Jvm.MethodName)) ∈ lw_all := lw_g (lw_at lw_m13 31 rfl) rfl
theorem q3019 : (Jvm.Cond.selects "BanquetVotes$Reader" ({ cls := "BanquetVotes$Reader", name := "commands", desc := "()Ljava/util/List;" } : Jvm.MethodName) ({ cls := "BanquetVotes$Reader", name := "commands", desc := "()Ljava/util/List;" } : Jvm.MethodName)) ∈ lw_all := lw_g (lw_at lw_m13 32 rfl) rfl
theorem q3020 : (Jvm.Cond.code ({ cls := "BanquetVotes$Reader", name := "commands", desc := "()Ljava/util/List;" } : Jvm.MethodName) prog_18_method_10_code (2 : Nat) (Option.some (Jvm.ClassFile.FieldType.object "java/util/List"))) ∈ lw_all := lw_g (lw_at lw_m13 33 rfl) rfl
theorem q3157 : (Jvm.Cond.castable "BanquetVotes$TextError" "BanquetVotes$TextError") ∈ lw_tbl := lw_at lw_m13 170 rfl
theorem mv3157 : (Jvm.Cond.castable "BanquetVotes$TextError" "BanquetVotes$TextError") ∈ lw_mv := List.mem_filter.mpr ⟨q3157, rfl⟩
theorem q3202 : (Jvm.Cond.methodLink "BanquetVotes" (361 : Nat) ({ cls := "BanquetVotes", name := "carriedOut", desc := "(Ljava/util/List;)LBanquetVotes$Kitchen;" } : Jvm.MethodName)) ∈ lw_all := lw_g (lw_at lw_m13 215 rfl) rfl
theorem q3204 : (Jvm.Cond.instanceMethod ({ cls := "BanquetVotes", name := "carriedOut", desc := "(Ljava/util/List;)LBanquetVotes$Kitchen;" } : Jvm.MethodName)) ∈ lw_all := lw_g (lw_at lw_m13 217 rfl) rfl
theorem q3205 : (Jvm.Cond.codeWith ({ cls := "BanquetVotes", name := "carriedOut", desc := "(Ljava/util/List;)LBanquetVotes$Kitchen;" } : Jvm.MethodName) prog_1_method_38_code (7 : Nat) (Option.some (Jvm.ClassFile.FieldType.object "BanquetVotes$Kitchen")) [((40 : Nat), (59 : Nat), (62 : Nat), (1 : Nat))]) ∈ lw_all := lw_g (lw_at lw_m13 218 rfl) rfl
theorem q3207 : (Jvm.Cond.methodLink "BanquetVotes" (326 : Nat) ({ cls := "java/util/List", name := "iterator", desc := "()Ljava/util/Iterator;" } : Jvm.MethodName)) ∈ lw_all := lw_g (lw_at lw_m13 220 rfl) rfl
theorem q3209 : (Jvm.Cond.methodLink "BanquetVotes" (330 : Nat) ({ cls := "java/util/Iterator", name := "hasNext", desc := "()Z" } : Jvm.MethodName)) ∈ lw_all := lw_g (lw_at lw_m13 222 rfl) rfl
theorem q3211 : (Jvm.Cond.methodLink "BanquetVotes" (335 : Nat) ({ cls := "java/util/Iterator", name := "next", desc := "()Ljava/lang/Object;" } : Jvm.MethodName)) ∈ lw_all := lw_g (lw_at lw_m13 224 rfl) rfl
theorem q3212 : (Jvm.Cond.methodLink "BanquetVotes" (338 : Nat) ({ cls := "BanquetVotes$Command", name := "isCall", desc := "(LBanquetVotes$Kitchen;)Z" } : Jvm.MethodName)) ∈ lw_all := lw_g (lw_at lw_m13 225 rfl) rfl
theorem q3213 : (Jvm.Cond.instanceMethod ({ cls := "BanquetVotes$Command", name := "isCall", desc := "(LBanquetVotes$Kitchen;)Z" } : Jvm.MethodName)) ∈ lw_all := lw_g (lw_at lw_m13 226 rfl) rfl
theorem q3214 : (Jvm.Cond.selects "BanquetVotes$Command" ({ cls := "BanquetVotes$Command", name := "isCall", desc := "(LBanquetVotes$Kitchen;)Z" } : Jvm.MethodName) ({ cls := "BanquetVotes$Command", name := "isCall", desc := "(LBanquetVotes$Kitchen;)Z" } : Jvm.MethodName)) ∈ lw_all := lw_g (lw_at lw_m13 227 rfl) rfl
theorem q3215 : (Jvm.Cond.code ({ cls := "BanquetVotes$Command", name := "isCall", desc := "(LBanquetVotes$Kitchen;)Z" } : Jvm.MethodName) prog_2_method_2_code (6 : Nat) (Option.some Jvm.ClassFile.FieldType.boolean)) ∈ lw_all := lw_g (lw_at lw_m13 228 rfl) rfl
theorem q3216 : (Jvm.Cond.methodLink "BanquetVotes$Command" (25 : Nat) ({ cls := "BanquetVotes$Kitchen", name := "cooks", desc := "()Ljava/util/List;" } : Jvm.MethodName)) ∈ lw_all := lw_g (lw_at lw_m13 229 rfl) rfl
theorem q3218 : (Jvm.Cond.methodLink "BanquetVotes$Command" (31 : Nat) ({ cls := "java/util/List", name := "size", desc := "()I" } : Jvm.MethodName)) ∈ lw_all := lw_g (lw_at lw_m13 231 rfl) rfl
theorem q3219 : (Jvm.Cond.methodLink "BanquetVotes$Command" (37 : Nat) ({ cls := "BanquetVotes$Kitchen", name := "courses", desc := "()Ljava/util/List;" } : Jvm.MethodName)) ∈ lw_all := lw_g (lw_at lw_m13 232 rfl) rfl
theorem q3220 : (Jvm.Cond.methodLinkNest "BanquetVotes$Command" (59 : Nat) ({ cls := "BanquetVotes", name := "isIn", desc := "(III)Z" } : Jvm.MethodName) "BanquetVotes") ∈ lw_tbl := lw_at lw_m13 233 rfl
theorem mv3220 : (Jvm.Cond.methodLinkNest "BanquetVotes$Command" (59 : Nat) ({ cls := "BanquetVotes", name := "isIn", desc := "(III)Z" } : Jvm.MethodName) "BanquetVotes") ∈ lw_mv := List.mem_filter.mpr ⟨q3220, rfl⟩
theorem q3221 : (Jvm.Cond.methodLink "BanquetVotes" (342 : Nat) ({ cls := "BanquetVotes", name := "meet", desc := "(ZII)V" } : Jvm.MethodName)) ∈ lw_all := lw_g (lw_at lw_m13 234 rfl) rfl
theorem q3222 : (Jvm.Cond.methodLink "BanquetVotes" (367 : Nat) ({ cls := "BanquetVotes$TextError", name := "position", desc := "()I" } : Jvm.MethodName)) ∈ lw_all := lw_g (lw_at lw_m13 235 rfl) rfl
theorem q3223 : (Jvm.Cond.instanceMethod ({ cls := "BanquetVotes$TextError", name := "position", desc := "()I" } : Jvm.MethodName)) ∈ lw_all := lw_g (lw_at lw_m13 236 rfl) rfl
theorem q3224 : (Jvm.Cond.selects "BanquetVotes$TextError" ({ cls := "BanquetVotes$TextError", name := "position", desc := "()I" } : Jvm.MethodName) ({ cls := "BanquetVotes$TextError", name := "position", desc := "()I" } : Jvm.MethodName)) ∈ lw_all := lw_g (lw_at lw_m13 237 rfl) rfl
theorem q3225 : (Jvm.Cond.code ({ cls := "BanquetVotes$TextError", name := "position", desc := "()I" } : Jvm.MethodName) prog_21_method_2_code (1 : Nat) (Option.some Jvm.ClassFile.FieldType.int)) ∈ lw_all := lw_g (lw_at lw_m13 238 rfl) rfl
theorem q3248 : (Jvm.Cond.methodLink "BanquetVotes" (372 : Nat) ({ cls := "java/lang/String", name := "charAt", desc := "(I)C" } : Jvm.MethodName)) ∈ lw_all := lw_g (lw_at lw_m14 21 rfl) rfl
theorem q3249 : (Jvm.Cond.methodLink "BanquetVotes" (378 : Nat) ({ cls := "java/util/TreeMap", name := "keySet", desc := "()Ljava/util/Set;" } : Jvm.MethodName)) ∈ lw_all := lw_g (lw_at lw_m14 22 rfl) rfl
theorem q3251 : (Jvm.Cond.methodLink "BanquetVotes" (382 : Nat) ({ cls := "java/util/Set", name := "iterator", desc := "()Ljava/util/Iterator;" } : Jvm.MethodName)) ∈ lw_all := lw_g (lw_at lw_m14 24 rfl) rfl
theorem q3252 : (Jvm.Cond.methodLink "BanquetVotes" (385 : Nat) ({ cls := "java/lang/StringBuilder", name := "append", desc := "(I)Ljava/lang/StringBuilder;" } : Jvm.MethodName)) ∈ lw_all := lw_g (lw_at lw_m14 25 rfl) rfl
theorem q3253 : (Jvm.Cond.methodLink "BanquetVotes" (388 : Nat) ({ cls := "BanquetVotes$Dish", name := "how", desc := "()LBanquetVotes$How;" } : Jvm.MethodName)) ∈ lw_all := lw_g (lw_at lw_m14 26 rfl) rfl
theorem q3254 : (Jvm.Cond.methodLink "BanquetVotes" (392 : Nat) ({ cls := "BanquetVotes$How", name := "sign", desc := "()C" } : Jvm.MethodName)) ∈ lw_all := lw_g (lw_at lw_m14 27 rfl) rfl
theorem q3255 : (Jvm.Cond.declares ({ cls := "BanquetVotes$How", name := "sign", desc := "()C" } : Jvm.MethodName)) ∈ lw_tbl := lw_at lw_m14 28 rfl
theorem mv3255 : (Jvm.Cond.declares ({ cls := "BanquetVotes$How", name := "sign", desc := "()C" } : Jvm.MethodName)) ∈ lw_mv := List.mem_filter.mpr ⟨q3255, rfl⟩
theorem q3256 : (Jvm.Cond.sameMethod "BanquetVotes$How" "BanquetVotes$How" "sign" "()C") ∈ lw_all := lw_g (lw_at lw_m14 29 rfl) rfl
theorem q3257 : (Jvm.Cond.selects "BanquetVotes$How$1" ({ cls := "BanquetVotes$How", name := "sign", desc := "()C" } : Jvm.MethodName) ({ cls := "BanquetVotes$How$1", name := "sign", desc := "()C" } : Jvm.MethodName)) ∈ lw_all := lw_g (lw_at lw_m14 30 rfl) rfl
theorem q3258 : (Jvm.Cond.instanceMethod ({ cls := "BanquetVotes$How$1", name := "sign", desc := "()C" } : Jvm.MethodName)) ∈ lw_all := lw_g (lw_at lw_m14 31 rfl) rfl
theorem q3259 : (Jvm.Cond.code ({ cls := "BanquetVotes$How$1", name := "sign", desc := "()C" } : Jvm.MethodName) prog_8_method_2_code (1 : Nat) (Option.some Jvm.ClassFile.FieldType.char)) ∈ lw_all := lw_g (lw_at lw_m14 32 rfl) rfl
theorem q3260 : (Jvm.Cond.selects "BanquetVotes$How$2" ({ cls := "BanquetVotes$How", name := "sign", desc := "()C" } : Jvm.MethodName) ({ cls := "BanquetVotes$How$2", name := "sign", desc := "()C" } : Jvm.MethodName)) ∈ lw_all := lw_g (lw_at lw_m14 33 rfl) rfl
theorem q3261 : (Jvm.Cond.instanceMethod ({ cls := "BanquetVotes$How$2", name := "sign", desc := "()C" } : Jvm.MethodName)) ∈ lw_all := lw_g (lw_at lw_m14 34 rfl) rfl
theorem q3262 : (Jvm.Cond.code ({ cls := "BanquetVotes$How$2", name := "sign", desc := "()C" } : Jvm.MethodName) prog_9_method_2_code (1 : Nat) (Option.some Jvm.ClassFile.FieldType.char)) ∈ lw_all := lw_g (lw_at lw_m14 35 rfl) rfl
theorem q3263 : (Jvm.Cond.selects "BanquetVotes$How$3" ({ cls := "BanquetVotes$How", name := "sign", desc := "()C" } : Jvm.MethodName) ({ cls := "BanquetVotes$How$3", name := "sign", desc := "()C" } : Jvm.MethodName)) ∈ lw_all := lw_g (lw_at lw_m14 36 rfl) rfl
theorem q3264 : (Jvm.Cond.instanceMethod ({ cls := "BanquetVotes$How$3", name := "sign", desc := "()C" } : Jvm.MethodName)) ∈ lw_all := lw_g (lw_at lw_m14 37 rfl) rfl
theorem q3265 : (Jvm.Cond.code ({ cls := "BanquetVotes$How$3", name := "sign", desc := "()C" } : Jvm.MethodName) prog_10_method_2_code (1 : Nat) (Option.some Jvm.ClassFile.FieldType.char)) ∈ lw_all := lw_g (lw_at lw_m14 38 rfl) rfl
theorem q3266 : (Jvm.Cond.selects "BanquetVotes$How$4" ({ cls := "BanquetVotes$How", name := "sign", desc := "()C" } : Jvm.MethodName) ({ cls := "BanquetVotes$How$4", name := "sign", desc := "()C" } : Jvm.MethodName)) ∈ lw_all := lw_g (lw_at lw_m14 39 rfl) rfl
theorem q3267 : (Jvm.Cond.instanceMethod ({ cls := "BanquetVotes$How$4", name := "sign", desc := "()C" } : Jvm.MethodName)) ∈ lw_all := lw_g (lw_at lw_m14 40 rfl) rfl
theorem q3268 : (Jvm.Cond.code ({ cls := "BanquetVotes$How$4", name := "sign", desc := "()C" } : Jvm.MethodName) prog_11_method_2_code (1 : Nat) (Option.some Jvm.ClassFile.FieldType.char)) ∈ lw_all := lw_g (lw_at lw_m14 41 rfl) rfl
theorem q3269 : (Jvm.Cond.selects "BanquetVotes$How$5" ({ cls := "BanquetVotes$How", name := "sign", desc := "()C" } : Jvm.MethodName) ({ cls := "BanquetVotes$How$5", name := "sign", desc := "()C" } : Jvm.MethodName)) ∈ lw_all := lw_g (lw_at lw_m14 42 rfl) rfl
theorem q3270 : (Jvm.Cond.instanceMethod ({ cls := "BanquetVotes$How$5", name := "sign", desc := "()C" } : Jvm.MethodName)) ∈ lw_all := lw_g (lw_at lw_m14 43 rfl) rfl
theorem q3271 : (Jvm.Cond.code ({ cls := "BanquetVotes$How$5", name := "sign", desc := "()C" } : Jvm.MethodName) prog_12_method_2_code (1 : Nat) (Option.some Jvm.ClassFile.FieldType.char)) ∈ lw_all := lw_g (lw_at lw_m14 44 rfl) rfl
theorem q3272 : (Jvm.Cond.methodLink "BanquetVotes" (396 : Nat) ({ cls := "java/lang/String", name := "length", desc := "()I" } : Jvm.MethodName)) ∈ lw_all := lw_g (lw_at lw_m14 45 rfl) rfl
theorem q3287 : (Jvm.Cond.methodLink "BanquetVotes" (400 : Nat) ({ cls := "BanquetVotes$Kitchen", name := "those", desc := "(I)I" } : Jvm.MethodName)) ∈ lw_all := lw_g (lw_at lw_m14 60 rfl) rfl
theorem q3288 : (Jvm.Cond.methodLink "BanquetVotes" (402 : Nat) ({ cls := "BanquetVotes$Kitchen", name := "dishes", desc := "()I" } : Jvm.MethodName)) ∈ lw_all := lw_g (lw_at lw_m14 61 rfl) rfl
theorem q3289 : (Jvm.Cond.instanceMethod ({ cls := "BanquetVotes$Kitchen", name := "dishes", desc := "()I" } : Jvm.MethodName)) ∈ lw_all := lw_g (lw_at lw_m14 62 rfl) rfl
theorem q3290 : (Jvm.Cond.selects "BanquetVotes$Kitchen" ({ cls := "BanquetVotes$Kitchen", name := "dishes", desc := "()I" } : Jvm.MethodName) ({ cls := "BanquetVotes$Kitchen", name := "dishes", desc := "()I" } : Jvm.MethodName)) ∈ lw_all := lw_g (lw_at lw_m14 63 rfl) rfl
theorem q3291 : (Jvm.Cond.code ({ cls := "BanquetVotes$Kitchen", name := "dishes", desc := "()I" } : Jvm.MethodName) prog_14_method_45_code (4 : Nat) (Option.some Jvm.ClassFile.FieldType.int)) ∈ lw_all := lw_g (lw_at lw_m14 64 rfl) rfl
theorem q3292 : (Jvm.Cond.methodLink "BanquetVotes" (404 : Nat) ({ cls := "BanquetVotes$Kitchen", name := "ready", desc := "()I" } : Jvm.MethodName)) ∈ lw_all := lw_g (lw_at lw_m14 65 rfl) rfl
theorem q3293 : (Jvm.Cond.instanceMethod ({ cls := "BanquetVotes$Kitchen", name := "ready", desc := "()I" } : Jvm.MethodName)) ∈ lw_all := lw_g (lw_at lw_m14 66 rfl) rfl
theorem q3294 : (Jvm.Cond.selects "BanquetVotes$Kitchen" ({ cls := "BanquetVotes$Kitchen", name := "ready", desc := "()I" } : Jvm.MethodName) ({ cls := "BanquetVotes$Kitchen", name := "ready", desc := "()I" } : Jvm.MethodName)) ∈ lw_all := lw_g (lw_at lw_m14 67 rfl) rfl
theorem q3295 : (Jvm.Cond.code ({ cls := "BanquetVotes$Kitchen", name := "ready", desc := "()I" } : Jvm.MethodName) prog_14_method_46_code (4 : Nat) (Option.some Jvm.ClassFile.FieldType.int)) ∈ lw_all := lw_g (lw_at lw_m14 68 rfl) rfl
theorem q3296 : (Jvm.Cond.methodLink "BanquetVotes" (407 : Nat) ({ cls := "BanquetVotes$Kitchen", name := "lost", desc := "()I" } : Jvm.MethodName)) ∈ lw_all := lw_g (lw_at lw_m14 69 rfl) rfl
theorem q3297 : (Jvm.Cond.instanceMethod ({ cls := "BanquetVotes$Kitchen", name := "lost", desc := "()I" } : Jvm.MethodName)) ∈ lw_all := lw_g (lw_at lw_m14 70 rfl) rfl
theorem q3298 : (Jvm.Cond.selects "BanquetVotes$Kitchen" ({ cls := "BanquetVotes$Kitchen", name := "lost", desc := "()I" } : Jvm.MethodName) ({ cls := "BanquetVotes$Kitchen", name := "lost", desc := "()I" } : Jvm.MethodName)) ∈ lw_all := lw_g (lw_at lw_m14 71 rfl) rfl
theorem q3299 : (Jvm.Cond.code ({ cls := "BanquetVotes$Kitchen", name := "lost", desc := "()I" } : Jvm.MethodName) prog_14_method_9_code (1 : Nat) (Option.some Jvm.ClassFile.FieldType.int)) ∈ lw_all := lw_g (lw_at lw_m14 72 rfl) rfl
theorem q3300 : (Jvm.Cond.methodLink "BanquetVotes" (410 : Nat) ({ cls := "BanquetVotes$Kitchen", name := "fainted", desc := "()I" } : Jvm.MethodName)) ∈ lw_all := lw_g (lw_at lw_m14 73 rfl) rfl
theorem q3301 : (Jvm.Cond.methodLink "BanquetVotes" (413 : Nat) ({ cls := "BanquetVotes$Kitchen", name := "served", desc := "()I" } : Jvm.MethodName)) ∈ lw_all := lw_g (lw_at lw_m14 74 rfl) rfl
theorem q3302 : (Jvm.Cond.instanceMethod ({ cls := "BanquetVotes$Kitchen", name := "served", desc := "()I" } : Jvm.MethodName)) ∈ lw_all := lw_g (lw_at lw_m14 75 rfl) rfl
theorem q3303 : (Jvm.Cond.selects "BanquetVotes$Kitchen" ({ cls := "BanquetVotes$Kitchen", name := "served", desc := "()I" } : Jvm.MethodName) ({ cls := "BanquetVotes$Kitchen", name := "served", desc := "()I" } : Jvm.MethodName)) ∈ lw_all := lw_g (lw_at lw_m14 76 rfl) rfl
theorem q3304 : (Jvm.Cond.code ({ cls := "BanquetVotes$Kitchen", name := "served", desc := "()I" } : Jvm.MethodName) prog_14_method_47_code (4 : Nat) (Option.some Jvm.ClassFile.FieldType.int)) ∈ lw_all := lw_g (lw_at lw_m14 77 rfl) rfl
theorem q3326 : (Jvm.Cond.classLink "BanquetVotes" (194 : Nat) "BanquetVotes$Course") ∈ lw_all := lw_g (lw_at lw_m14 99 rfl) rfl
theorem q3327 : (Jvm.Cond.methodLink "BanquetVotes" (414 : Nat) ({ cls := "BanquetVotes$Course", name := "isDecided", desc := "()Z" } : Jvm.MethodName)) ∈ lw_all := lw_g (lw_at lw_m14 100 rfl) rfl
theorem q3328 : (Jvm.Cond.classLink "BanquetVotes" (417 : Nat) "java/lang/ArithmeticException") ∈ lw_all := lw_g (lw_at lw_m14 101 rfl) rfl
theorem q3329 : (Jvm.Cond.methodLink "BanquetVotes" (419 : Nat) ({ cls := "java/lang/ArithmeticException", name := "<init>", desc := "()V" } : Jvm.MethodName)) ∈ lw_all := lw_g (lw_at lw_m14 102 rfl) rfl
theorem q3330 : (Jvm.Cond.instanceMethod ({ cls := "java/lang/ArithmeticException", name := "<init>", desc := "()V" } : Jvm.MethodName)) ∈ lw_all := lw_g (lw_at lw_m14 103 rfl) rfl
theorem q3331 : (Jvm.Cond.code ({ cls := "java/lang/ArithmeticException", name := "<init>", desc := "()V" } : Jvm.MethodName) prog_29_method_1_code (1 : Nat) (Option.none : Option Jvm.ClassFile.FieldType)) ∈ lw_all := lw_g (lw_at lw_m14 104 rfl) rfl
theorem q3340 : (Jvm.Cond.methodLink "BanquetVotes" (420 : Nat) ({ cls := "BanquetVotes$Kitchen", name := "decided", desc := "()I" } : Jvm.MethodName)) ∈ lw_all := lw_g (lw_at lw_m14 113 rfl) rfl
theorem q3348 : (Jvm.Cond.methodLink "BanquetVotes" (421 : Nat) ({ cls := "java/util/LinkedList", name := "isEmpty", desc := "()Z" } : Jvm.MethodName)) ∈ lw_all := lw_g (lw_at lw_m14 121 rfl) rfl
theorem q3349 : (Jvm.Cond.sameMethod "java/util/LinkedList" "java/util/AbstractCollection" "isEmpty" "()Z") ∈ lw_all := lw_g (lw_at lw_m14 122 rfl) rfl
theorem q3351 : (Jvm.Cond.selects "java/util/LinkedList" ({ cls := "java/util/LinkedList", name := "isEmpty", desc := "()Z" } : Jvm.MethodName) ({ cls := "java/util/AbstractCollection", name := "isEmpty", desc := "()Z" } : Jvm.MethodName)) ∈ lw_all := lw_g (lw_at lw_m14 124 rfl) rfl
theorem q3352 : (Jvm.Cond.instanceMethod ({ cls := "java/util/AbstractCollection", name := "isEmpty", desc := "()Z" } : Jvm.MethodName)) ∈ lw_all := lw_g (lw_at lw_m14 125 rfl) rfl
theorem q3353 : (Jvm.Cond.code ({ cls := "java/util/AbstractCollection", name := "isEmpty", desc := "()Z" } : Jvm.MethodName) prog_59_method_4_code (1 : Nat) (Option.some Jvm.ClassFile.FieldType.boolean)) ∈ lw_all := lw_g (lw_at lw_m14 126 rfl) rfl
theorem q3354 : (Jvm.Cond.methodLink "BanquetVotes" (424 : Nat) ({ cls := "java/util/LinkedList", name := "removeLast", desc := "()Ljava/lang/Object;" } : Jvm.MethodName)) ∈ lw_all := lw_g (lw_at lw_m14 127 rfl) rfl
theorem q3355 : (Jvm.Cond.instanceMethod ({ cls := "java/util/LinkedList", name := "removeLast", desc := "()Ljava/lang/Object;" } : Jvm.MethodName)) ∈ lw_all := lw_g (lw_at lw_m14 128 rfl) rfl
theorem q3356 : (Jvm.Cond.selects "java/util/LinkedList" ({ cls := "java/util/LinkedList", name := "removeLast", desc := "()Ljava/lang/Object;" } : Jvm.MethodName) ({ cls := "java/util/LinkedList", name := "removeLast", desc := "()Ljava/lang/Object;" } : Jvm.MethodName)) ∈ lw_all := lw_g (lw_at lw_m14 129 rfl) rfl
theorem q3357 : (Jvm.Cond.code ({ cls := "java/util/LinkedList", name := "removeLast", desc := "()Ljava/lang/Object;" } : Jvm.MethodName) prog_74_method_12_code (2 : Nat) (Option.some (Jvm.ClassFile.FieldType.object "java/lang/Object"))) ∈ lw_all := lw_g (lw_at lw_m14 130 rfl) rfl
theorem q3369 : (Jvm.Cond.methodLink "BanquetVotes" (430 : Nat) ({ cls := "java/util/LinkedList", name := "clear", desc := "()V" } : Jvm.MethodName)) ∈ lw_all := lw_g (lw_at lw_m14 142 rfl) rfl
abbrev ck_X11_isCall : CK := ("BanquetVotes$Command", prog_2_method_2_code, 6, (some .boolean), "isCall", [], 5)
def f_X11_isCall (γ : GP) (x0 : Nat) (x1 : Nat) (g : AH) : Option (Int32 × AH) := bR ((if hK g x1 = 2 then f_X2_cooks γ x1 g else none)) fun v2 g1 => bI ((if hK g1 v2 = 3 then f_J2_size γ v2 g1 else if hK g1 v2 = 5 then f_J4_size γ v2 g1 else none)) fun v4 g3 => bR ((if hK g3 x1 = 2 then f_X2_courses γ x1 g3 else none)) fun v6 g5 => bI ((if hK g5 v6 = 3 then f_J2_size γ v6 g5 else if hK g5 v6 = 5 then f_J4_size γ v6 g5 else none)) fun v8 g7 => gR g7 x0 106 fun v9 => bI ((if hK g7 v9 = 7 then f_J7_hashCode γ v9 g7 else none)) fun v11 g10 => jn (fun (y12 : Int32) (g13 : AH) => (if y12 = (0 : Int32) then gI g13 x0 107 fun v15 => (if v8 ≤ v15 then (rtN .boolean (0 : Int32) g13) else (rtN .boolean (1 : Int32) g13)) else (if y12 = (1 : Int32) then gI g13 x0 107 fun v16 => (if v8 ≤ v16 then (rtN .boolean (0 : Int32) g13) else (rtN .boolean (1 : Int32) g13)) else (if y12 = (2 : Int32) then gI g13 x0 107 fun v17 => (if v4 ≤ v17 then (rtN .boolean (0 : Int32) g13) else (rtN .boolean (1 : Int32) g13)) else (if y12 = (3 : Int32) then gI g13 x0 107 fun v18 => (if v4 ≤ v18 then (rtN .boolean (0 : Int32) g13) else (rtN .boolean (1 : Int32) g13)) else (if y12 = (4 : Int32) then gI g13 x0 107 fun v19 => (if v4 ≤ v19 then (rtN .boolean (0 : Int32) g13) else gI g13 x0 108 fun v20 => (if v4 ≤ v20 then (rtN .boolean (0 : Int32) g13) else gI g13 x0 109 fun v21 => (if v8 ≤ v21 then (rtN .boolean (0 : Int32) g13) else gI g13 x0 107 fun v22 => gI g13 x0 108 fun v23 => (if v22 = v23 then (rtN .boolean (0 : Int32) g13) else (rtN .boolean (1 : Int32) g13))))) else gI g13 x0 107 fun v24 => bI (f_X1_isIn γ v24 (1 : Int32) (60 : Int32) g13) fun v26 g25 => (rtN .boolean v26 g25))))))) (fun (j14 : Int32 → AH → Option (Int32 × AH)) => (if v11 = (-1367724422 : Int32) then bI ((if hK g10 v9 = 7 then f_J7_equals γ v9 (γ.1 15) g10 else none)) fun v28 g27 => (if v28 = 0 then j14 (-1 : Int32) g27 else j14 (1 : Int32) g27) else (if v11 = (96889 : Int32) then bI ((if hK g10 v9 = 7 then f_J7_equals γ v9 (γ.1 14) g10 else none)) fun v30 g29 => (if v30 = 0 then j14 (-1 : Int32) g29 else j14 (0 : Int32) g29) else (if v11 = (3641764 : Int32) then bI ((if hK g10 v9 = 7 then f_J7_equals γ v9 (γ.1 17) g10 else none)) fun v32 g31 => (if v32 = 0 then j14 (-1 : Int32) g31 else j14 (3 : Int32) g31) else (if v11 = (97193300 : Int32) then bI ((if hK g10 v9 = 7 then f_J7_equals γ v9 (γ.1 16) g10 else none)) fun v34 g33 => (if v34 = 0 then j14 (-1 : Int32) g33 else j14 (2 : Int32) g33) else (if v11 = (102846020 : Int32) then bI ((if hK g10 v9 = 7 then f_J7_equals γ v9 (γ.1 18) g10 else none)) fun v36 g35 => (if v36 = 0 then j14 (-1 : Int32) g35 else j14 (4 : Int32) g35) else j14 (-1 : Int32) g10))))))
theorem t_X11_isCall (γ : GP) (l : Launch) (hl : l.stackTraces = false) (x0 : Nat) (x1 : Nat) (g : AH) : TrM ρI γ l ⟨"BanquetVotes$Command", "isCall", "(LBanquetVotes$Kitchen;)Z"⟩ (ws_ ⟨"BanquetVotes$Command", "isCall", "(LBanquetVotes$Kitchen;)Z"⟩ prog_2_method_2_code 6 (some .boolean)) 5 [.ref x0, .ref x1] g (f_X11_isCall γ x0 x1 g) := by
  refine TrM_of (plainFor_of_name (by decide)) (Nat.le_of_ble_eq_true rfl) ?_
  unfold f_X11_isCall
  change AW ρI γ l ck_X11_isCall g 0 [(0, .ref x0), (1, .ref x1)] [] g _
  refine r_aload_n (pc := 0) dX11_isCall_0 rfl 1 rfl ?_
  refine r_cR (pc := 1) (rest := []) (RunOK_chk (fun h => run_V (n := 0) (c9 := 2) (As := []) (rest := []) (t_X2_cooks γ l hl x1 g) dX11_isCall_1 q3216 q2000 q2001 q109 q2002 (by decide +kernel) rfl h ⟨rfl, by decide, by decide⟩ (Nat.le_of_ble_eq_true rfl) (Nat.le_of_ble_eq_true rfl) rfl (Nat.le_of_ble_eq_true rfl))) (fun v2 g1 => ?_)
  refine r_cI (pc := 4) (rest := []) (RunOK_if (fun h => run_F (n := 0) (c9 := 3) (As := []) (rest := []) (t_J2_size γ l hl v2 g1) dX11_isCall_4 q3218 q1891 q794 q112 q795 (by decide +kernel) (by decide +kernel) rfl h ⟨by decide, by decide⟩ (Nat.le_of_ble_eq_true rfl) (Nat.le_of_ble_eq_true rfl) rfl (Nat.le_of_ble_eq_true rfl)) (RunOK_chk (fun h => run_F (n := 0) (c9 := 5) (As := []) (rest := []) (t_J4_size γ l hl v2 g1) dX11_isCall_4 q3218 q1894 q797 q116 q798 (by decide +kernel) (by decide +kernel) rfl h ⟨by decide, by decide⟩ (Nat.le_of_ble_eq_true rfl) (Nat.le_of_ble_eq_true rfl) rfl (Nat.le_of_ble_eq_true rfl)))) (fun v4 g3 => ?_)
  refine r_istore_n (pc := 9) dX11_isCall_9 rfl (Nat.le_of_ble_eq_true rfl) rfl ?_
  refine r_aload_n (pc := 10) dX11_isCall_10 rfl 2 rfl ?_
  refine r_cR (pc := 11) (rest := []) (RunOK_chk (fun h => run_V (n := 0) (c9 := 2) (As := []) (rest := []) (t_X2_courses γ l hl x1 g3) dX11_isCall_11 q3219 q2120 q2121 q109 q2122 (by decide +kernel) rfl h ⟨rfl, by decide, by decide⟩ (Nat.le_of_ble_eq_true rfl) (Nat.le_of_ble_eq_true rfl) rfl (Nat.le_of_ble_eq_true rfl))) (fun v6 g5 => ?_)
  refine r_cI (pc := 14) (rest := []) (RunOK_if (fun h => run_F (n := 0) (c9 := 3) (As := []) (rest := []) (t_J2_size γ l hl v6 g5) dX11_isCall_14 q3218 q1891 q794 q112 q795 (by decide +kernel) (by decide +kernel) rfl h ⟨by decide, by decide⟩ (Nat.le_of_ble_eq_true rfl) (Nat.le_of_ble_eq_true rfl) rfl (Nat.le_of_ble_eq_true rfl)) (RunOK_chk (fun h => run_F (n := 0) (c9 := 5) (As := []) (rest := []) (t_J4_size γ l hl v6 g5) dX11_isCall_14 q3218 q1894 q797 q116 q798 (by decide +kernel) (by decide +kernel) rfl h ⟨by decide, by decide⟩ (Nat.le_of_ble_eq_true rfl) (Nat.le_of_ble_eq_true rfl) rfl (Nat.le_of_ble_eq_true rfl)))) (fun v8 g7 => ?_)
  refine r_istore_n (pc := 19) dX11_isCall_19 rfl (Nat.le_of_ble_eq_true rfl) rfl ?_
  refine r_aload_n (pc := 20) dX11_isCall_20 rfl 2 rfl ?_
  refine r_getR (f := 106) (pc := 21) dX11_isCall_21 q2265 (Or.inl rfl) rfl (fun v9 => ?_)
  refine r_astore (pc := 24) dX11_isCall_24 (Nat.le_of_ble_eq_true rfl) rfl ?_
  refine r_iconst (v := (-1 : Int32)) (pc := 26) dX11_isCall_26 (by decide) ?_
  refine r_istore (pc := 27) dX11_isCall_27 (Nat.le_of_ble_eq_true rfl) rfl ?_
  refine r_aload (pc := 29) dX11_isCall_29 1 rfl ?_
  refine r_cI (pc := 31) (rest := []) (RunOK_chk (fun h => run_V (n := 0) (c9 := 7) (As := []) (rest := []) (t_J7_hashCode γ l hl v9 g7) dX11_isCall_31 q2282 q2283 q2284 q119 q2285 (by decide +kernel) rfl h ⟨rfl, by decide, by decide⟩ (Nat.le_of_ble_eq_true rfl) (Nat.le_of_ble_eq_true rfl) rfl (Nat.le_of_ble_eq_true rfl))) (fun v11 g10 => ?_)
  refine AW_jn (P := fun (j : Int32 → AH → Option (Int32 × AH)) => ∀ (y12 : Int32) (g13 : AH), AW ρI γ l ck_X11_isCall g 161 [(0, .ref x0), (2, .int v4), (3, .int v8), (5, .int y12)] [] g13 (j y12 g13)) (fun y12 g13 => ?_) (fun j14 h_j14 => ?_)
  · skip
    refine r_iload (pc := 161) dX11_isCall_161 3 rfl ?_
    refine r_tabC (v := (0 : Int32)) (tgt := 196) (pc := 163) dX11_isCall_163 (by decide) (by decide) rfl (by decide) ?_ (fun c0 => ?_)
    · skip
      refine r_aload_n (pc := 196) dX11_isCall_196 rfl 0 rfl ?_
      refine r_getI (f := 107) (pc := 197) dX11_isCall_197 q2266 (Or.inl rfl) rfl (fun v15 => ?_)
      refine r_iload_n (pc := 200) dX11_isCall_200 rfl 2 rfl ?_
      refine r_icmp_ge (tgt := 208) (pc := 201) dX11_isCall_201 (by decide) ?_ ?_
      · skip
        refine r_iconst (v := (0 : Int32)) (pc := 208) dX11_isCall_208 (by decide) ?_
        exact r_zret (ty := .boolean) (pc := 209) dX11_isCall_209 rfl
      · skip
        refine r_iconst (v := (1 : Int32)) (pc := 204) dX11_isCall_204 (by decide) ?_
        refine r_goto (tgt := 209) (pc := 205) dX11_isCall_205 (by decide) ?_
        exact r_zret (ty := .boolean) (pc := 209) dX11_isCall_209 rfl
    · skip
      refine r_tabC (v := (1 : Int32)) (tgt := 196) (pc := 163) dX11_isCall_163 (by decide) (by decide) rfl (by decide) ?_ (fun c1 => ?_)
      · skip
        refine r_aload_n (pc := 196) dX11_isCall_196 rfl 0 rfl ?_
        refine r_getI (f := 107) (pc := 197) dX11_isCall_197 q2266 (Or.inl rfl) rfl (fun v16 => ?_)
        refine r_iload_n (pc := 200) dX11_isCall_200 rfl 2 rfl ?_
        refine r_icmp_ge (tgt := 208) (pc := 201) dX11_isCall_201 (by decide) ?_ ?_
        · skip
          refine r_iconst (v := (0 : Int32)) (pc := 208) dX11_isCall_208 (by decide) ?_
          exact r_zret (ty := .boolean) (pc := 209) dX11_isCall_209 rfl
        · skip
          refine r_iconst (v := (1 : Int32)) (pc := 204) dX11_isCall_204 (by decide) ?_
          refine r_goto (tgt := 209) (pc := 205) dX11_isCall_205 (by decide) ?_
          exact r_zret (ty := .boolean) (pc := 209) dX11_isCall_209 rfl
      · skip
        refine r_tabC (v := (2 : Int32)) (tgt := 210) (pc := 163) dX11_isCall_163 (by decide) (by decide) rfl (by decide) ?_ (fun c2 => ?_)
        · skip
          refine r_aload_n (pc := 210) dX11_isCall_210 rfl 0 rfl ?_
          refine r_getI (f := 107) (pc := 211) dX11_isCall_211 q2266 (Or.inl rfl) rfl (fun v17 => ?_)
          refine r_iload_n (pc := 214) dX11_isCall_214 rfl 1 rfl ?_
          refine r_icmp_ge (tgt := 222) (pc := 215) dX11_isCall_215 (by decide) ?_ ?_
          · skip
            refine r_iconst (v := (0 : Int32)) (pc := 222) dX11_isCall_222 (by decide) ?_
            exact r_zret (ty := .boolean) (pc := 223) dX11_isCall_223 rfl
          · skip
            refine r_iconst (v := (1 : Int32)) (pc := 218) dX11_isCall_218 (by decide) ?_
            refine r_goto (tgt := 223) (pc := 219) dX11_isCall_219 (by decide) ?_
            exact r_zret (ty := .boolean) (pc := 223) dX11_isCall_223 rfl
        · skip
          refine r_tabC (v := (3 : Int32)) (tgt := 210) (pc := 163) dX11_isCall_163 (by decide) (by decide) rfl (by decide) ?_ (fun c3 => ?_)
          · skip
            refine r_aload_n (pc := 210) dX11_isCall_210 rfl 0 rfl ?_
            refine r_getI (f := 107) (pc := 211) dX11_isCall_211 q2266 (Or.inl rfl) rfl (fun v18 => ?_)
            refine r_iload_n (pc := 214) dX11_isCall_214 rfl 1 rfl ?_
            refine r_icmp_ge (tgt := 222) (pc := 215) dX11_isCall_215 (by decide) ?_ ?_
            · skip
              refine r_iconst (v := (0 : Int32)) (pc := 222) dX11_isCall_222 (by decide) ?_
              exact r_zret (ty := .boolean) (pc := 223) dX11_isCall_223 rfl
            · skip
              refine r_iconst (v := (1 : Int32)) (pc := 218) dX11_isCall_218 (by decide) ?_
              refine r_goto (tgt := 223) (pc := 219) dX11_isCall_219 (by decide) ?_
              exact r_zret (ty := .boolean) (pc := 223) dX11_isCall_223 rfl
          · skip
            refine r_tabC (v := (4 : Int32)) (tgt := 224) (pc := 163) dX11_isCall_163 (by decide) (by decide) rfl (by decide) ?_ (fun c4 => ?_)
            · skip
              refine r_aload_n (pc := 224) dX11_isCall_224 rfl 0 rfl ?_
              refine r_getI (f := 107) (pc := 225) dX11_isCall_225 q2266 (Or.inl rfl) rfl (fun v19 => ?_)
              refine r_iload_n (pc := 228) dX11_isCall_228 rfl 1 rfl ?_
              refine r_icmp_ge (tgt := 263) (pc := 229) dX11_isCall_229 (by decide) ?_ ?_
              · skip
                refine r_iconst (v := (0 : Int32)) (pc := 263) dX11_isCall_263 (by decide) ?_
                exact r_zret (ty := .boolean) (pc := 264) dX11_isCall_264 rfl
              · skip
                refine r_aload_n (pc := 232) dX11_isCall_232 rfl 0 rfl ?_
                refine r_getI (f := 108) (pc := 233) dX11_isCall_233 q2267 (Or.inl rfl) rfl (fun v20 => ?_)
                refine r_iload_n (pc := 236) dX11_isCall_236 rfl 1 rfl ?_
                refine r_icmp_ge (tgt := 263) (pc := 237) dX11_isCall_237 (by decide) ?_ ?_
                · skip
                  refine r_iconst (v := (0 : Int32)) (pc := 263) dX11_isCall_263 (by decide) ?_
                  exact r_zret (ty := .boolean) (pc := 264) dX11_isCall_264 rfl
                · skip
                  refine r_aload_n (pc := 240) dX11_isCall_240 rfl 0 rfl ?_
                  refine r_getI (f := 109) (pc := 241) dX11_isCall_241 q2268 (Or.inl rfl) rfl (fun v21 => ?_)
                  refine r_iload_n (pc := 244) dX11_isCall_244 rfl 2 rfl ?_
                  refine r_icmp_ge (tgt := 263) (pc := 245) dX11_isCall_245 (by decide) ?_ ?_
                  · skip
                    refine r_iconst (v := (0 : Int32)) (pc := 263) dX11_isCall_263 (by decide) ?_
                    exact r_zret (ty := .boolean) (pc := 264) dX11_isCall_264 rfl
                  · skip
                    refine r_aload_n (pc := 248) dX11_isCall_248 rfl 0 rfl ?_
                    refine r_getI (f := 107) (pc := 249) dX11_isCall_249 q2266 (Or.inl rfl) rfl (fun v22 => ?_)
                    refine r_aload_n (pc := 252) dX11_isCall_252 rfl 0 rfl ?_
                    refine r_getI (f := 108) (pc := 253) dX11_isCall_253 q2267 (Or.inl rfl) rfl (fun v23 => ?_)
                    refine r_icmp_eq (tgt := 263) (pc := 256) dX11_isCall_256 (by decide) ?_ ?_
                    · skip
                      refine r_iconst (v := (0 : Int32)) (pc := 263) dX11_isCall_263 (by decide) ?_
                      exact r_zret (ty := .boolean) (pc := 264) dX11_isCall_264 rfl
                    · skip
                      refine r_iconst (v := (1 : Int32)) (pc := 259) dX11_isCall_259 (by decide) ?_
                      refine r_goto (tgt := 264) (pc := 260) dX11_isCall_260 (by decide) ?_
                      exact r_zret (ty := .boolean) (pc := 264) dX11_isCall_264 rfl
            · skip
              refine r_tabD (tgt := 265) (pc := 163) dX11_isCall_163 (by have e0 := lv_neT c0 (a := 0) rfl; have e1 := lv_neT c1 (a := 1) rfl; have e2 := lv_neT c2 (a := 2) rfl; have e3 := lv_neT c3 (a := 3) rfl; have e4 := lv_neT c4 (a := 4) rfl; omega) (by decide) ?_
              refine r_aload_n (pc := 265) dX11_isCall_265 rfl 0 rfl ?_
              refine r_getI (f := 107) (pc := 266) dX11_isCall_266 q2266 (Or.inl rfl) rfl (fun v24 => ?_)
              refine r_iconst (v := (1 : Int32)) (pc := 269) dX11_isCall_269 (by decide) ?_
              refine r_bipush (v := (60 : Int32)) (pc := 270) dX11_isCall_270 (by decide) ?_
              refine r_cI (pc := 272) (rest := []) (run_SN (n := 3) (As := [.int v24, .int (1 : Int32), .int (60 : Int32)]) (rest := []) (t_X1_isIn γ l hl v24 (1 : Int32) (60 : Int32) g13) dX11_isCall_272 mv3220 q1209 q108 q1210 (by decide +kernel) rfl (Nat.le_of_ble_eq_true rfl) (Nat.le_of_ble_eq_true rfl) rfl (Nat.le_of_ble_eq_true rfl)) (fun v26 g25 => ?_)
              exact r_zret (ty := .boolean) (pc := 275) dX11_isCall_275 rfl
  · skip
    refine r_lookC (v := (-1367724422 : Int32)) (tgt := 100) (pc := 34) dX11_isCall_34 rfl rfl (by decide) ?_ (fun c0 => ?_)
    · skip
      refine r_aload (pc := 100) dX11_isCall_100 1 rfl ?_
      refine r_ldcS (pc := 102) dX11_isCall_102 (List.mem_of_getElem? (i := 3) rfl) ?_
      refine r_cI (pc := 104) (rest := []) (RunOK_chk (fun h => run_V (n := 1) (c9 := 7) (As := [.ref (γ.1 15)]) (rest := []) (t_J7_equals γ l hl v9 (γ.1 15) g10) dX11_isCall_104 q2344 q2345 q2346 q119 q2347 (by decide +kernel) rfl h ⟨rfl, by decide, by decide⟩ (Nat.le_of_ble_eq_true rfl) (Nat.le_of_ble_eq_true rfl) rfl (Nat.le_of_ble_eq_true rfl))) (fun v28 g27 => ?_)
      refine r_if_eq (tgt := 161) (pc := 107) dX11_isCall_107 (by decide) ?_ ?_
      · skip
        refine AW_sub [4, 3, 2, 0] rfl ?_
        exact h_j14 (-1 : Int32) g27
      · skip
        refine r_iconst (v := (1 : Int32)) (pc := 110) dX11_isCall_110 (by decide) ?_
        refine r_istore (pc := 111) dX11_isCall_111 (Nat.le_of_ble_eq_true rfl) rfl ?_
        refine r_goto (tgt := 161) (pc := 113) dX11_isCall_113 (by decide) ?_
        refine AW_sub [4, 3, 2, 0] rfl ?_
        exact h_j14 (1 : Int32) g27
    · skip
      refine r_lookC (v := (96889 : Int32)) (tgt := 84) (pc := 34) dX11_isCall_34 rfl rfl (by decide) ?_ (fun c1 => ?_)
      · skip
        refine r_aload (pc := 84) dX11_isCall_84 1 rfl ?_
        refine r_ldcS (pc := 86) dX11_isCall_86 (List.mem_of_getElem? (i := 2) rfl) ?_
        refine r_cI (pc := 88) (rest := []) (RunOK_chk (fun h => run_V (n := 1) (c9 := 7) (As := [.ref (γ.1 14)]) (rest := []) (t_J7_equals γ l hl v9 (γ.1 14) g10) dX11_isCall_88 q2344 q2345 q2346 q119 q2347 (by decide +kernel) rfl h ⟨rfl, by decide, by decide⟩ (Nat.le_of_ble_eq_true rfl) (Nat.le_of_ble_eq_true rfl) rfl (Nat.le_of_ble_eq_true rfl))) (fun v30 g29 => ?_)
        refine r_if_eq (tgt := 161) (pc := 91) dX11_isCall_91 (by decide) ?_ ?_
        · skip
          refine AW_sub [4, 3, 2, 0] rfl ?_
          exact h_j14 (-1 : Int32) g29
        · skip
          refine r_iconst (v := (0 : Int32)) (pc := 94) dX11_isCall_94 (by decide) ?_
          refine r_istore (pc := 95) dX11_isCall_95 (Nat.le_of_ble_eq_true rfl) rfl ?_
          refine r_goto (tgt := 161) (pc := 97) dX11_isCall_97 (by decide) ?_
          refine AW_sub [4, 3, 2, 0] rfl ?_
          exact h_j14 (0 : Int32) g29
      · skip
        refine r_lookC (v := (3641764 : Int32)) (tgt := 132) (pc := 34) dX11_isCall_34 rfl rfl (by decide) ?_ (fun c2 => ?_)
        · skip
          refine r_aload (pc := 132) dX11_isCall_132 1 rfl ?_
          refine r_ldcS (pc := 134) dX11_isCall_134 (List.mem_of_getElem? (i := 5) rfl) ?_
          refine r_cI (pc := 136) (rest := []) (RunOK_chk (fun h => run_V (n := 1) (c9 := 7) (As := [.ref (γ.1 17)]) (rest := []) (t_J7_equals γ l hl v9 (γ.1 17) g10) dX11_isCall_136 q2344 q2345 q2346 q119 q2347 (by decide +kernel) rfl h ⟨rfl, by decide, by decide⟩ (Nat.le_of_ble_eq_true rfl) (Nat.le_of_ble_eq_true rfl) rfl (Nat.le_of_ble_eq_true rfl))) (fun v32 g31 => ?_)
          refine r_if_eq (tgt := 161) (pc := 139) dX11_isCall_139 (by decide) ?_ ?_
          · skip
            refine AW_sub [4, 3, 2, 0] rfl ?_
            exact h_j14 (-1 : Int32) g31
          · skip
            refine r_iconst (v := (3 : Int32)) (pc := 142) dX11_isCall_142 (by decide) ?_
            refine r_istore (pc := 143) dX11_isCall_143 (Nat.le_of_ble_eq_true rfl) rfl ?_
            refine r_goto (tgt := 161) (pc := 145) dX11_isCall_145 (by decide) ?_
            refine AW_sub [4, 3, 2, 0] rfl ?_
            exact h_j14 (3 : Int32) g31
        · skip
          refine r_lookC (v := (97193300 : Int32)) (tgt := 116) (pc := 34) dX11_isCall_34 rfl rfl (by decide) ?_ (fun c3 => ?_)
          · skip
            refine r_aload (pc := 116) dX11_isCall_116 1 rfl ?_
            refine r_ldcS (pc := 118) dX11_isCall_118 (List.mem_of_getElem? (i := 4) rfl) ?_
            refine r_cI (pc := 120) (rest := []) (RunOK_chk (fun h => run_V (n := 1) (c9 := 7) (As := [.ref (γ.1 16)]) (rest := []) (t_J7_equals γ l hl v9 (γ.1 16) g10) dX11_isCall_120 q2344 q2345 q2346 q119 q2347 (by decide +kernel) rfl h ⟨rfl, by decide, by decide⟩ (Nat.le_of_ble_eq_true rfl) (Nat.le_of_ble_eq_true rfl) rfl (Nat.le_of_ble_eq_true rfl))) (fun v34 g33 => ?_)
            refine r_if_eq (tgt := 161) (pc := 123) dX11_isCall_123 (by decide) ?_ ?_
            · skip
              refine AW_sub [4, 3, 2, 0] rfl ?_
              exact h_j14 (-1 : Int32) g33
            · skip
              refine r_iconst (v := (2 : Int32)) (pc := 126) dX11_isCall_126 (by decide) ?_
              refine r_istore (pc := 127) dX11_isCall_127 (Nat.le_of_ble_eq_true rfl) rfl ?_
              refine r_goto (tgt := 161) (pc := 129) dX11_isCall_129 (by decide) ?_
              refine AW_sub [4, 3, 2, 0] rfl ?_
              exact h_j14 (2 : Int32) g33
          · skip
            refine r_lookC (v := (102846020 : Int32)) (tgt := 148) (pc := 34) dX11_isCall_34 rfl rfl (by decide) ?_ (fun c4 => ?_)
            · skip
              refine r_aload (pc := 148) dX11_isCall_148 1 rfl ?_
              refine r_ldcS (pc := 150) dX11_isCall_150 (List.mem_of_getElem? (i := 6) rfl) ?_
              refine r_cI (pc := 152) (rest := []) (RunOK_chk (fun h => run_V (n := 1) (c9 := 7) (As := [.ref (γ.1 18)]) (rest := []) (t_J7_equals γ l hl v9 (γ.1 18) g10) dX11_isCall_152 q2344 q2345 q2346 q119 q2347 (by decide +kernel) rfl h ⟨rfl, by decide, by decide⟩ (Nat.le_of_ble_eq_true rfl) (Nat.le_of_ble_eq_true rfl) rfl (Nat.le_of_ble_eq_true rfl))) (fun v36 g35 => ?_)
              refine r_if_eq (tgt := 161) (pc := 155) dX11_isCall_155 (by decide) ?_ ?_
              · skip
                refine AW_sub [4, 3, 2, 0] rfl ?_
                exact h_j14 (-1 : Int32) g35
              · skip
                refine r_iconst (v := (4 : Int32)) (pc := 158) dX11_isCall_158 (by decide) ?_
                refine r_istore (pc := 159) dX11_isCall_159 (Nat.le_of_ble_eq_true rfl) rfl ?_
                refine AW_sub [4, 3, 2, 0] rfl ?_
                exact h_j14 (4 : Int32) g35
            · skip
              refine r_lookD (tgt := 161) (pc := 34) dX11_isCall_34 rfl (by refine (lv_osw c0 rfl).trans ?_; refine (lv_osw c1 rfl).trans ?_; refine (lv_osw c2 rfl).trans ?_; refine (lv_osw c3 rfl).trans ?_; refine (lv_osw c4 rfl).trans ?_; rfl) (by decide) ?_
              refine AW_sub [4, 3, 2, 0] rfl ?_
              exact h_j14 (-1 : Int32) g10
abbrev ck_X1_carriedOut : CK := ("BanquetVotes", prog_1_method_38_code, 7, (some (.object "BanquetVotes$Kitchen")), "carriedOut", [(40, 59, 62, 1)], 15)
def f_X1_carriedOut_L18 (γ : GP) (x2 : Nat) (x4 : Nat) : Nat → Int32 → AH → Option ((Nat × AH) ⊕ (Nat × AH))
  | 0, _, _ => none
  | n + 1, x3, g => bI ((if hK g x4 = 10 then f_J13_hasNext γ x4 g else if hK g x4 = 13 then f_J24_hasNext γ x4 g else if hK g x4 = 17 then f_J29_hasNext γ x4 g else if hK g x4 = 18 then f_J29_hasNext γ x4 g else none)) fun v7 g6 => (if v7 = 0 then (some (.inl (x2, g6))) else bR ((if hK g6 x4 = 10 then f_J13_next γ x4 g6 else if hK g6 x4 = 13 then f_J24_next γ x4 g6 else if hK g6 x4 = 17 then f_J31_next γ x4 g6 else if hK g6 x4 = 18 then f_J32_next γ x4 g6 else none)) fun v9 g8 => gC g8 [27] v9 (bI ((if hK g8 v9 = 27 then f_X11_isCall γ v9 x2 g8 else none)) fun v11 g10 => bXV (f_X1_meet γ v11 (13 : Int32) x3 g10) (fun e13 g14 => (if hK g14 e13 = 24 then mO g14 24 fun q15 g16 => bV ((if q15 ≠ 0 then f_X10_init γ q15 (13 : Int32) x3 g16 else none)) fun g17 => (tw γ g17 q15 (thr q15 g17)) else none)) fun g12 => bXI ((if hK g12 v9 = 27 then f_X11_does γ v9 x2 g12 else none)) (fun e20 g21 => (if hK g21 e20 = 24 then mO g21 24 fun q22 g23 => bV ((if q22 ≠ 0 then f_X10_init γ q22 (13 : Int32) x3 g23 else none)) fun g24 => (tw γ g24 q22 (thr q22 g24)) else none)) fun v19 g18 => f_X1_carriedOut_L18 γ x2 x4 n (x3 + (1 : Int32)) g18))
def f_X1_carriedOut (γ : GP) (x0 : Nat) (x1 : Nat) (g : AH) : Option ((Nat × AH) ⊕ (Nat × AH)) := gR g x0 0 fun v1 => bR ((if hK g v1 = 2 then f_X2_copy γ v1 g else none)) fun v3 g2 => bR ((if hK g2 x1 = 3 then f_J2_iterator γ x1 g2 else none)) fun v5 g4 => f_X1_carriedOut_L18 γ v3 v5 FU (0 : Int32) g4
theorem f_X1_carriedOut_L18_w (γ : GP) (l : Launch) (hl : l.stackTraces = false) (G0 : AH) (x2 : Nat) (x4 : Nat) : ∀ (n : Nat) (x3 : Int32) (g : AH), AW (ρX ρR) γ l ck_X1_carriedOut G0 18 [(2, .ref x2), (3, .int x3), (4, .ref x4)] [] g (f_X1_carriedOut_L18 γ x2 x4 n x3 g) := by
  intro n
  induction n with
  | zero => intro x3 g; exact AW_none
  | succ n ih =>
    intro x3 g
    unfold f_X1_carriedOut_L18
    refine r_aload (pc := 18) dX1_carriedOut_18 2 rfl ?_
    refine r_cI (pc := 20) (rest := []) (RunOK_if (fun h => run_F (n := 0) (c9 := 10) (As := []) (rest := []) (t_J13_hasNext γ l hl x4 g) dX1_carriedOut_20 q3209 q800 q802 q126 q804 (by decide +kernel) (by decide +kernel) rfl h ⟨by decide, by decide⟩ (Nat.le_of_ble_eq_true rfl) (Nat.le_of_ble_eq_true rfl) rfl (Nat.le_of_ble_eq_true rfl)) (RunOK_if (fun h => run_F (n := 0) (c9 := 13) (As := []) (rest := []) (t_J24_hasNext γ l hl x4 g) dX1_carriedOut_20 q3209 q809 q811 q139 q813 (by decide +kernel) (by decide +kernel) rfl h ⟨by decide, by decide⟩ (Nat.le_of_ble_eq_true rfl) (Nat.le_of_ble_eq_true rfl) rfl (Nat.le_of_ble_eq_true rfl)) (RunOK_if (fun h => run_F (n := 0) (c9 := 17) (As := []) (rest := []) (t_J29_hasNext γ l hl x4 g) dX1_carriedOut_20 q3209 q821 q817 q145 q819 (by decide +kernel) (by decide +kernel) rfl h ⟨by decide, by decide⟩ (Nat.le_of_ble_eq_true rfl) (Nat.le_of_ble_eq_true rfl) rfl (Nat.le_of_ble_eq_true rfl)) (RunOK_chk (fun h => run_F (n := 0) (c9 := 18) (As := []) (rest := []) (t_J29_hasNext γ l hl x4 g) dX1_carriedOut_20 q3209 q824 q817 q145 q819 (by decide +kernel) (by decide +kernel) rfl h ⟨by decide, by decide⟩ (Nat.le_of_ble_eq_true rfl) (Nat.le_of_ble_eq_true rfl) rfl (Nat.le_of_ble_eq_true rfl)))))) (fun v7 g6 => ?_)
    refine r_if_eq (tgt := 81) (pc := 25) dX1_carriedOut_25 (by decide) ?_ ?_
    · skip
      refine r_aload_n (pc := 81) dX1_carriedOut_81 rfl 0 rfl ?_
      exact r_inl (fun _ => rfl) (r_aret (pc := 82) dX1_carriedOut_82 rfl (by first | exact Or.inl ⟨_, rfl⟩ | exact Or.inr ⟨_, rfl⟩))
    · skip
      refine r_aload (pc := 28) dX1_carriedOut_28 2 rfl ?_
      refine r_cR (pc := 30) (rest := []) (RunOK_if (fun h => run_F (n := 0) (c9 := 10) (As := []) (rest := []) (t_J13_next γ l hl x4 g6) dX1_carriedOut_30 q3211 q991 q993 q126 q995 (by decide +kernel) (by decide +kernel) rfl h ⟨by decide, by decide⟩ (Nat.le_of_ble_eq_true rfl) (Nat.le_of_ble_eq_true rfl) rfl (Nat.le_of_ble_eq_true rfl)) (RunOK_if (fun h => run_F (n := 0) (c9 := 13) (As := []) (rest := []) (t_J24_next γ l hl x4 g6) dX1_carriedOut_30 q3211 q1015 q1017 q139 q1019 (by decide +kernel) (by decide +kernel) rfl h ⟨by decide, by decide⟩ (Nat.le_of_ble_eq_true rfl) (Nat.le_of_ble_eq_true rfl) rfl (Nat.le_of_ble_eq_true rfl)) (RunOK_if (fun h => run_F (n := 0) (c9 := 17) (As := []) (rest := []) (t_J31_next γ l hl x4 g6) dX1_carriedOut_30 q3211 q1047 q1049 q147 q1051 (by decide +kernel) (by decide +kernel) rfl h ⟨by decide, by decide⟩ (Nat.le_of_ble_eq_true rfl) (Nat.le_of_ble_eq_true rfl) rfl (Nat.le_of_ble_eq_true rfl)) (RunOK_chk (fun h => run_F (n := 0) (c9 := 18) (As := []) (rest := []) (t_J32_next γ l hl x4 g6) dX1_carriedOut_30 q3211 q1055 q1057 q148 q1059 (by decide +kernel) (by decide +kernel) rfl h ⟨by decide, by decide⟩ (Nat.le_of_ble_eq_true rfl) (Nat.le_of_ble_eq_true rfl) rfl (Nat.le_of_ble_eq_true rfl)))))) (fun v9 g8 => ?_)
      refine r_cast_ (L := [27]) (pc := 35) dX1_carriedOut_35 q2259 (List.forall_mem_cons.mpr ⟨⟨by decide, by decide, Or.inl rfl⟩, (fun _ h => absurd h List.not_mem_nil)⟩) ?_
      refine r_astore (pc := 38) dX1_carriedOut_38 (Nat.le_of_ble_eq_true rfl) rfl ?_
      refine r_aload (pc := 40) dX1_carriedOut_40 0 rfl ?_
      refine r_aload_n (pc := 42) dX1_carriedOut_42 rfl 1 rfl ?_
      refine r_cI (pc := 43) (rest := []) (RunOK_chk (fun h => run_V (n := 1) (c9 := 27) (As := [.ref x2]) (rest := []) (t_X11_isCall γ l hl v9 x2 g8) dX1_carriedOut_43 q3212 q3213 q3214 q165 q3215 (by decide +kernel) rfl h ⟨rfl, by decide, by decide⟩ (Nat.le_of_ble_eq_true rfl) (Nat.le_of_ble_eq_true rfl) rfl (Nat.le_of_ble_eq_true rfl))) (fun v11 g10 => ?_)
      refine r_bipush (v := (13 : Int32)) (pc := 46) dX1_carriedOut_46 (by decide) ?_
      refine r_iload_n (pc := 48) dX1_carriedOut_48 rfl 2 rfl ?_
      refine r_cXV (pc := 49) (rest := []) (run_S (n := 3) (As := [.int v11, .int (13 : Int32), .int x3]) (rest := []) (t_X1_meet γ l hl v11 (13 : Int32) x3 g10) dX1_carriedOut_49 q3221 q1898 q108 q1899 (by decide +kernel) rfl (Nat.le_of_ble_eq_true rfl) (Nat.le_of_ble_eq_true rfl) rfl (Nat.le_of_ble_eq_true rfl)) (fun e13 g14 => ?_) (fun g12 => ?_)
      · skip
        refine AX_if (fun hc => ?_) (fun _ => ?_)
        · refine x_catch [] (40, 59, 62, 1) [] rfl hc ((fun _ h => absurd h List.not_mem_nil)) (by decide) (by decide) q1207 mv1901 ?_
          refine r_astore (pc := 62) dX1_carriedOut_62 (Nat.le_of_ble_eq_true rfl) rfl ?_
          refine r_new (c := 24) (pc := 64) dX1_carriedOut_64 q1207 (by decide) (by decide) (fun q15 g16 => ?_)
          refine r_dup (pc := 67) dX1_carriedOut_67 rfl ?_
          refine r_bipush (v := (13 : Int32)) (pc := 68) dX1_carriedOut_68 (by decide) ?_
          refine r_iload_n (pc := 70) dX1_carriedOut_70 rfl 3 rfl ?_
          refine r_cV (pc := 71) (rest := [.ref q15]) (RunOK_chk (fun h => run_I (n := 2) (As := [.int (13 : Int32), .int x3]) (rest := [.ref q15]) (t_X10_init γ l hl q15 (13 : Int32) x3 g16) dX1_carriedOut_71 q1908 q1909 q161 q1910 rfl (by decide +kernel) rfl h (Nat.le_of_ble_eq_true rfl) (Nat.le_of_ble_eq_true rfl) rfl (Nat.le_of_ble_eq_true rfl))) (fun g17 => ?_)
          refine r_athrow (pc := 74) dX1_carriedOut_74 ?_
          exact x_out (by decide)
        · skip
          exact fun r h => by cases h
      · skip
        refine r_aload (pc := 52) dX1_carriedOut_52 0 rfl ?_
        refine r_aload_n (pc := 54) dX1_carriedOut_54 rfl 1 rfl ?_
        refine r_cXI (pc := 55) (rest := []) (RunOK_chk (fun h => run_V (n := 1) (c9 := 27) (As := [.ref x2]) (rest := []) (t_X11_does γ l hl v9 x2 g12) dX1_carriedOut_55 q2278 q2279 q2280 q165 q2281 (by decide +kernel) rfl h ⟨rfl, by decide, by decide⟩ (Nat.le_of_ble_eq_true rfl) (Nat.le_of_ble_eq_true rfl) rfl (Nat.le_of_ble_eq_true rfl))) (fun e20 g21 => ?_) (fun v19 g18 => ?_)
        · skip
          refine AX_if (fun hc => ?_) (fun _ => ?_)
          · refine x_catch [] (40, 59, 62, 1) [] rfl hc ((fun _ h => absurd h List.not_mem_nil)) (by decide) (by decide) q1207 mv1901 ?_
            refine r_astore (pc := 62) dX1_carriedOut_62 (Nat.le_of_ble_eq_true rfl) rfl ?_
            refine r_new (c := 24) (pc := 64) dX1_carriedOut_64 q1207 (by decide) (by decide) (fun q22 g23 => ?_)
            refine r_dup (pc := 67) dX1_carriedOut_67 rfl ?_
            refine r_bipush (v := (13 : Int32)) (pc := 68) dX1_carriedOut_68 (by decide) ?_
            refine r_iload_n (pc := 70) dX1_carriedOut_70 rfl 3 rfl ?_
            refine r_cV (pc := 71) (rest := [.ref q22]) (RunOK_chk (fun h => run_I (n := 2) (As := [.int (13 : Int32), .int x3]) (rest := [.ref q22]) (t_X10_init γ l hl q22 (13 : Int32) x3 g23) dX1_carriedOut_71 q1908 q1909 q161 q1910 rfl (by decide +kernel) rfl h (Nat.le_of_ble_eq_true rfl) (Nat.le_of_ble_eq_true rfl) rfl (Nat.le_of_ble_eq_true rfl))) (fun g24 => ?_)
            refine r_athrow (pc := 74) dX1_carriedOut_74 ?_
            exact x_out (by decide)
          · skip
            exact fun r h => by cases h
        · skip
          refine r_pop (pc := 58) dX1_carriedOut_58 rfl ?_
          refine r_goto (tgt := 75) (pc := 59) dX1_carriedOut_59 (by decide) ?_
          refine r_iinc (j := 2) (v := (x3 + (1 : Int32))) (pc := 75) dX1_carriedOut_75 rfl rfl (Nat.le_of_ble_eq_true rfl) rfl ?_
          refine r_goto (tgt := 18) (pc := 78) dX1_carriedOut_78 (by decide) ?_
          refine AW_sub [2, 0, 3] rfl ?_
          exact ih (x3 + (1 : Int32)) g18
theorem t_X1_carriedOut (γ : GP) (l : Launch) (hl : l.stackTraces = false) (x0 : Nat) (x1 : Nat) (g : AH) : TrM (ρX ρR) γ l ⟨"BanquetVotes", "carriedOut", "(Ljava/util/List;)LBanquetVotes$Kitchen;"⟩ (wsW_ ⟨"BanquetVotes", "carriedOut", "(Ljava/util/List;)LBanquetVotes$Kitchen;"⟩ prog_1_method_38_code 7 (some (.object "BanquetVotes$Kitchen")) [(40, 59, 62, 1)]) 15 [.ref x0, .ref x1] g (f_X1_carriedOut γ x0 x1 g) := by
  refine TrM_ofH (by decide) (Nat.le_of_ble_eq_true rfl) ?_
  unfold f_X1_carriedOut
  change AW (ρX ρR) γ l ck_X1_carriedOut g 0 [(0, .ref x0), (1, .ref x1)] [] g _
  refine r_aload_n (pc := 0) dX1_carriedOut_0 rfl 0 rfl ?_
  refine r_getR (f := 0) (pc := 1) dX1_carriedOut_1 q320 (Or.inl rfl) rfl (fun v1 => ?_)
  refine r_cR (pc := 4) (rest := []) (RunOK_chk (fun h => run_V (n := 0) (c9 := 2) (As := []) (rest := []) (t_X2_copy γ l hl v1 g) dX1_carriedOut_4 q1219 q1220 q1221 q109 q1222 (by decide +kernel) rfl h ⟨rfl, by decide, by decide⟩ (Nat.le_of_ble_eq_true rfl) (Nat.le_of_ble_eq_true rfl) rfl (Nat.le_of_ble_eq_true rfl))) (fun v3 g2 => ?_)
  refine r_astore_n (pc := 7) dX1_carriedOut_7 rfl (Nat.le_of_ble_eq_true rfl) rfl ?_
  refine r_iconst (v := (0 : Int32)) (pc := 8) dX1_carriedOut_8 (by decide) ?_
  refine r_istore_n (pc := 9) dX1_carriedOut_9 rfl (Nat.le_of_ble_eq_true rfl) rfl ?_
  refine r_aload_n (pc := 10) dX1_carriedOut_10 rfl 3 rfl ?_
  refine r_cR (pc := 11) (rest := []) (RunOK_chk (fun h => run_F (n := 0) (c9 := 3) (As := []) (rest := []) (t_J2_iterator γ l hl x1 g2) dX1_carriedOut_11 q3207 q358 q360 q112 q362 (by decide +kernel) (by decide +kernel) rfl h ⟨by decide, by decide⟩ (Nat.le_of_ble_eq_true rfl) (Nat.le_of_ble_eq_true rfl) rfl (Nat.le_of_ble_eq_true rfl))) (fun v5 g4 => ?_)
  refine r_astore (pc := 16) dX1_carriedOut_16 (Nat.le_of_ble_eq_true rfl) rfl ?_
  refine AW_sub [2, 1, 0] rfl ?_
  refine f_X1_carriedOut_L18_w γ l hl _ v3 v5 FU (0 : Int32) g4
abbrev ck_X18_position : CK := ("BanquetVotes$TextError", prog_21_method_2_code, 1, (some .int), "position", [], 1)
def f_X18_position (γ : GP) (x0 : Nat) (g : AH) : Option (Int32 × AH) := gI g x0 129 fun v1 => (some (v1, g))
theorem t_X18_position (γ : GP) (l : Launch) (hl : l.stackTraces = false) (x0 : Nat) (g : AH) : TrM ρI γ l ⟨"BanquetVotes$TextError", "position", "()I"⟩ (ws_ ⟨"BanquetVotes$TextError", "position", "()I"⟩ prog_21_method_2_code 1 (some .int)) 1 [.ref x0] g (f_X18_position γ x0 g) := by
  refine TrM_of (plainFor_of_name (by decide)) (Nat.le_of_ble_eq_true rfl) ?_
  unfold f_X18_position
  change AW ρI γ l ck_X18_position g 0 [(0, .ref x0)] [] g _
  refine r_aload_n (pc := 0) dX18_position_0 rfl 0 rfl ?_
  refine r_getI (f := 129) (pc := 1) dX18_position_1 q3168 (Or.inl rfl) rfl (fun v1 => ?_)
  exact r_iret (pc := 4) dX18_position_4 rfl
abbrev ck_X1_read : CK := ("BanquetVotes", prog_1_method_39_code, 3, (some .int), "read", [(16, 43, 44, 365), (16, 43, 61, 1)], 16)
def f_X1_read (γ : GP) (x0 : Nat) (g : AH) : Option ((Int32 × AH) ⊕ (Nat × AH)) := gR g x0 3 fun v1 => bR ((if hK g v1 = 6 then f_J6_toString γ v1 g else none)) fun v3 g2 => gR g2 x0 3 fun v4 => bV ((if hK g2 v4 = 6 then f_J6_setLength γ v4 (0 : Int32) g2 else none)) fun g5 => mO g5 34 fun q6 g7 => bV ((if q6 ≠ 0 then f_X17_init γ q6 v3 g7 else none)) fun g8 => bXR ((if hK g8 q6 = 34 then f_X17_commands γ q6 g8 else none)) (fun e11 g12 => (if hK g12 e11 = 35 then bI ((if hK g12 e11 = 35 then f_X18_position γ e11 g12 else none)) fun v14 g13 => pI γ g13 x0 4 v14 fun g15 => mO g15 9 fun q16 g17 => bV ((if q16 ≠ 0 then f_J12_init_2 γ q16 g17 else none)) fun g18 => (tw γ g18 q16 (thr q16 g18)) else none)) fun v10 g9 => bXR ((if hK g9 x0 = 1 then f_X1_carriedOut γ x0 v10 g9 else none)) (fun e21 g22 => (if hK g22 e21 = 24 then bR ((if hK g22 x0 = 1 then f_X1_refused γ x0 e21 g22 else none)) fun v24 g23 => (tw γ g23 v24 (thr v24 g23)) else none)) fun v20 g19 => bI ((if hK g19 v10 = 3 then f_J2_size γ v10 g19 else if hK g19 v10 = 5 then f_J4_size γ v10 g19 else none)) fun v26 g25 => bI ((if hK g25 x0 = 1 then f_X1_become γ x0 v20 v26 g25 else none)) fun v28 g27 => (some (.inl (v28, g27)))
theorem t_X1_read (γ : GP) (l : Launch) (hl : l.stackTraces = false) (x0 : Nat) (g : AH) : TrM (ρX ρI) γ l ⟨"BanquetVotes", "read", "()I"⟩ (wsW_ ⟨"BanquetVotes", "read", "()I"⟩ prog_1_method_39_code 3 (some .int) [(16, 43, 44, 365), (16, 43, 61, 1)]) 16 [.ref x0] g (f_X1_read γ x0 g) := by
  refine TrM_ofH (by decide) (Nat.le_of_ble_eq_true rfl) ?_
  unfold f_X1_read
  change AW (ρX ρI) γ l ck_X1_read g 0 [(0, .ref x0)] [] g _
  refine r_aload_n (pc := 0) dX1_read_0 rfl 0 rfl ?_
  refine r_getR (f := 3) (pc := 1) dX1_read_1 q323 (Or.inl rfl) rfl (fun v1 => ?_)
  refine r_cR (pc := 4) (rest := []) (RunOK_chk (fun h => run_V (n := 0) (c9 := 6) (As := []) (rest := []) (t_J6_toString γ l hl v1 g) dX1_read_4 q2951 q608 q609 q118 q610 (by decide +kernel) rfl h ⟨rfl, by decide, by decide⟩ (Nat.le_of_ble_eq_true rfl) (Nat.le_of_ble_eq_true rfl) rfl (Nat.le_of_ble_eq_true rfl))) (fun v3 g2 => ?_)
  refine r_astore_n (pc := 7) dX1_read_7 rfl (Nat.le_of_ble_eq_true rfl) rfl ?_
  refine r_aload_n (pc := 8) dX1_read_8 rfl 1 rfl ?_
  refine r_getR (f := 3) (pc := 9) dX1_read_9 q323 (Or.inl rfl) rfl (fun v4 => ?_)
  refine r_iconst (v := (0 : Int32)) (pc := 12) dX1_read_12 (by decide) ?_
  refine r_cV (pc := 13) (rest := []) (RunOK_chk (fun h => run_V (n := 1) (c9 := 6) (As := [.int (0 : Int32)]) (rest := []) (t_J6_setLength γ l hl v4 (0 : Int32) g2) dX1_read_13 q2952 q2953 q2954 q118 q2955 (by decide +kernel) rfl h ⟨rfl, by decide, by decide⟩ (Nat.le_of_ble_eq_true rfl) (Nat.le_of_ble_eq_true rfl) rfl (Nat.le_of_ble_eq_true rfl))) (fun g5 => ?_)
  refine r_new (c := 34) (pc := 16) dX1_read_16 q3004 (by decide) (by decide) (fun q6 g7 => ?_)
  refine r_dup (pc := 19) dX1_read_19 rfl ?_
  refine r_aload_n (pc := 20) dX1_read_20 rfl 0 rfl ?_
  refine r_cV (pc := 21) (rest := [.ref q6]) (RunOK_chk (fun h => run_I (n := 1) (As := [.ref v3]) (rest := [.ref q6]) (t_X17_init γ l hl q6 v3 g7) dX1_read_21 q3006 q3007 q175 q3008 rfl (by decide +kernel) rfl h (Nat.le_of_ble_eq_true rfl) (Nat.le_of_ble_eq_true rfl) rfl (Nat.le_of_ble_eq_true rfl))) (fun g8 => ?_)
  refine r_cXR (pc := 24) (rest := []) (RunOK_chk (fun h => run_V (n := 0) (c9 := 34) (As := []) (rest := []) (t_X17_commands γ l hl q6 g8) dX1_read_24 q3017 q3018 q3019 q175 q3020 (by decide +kernel) rfl h ⟨rfl, by decide, by decide⟩ (Nat.le_of_ble_eq_true rfl) (Nat.le_of_ble_eq_true rfl) rfl (Nat.le_of_ble_eq_true rfl))) (fun e11 g12 => ?_) (fun v10 g9 => ?_)
  · skip
    refine AX_if (fun hc => ?_) (fun _ => ?_)
    · refine x_catch [] (16, 43, 44, 365) [(16, 43, 61, 1)] rfl hc ((fun _ h => absurd h List.not_mem_nil)) (by decide) (by decide) q2950 mv3157 ?_
      refine r_astore_n (pc := 44) dX1_read_44 rfl (Nat.le_of_ble_eq_true rfl) rfl ?_
      refine r_aload_n (pc := 45) dX1_read_45 rfl 2 rfl ?_
      refine r_aload_n (pc := 46) dX1_read_46 rfl 0 rfl ?_
      refine r_cI (pc := 47) (rest := [.ref x0]) (RunOK_chk (fun h => run_V (n := 0) (c9 := 35) (As := []) (rest := [.ref x0]) (t_X18_position γ l hl e11 g12) dX1_read_47 q3222 q3223 q3224 q176 q3225 (by decide +kernel) rfl h ⟨rfl, by decide, by decide⟩ (Nat.le_of_ble_eq_true rfl) (Nat.le_of_ble_eq_true rfl) rfl (Nat.le_of_ble_eq_true rfl))) (fun v14 g13 => ?_)
      refine r_putI (f := 4) (pc := 50) dX1_read_50 q324 (Or.inl rfl) (Or.inl rfl) rfl (fun g15 => ?_)
      refine r_new (c := 9) (pc := 53) dX1_read_53 q1214 (by decide) (by decide) (fun q16 g17 => ?_)
      refine r_dup (pc := 56) dX1_read_56 rfl ?_
      refine r_cV (pc := 57) (rest := [.ref q16]) (RunOK_chk (fun h => run_I (n := 0) (As := []) (rest := [.ref q16]) (t_J12_init_2 γ l hl q16 g17) dX1_read_57 q1215 q1216 q125 q1217 rfl (by decide +kernel) rfl h (Nat.le_of_ble_eq_true rfl) (Nat.le_of_ble_eq_true rfl) rfl (Nat.le_of_ble_eq_true rfl))) (fun g18 => ?_)
      refine r_athrow (pc := 60) dX1_read_60 ?_
      exact x_out (by decide)
    · skip
      exact fun r h => by cases h
  · skip
    refine r_astore_n (pc := 27) dX1_read_27 rfl (Nat.le_of_ble_eq_true rfl) rfl ?_
    refine r_aload_n (pc := 28) dX1_read_28 rfl 2 rfl ?_
    refine r_aload_n (pc := 29) dX1_read_29 rfl 2 rfl ?_
    refine r_aload_n (pc := 30) dX1_read_30 rfl 0 rfl ?_
    refine r_cXR (pc := 31) (rest := [.ref x0]) (RunOK_chk (fun h => run_VX (n := 1) (c9 := 1) (As := [.ref v10]) (rest := [.ref x0]) (t_X1_carriedOut γ l hl x0 v10 g9) dX1_read_31 q3202 q3204 qs50 q108 q3205 (by decide +kernel) rfl h ⟨rfl, by decide, by decide⟩ (Nat.le_of_ble_eq_true rfl) (Nat.le_of_ble_eq_true rfl) rfl (Nat.le_of_ble_eq_true rfl))) (fun e21 g22 => ?_) (fun v20 g19 => ?_)
    · skip
      refine AX_if (fun hc => ?_) (fun _ => ?_)
      · refine x_catch [((16, 43, 44, 365), "BanquetVotes$TextError")] (16, 43, 61, 1) [] rfl hc (List.forall_mem_cons.mpr ⟨⟨by decide, q2950, by decide +kernel⟩, (fun _ h => absurd h List.not_mem_nil)⟩) (by decide) (by decide) q1207 mv1901 ?_
        refine r_astore_n (pc := 61) dX1_read_61 rfl (Nat.le_of_ble_eq_true rfl) rfl ?_
        refine r_aload_n (pc := 62) dX1_read_62 rfl 2 rfl ?_
        refine r_aload_n (pc := 63) dX1_read_63 rfl 0 rfl ?_
        refine r_cR (pc := 64) (rest := []) (RunOK_chk (fun h => run_V (n := 1) (c9 := 1) (As := [.ref e21]) (rest := []) (t_X1_refused γ l hl x0 e21 g22) dX1_read_64 q1945 q1947 qs19 q108 q1948 (by decide +kernel) rfl h ⟨rfl, by decide, by decide⟩ (Nat.le_of_ble_eq_true rfl) (Nat.le_of_ble_eq_true rfl) rfl (Nat.le_of_ble_eq_true rfl))) (fun v24 g23 => ?_)
        refine r_athrow (pc := 67) dX1_read_67 ?_
        exact x_out (by decide)
      · skip
        exact fun r h => by cases h
    · skip
      refine r_aload_n (pc := 34) dX1_read_34 rfl 0 rfl ?_
      refine r_cI (pc := 35) (rest := [.ref v20, .ref x0]) (RunOK_if (fun h => run_F (n := 0) (c9 := 3) (As := []) (rest := [.ref v20, .ref x0]) (t_J2_size γ l hl v10 g19) dX1_read_35 q2004 q1891 q794 q112 q795 (by decide +kernel) (by decide +kernel) rfl h ⟨by decide, by decide⟩ (Nat.le_of_ble_eq_true rfl) (Nat.le_of_ble_eq_true rfl) rfl (Nat.le_of_ble_eq_true rfl)) (RunOK_chk (fun h => run_F (n := 0) (c9 := 5) (As := []) (rest := [.ref v20, .ref x0]) (t_J4_size γ l hl v10 g19) dX1_read_35 q2004 q1894 q797 q116 q798 (by decide +kernel) (by decide +kernel) rfl h ⟨by decide, by decide⟩ (Nat.le_of_ble_eq_true rfl) (Nat.le_of_ble_eq_true rfl) rfl (Nat.le_of_ble_eq_true rfl)))) (fun v26 g25 => ?_)
      refine r_cI (pc := 40) (rest := []) (RunOK_chk (fun h => run_V (n := 2) (c9 := 1) (As := [.ref v20, .int v26]) (rest := []) (t_X1_become γ l hl x0 v20 v26 g25) dX1_read_40 q1926 q1928 qs17 q108 q1929 (by decide +kernel) rfl h ⟨rfl, by decide, by decide⟩ (Nat.le_of_ble_eq_true rfl) (Nat.le_of_ble_eq_true rfl) rfl (Nat.le_of_ble_eq_true rfl))) (fun v28 g27 => ?_)
      exact r_inl (fun _ => rfl) (r_iret (pc := 43) dX1_read_43 rfl)
abbrev ck_X1_errorPosition : CK := ("BanquetVotes", prog_1_method_40_code, 1, (some .int), "errorPosition", [], 9)
def f_X1_errorPosition (γ : GP) (x0 : Nat) (g : AH) : Option ((Int32 × AH) ⊕ (Nat × AH)) := gI g x0 4 fun v1 => jn (fun (z2 : Int32) (g3 : AH) => bXV (f_X1_requireElement γ z2 g3) (fun e6 g7 => (thr e6 g7)) fun g5 => gI g5 x0 4 fun v8 => (some (.inl (v8, g5)))) (fun (j4 : Int32 → AH → Option ((Int32 × AH) ⊕ (Nat × AH))) => (if v1 = (-1 : Int32) then j4 (0 : Int32) g else j4 (1 : Int32) g))
theorem t_X1_errorPosition (γ : GP) (l : Launch) (hl : l.stackTraces = false) (x0 : Nat) (g : AH) : TrM (ρX ρI) γ l ⟨"BanquetVotes", "errorPosition", "()I"⟩ (ws_ ⟨"BanquetVotes", "errorPosition", "()I"⟩ prog_1_method_40_code 1 (some .int)) 9 [.ref x0] g (f_X1_errorPosition γ x0 g) := by
  refine TrM_of (plainFor_of_name (by decide)) (Nat.le_of_ble_eq_true rfl) ?_
  unfold f_X1_errorPosition
  change AW (ρX ρI) γ l ck_X1_errorPosition g 0 [(0, .ref x0)] [] g _
  refine r_aload_n (pc := 0) dX1_errorPosition_0 rfl 0 rfl ?_
  refine r_getI (f := 4) (pc := 1) dX1_errorPosition_1 q324 (Or.inl rfl) rfl (fun v1 => ?_)
  refine r_iconst (v := (-1 : Int32)) (pc := 4) dX1_errorPosition_4 (by decide) ?_
  refine AW_jn (P := fun (j : Int32 → AH → Option ((Int32 × AH) ⊕ (Nat × AH))) => ∀ (z2 : Int32) (g3 : AH), AW (ρX ρI) γ l ck_X1_errorPosition g 13 [(0, .ref x0)] [.int z2] g3 (j z2 g3)) (fun z2 g3 => ?_) (fun j4 h_j4 => ?_)
  · skip
    refine r_cXV (pc := 13) (rest := []) (run_S (n := 1) (As := [.int z2]) (rest := []) (t_X1_requireElement γ l hl z2 g3) dX1_errorPosition_13 q2182 q2183 q108 q2184 (by decide +kernel) rfl (Nat.le_of_ble_eq_true rfl) (Nat.le_of_ble_eq_true rfl) rfl (Nat.le_of_ble_eq_true rfl)) (fun e6 g7 => ?_) (fun g5 => ?_)
    · skip
      exact x_out (by decide)
    · skip
      refine r_aload_n (pc := 16) dX1_errorPosition_16 rfl 0 rfl ?_
      refine r_getI (f := 4) (pc := 17) dX1_errorPosition_17 q324 (Or.inl rfl) rfl (fun v8 => ?_)
      exact r_inl (fun _ => rfl) (r_iret (pc := 20) dX1_errorPosition_20 rfl)
  · skip
    refine r_icmp_eq (tgt := 12) (pc := 5) dX1_errorPosition_5 (by decide) ?_ ?_
    · skip
      refine r_iconst (v := (0 : Int32)) (pc := 12) dX1_errorPosition_12 (by decide) ?_
      exact h_j4 (0 : Int32) g
    · skip
      refine r_iconst (v := (1 : Int32)) (pc := 8) dX1_errorPosition_8 (by decide) ?_
      refine r_goto (tgt := 13) (pc := 9) dX1_errorPosition_9 (by decide) ?_
      exact h_j4 (1 : Int32) g
abbrev ck_X1_refusal : CK := ("BanquetVotes", prog_1_method_41_code, 2, (some .int), "refusal", [], 9)
def f_X1_refusal (γ : GP) (x0 : Nat) (x1 : Int32) (g : AH) : Option ((Int32 × AH) ⊕ (Nat × AH)) := gI g x0 5 fun v1 => jn (fun (z2 : Int32) (g3 : AH) => bXV (f_X1_requireElement γ z2 g3) (fun e6 g7 => (thr e6 g7)) fun g5 => (if x1 = 0 then gI g5 x0 5 fun v8 => (some (.inl (v8, g5))) else gI g5 x0 6 fun v9 => (some (.inl (v9, g5))))) (fun (j4 : Int32 → AH → Option ((Int32 × AH) ⊕ (Nat × AH))) => (if v1 ≤ 0 then j4 (0 : Int32) g else j4 (1 : Int32) g))
theorem t_X1_refusal (γ : GP) (l : Launch) (hl : l.stackTraces = false) (x0 : Nat) (x1 : Int32) (g : AH) : TrM (ρX ρI) γ l ⟨"BanquetVotes", "refusal", "(Z)I"⟩ (ws_ ⟨"BanquetVotes", "refusal", "(Z)I"⟩ prog_1_method_41_code 2 (some .int)) 9 [.ref x0, .int x1] g (f_X1_refusal γ x0 x1 g) := by
  refine TrM_of (plainFor_of_name (by decide)) (Nat.le_of_ble_eq_true rfl) ?_
  unfold f_X1_refusal
  change AW (ρX ρI) γ l ck_X1_refusal g 0 [(0, .ref x0), (1, .int x1)] [] g _
  refine r_aload_n (pc := 0) dX1_refusal_0 rfl 0 rfl ?_
  refine r_getI (f := 5) (pc := 1) dX1_refusal_1 q325 (Or.inl rfl) rfl (fun v1 => ?_)
  refine AW_jn (P := fun (j : Int32 → AH → Option ((Int32 × AH) ⊕ (Nat × AH))) => ∀ (z2 : Int32) (g3 : AH), AW (ρX ρI) γ l ck_X1_refusal g 12 [(0, .ref x0), (1, .int x1)] [.int z2] g3 (j z2 g3)) (fun z2 g3 => ?_) (fun j4 h_j4 => ?_)
  · skip
    refine r_cXV (pc := 12) (rest := []) (run_S (n := 1) (As := [.int z2]) (rest := []) (t_X1_requireElement γ l hl z2 g3) dX1_refusal_12 q2182 q2183 q108 q2184 (by decide +kernel) rfl (Nat.le_of_ble_eq_true rfl) (Nat.le_of_ble_eq_true rfl) rfl (Nat.le_of_ble_eq_true rfl)) (fun e6 g7 => ?_) (fun g5 => ?_)
    · skip
      exact x_out (by decide)
    · skip
      refine r_iload_n (pc := 15) dX1_refusal_15 rfl 1 rfl ?_
      refine r_if_eq (tgt := 26) (pc := 16) dX1_refusal_16 (by decide) ?_ ?_
      · skip
        refine r_aload_n (pc := 26) dX1_refusal_26 rfl 0 rfl ?_
        refine r_getI (f := 5) (pc := 27) dX1_refusal_27 q325 (Or.inl rfl) rfl (fun v8 => ?_)
        exact r_inl (fun _ => rfl) (r_iret (pc := 30) dX1_refusal_30 rfl)
      · skip
        refine r_aload_n (pc := 19) dX1_refusal_19 rfl 0 rfl ?_
        refine r_getI (f := 6) (pc := 20) dX1_refusal_20 q326 (Or.inl rfl) rfl (fun v9 => ?_)
        refine r_goto (tgt := 30) (pc := 23) dX1_refusal_23 (by decide) ?_
        exact r_inl (fun _ => rfl) (r_iret (pc := 30) dX1_refusal_30 rfl)
  · skip
    refine r_if_le (tgt := 11) (pc := 4) dX1_refusal_4 (by decide) ?_ ?_
    · skip
      refine r_iconst (v := (0 : Int32)) (pc := 11) dX1_refusal_11 (by decide) ?_
      exact h_j4 (0 : Int32) g
    · skip
      refine r_iconst (v := (1 : Int32)) (pc := 7) dX1_refusal_7 (by decide) ?_
      refine r_goto (tgt := 12) (pc := 8) dX1_refusal_8 (by decide) ?_
      exact h_j4 (1 : Int32) g
abbrev ck_X1_describe : CK := ("BanquetVotes", prog_1_method_42_code, 6, (some .int), "describe", [], 10)
def f_X1_describe_L49 (γ : GP) (x0 : Nat) (x2 : Nat) (x3 : Nat) (x4 : Nat) (K104 : AH → Option ((Int32 × AH) ⊕ (Nat × AH))) : Nat → AH → Option ((Int32 × AH) ⊕ (Nat × AH))
  | 0, _ => none
  | n + 1, g => bI ((if hK g x4 = 10 then f_J13_hasNext γ x4 g else if hK g x4 = 13 then f_J24_hasNext γ x4 g else if hK g x4 = 17 then f_J29_hasNext γ x4 g else if hK g x4 = 18 then f_J29_hasNext γ x4 g else none)) fun v23 g22 => (if v23 = 0 then K104 g22 else bR ((if hK g22 x4 = 10 then f_J13_next γ x4 g22 else if hK g22 x4 = 13 then f_J24_next γ x4 g22 else if hK g22 x4 = 17 then f_J31_next γ x4 g22 else if hK g22 x4 = 18 then f_J32_next γ x4 g22 else none)) fun v25 g24 => gC g24 [12] v25 (bI ((if hK g24 v25 = 12 then f_J21_intValue γ v25 g24 else none)) fun v27 g26 => bR ((if hK g26 x3 = 6 then f_J6_append_3 γ x3 (32 : Int32) g26 else none)) fun v29 g28 => bR ((if hK g28 v29 = 6 then f_J6_append_2 γ v29 v27 g28 else none)) fun v31 g30 => bR ((if hK g30 x2 = 20 then f_X7_of γ x2 v27 g30 else none)) fun v33 g32 => bR ((if hK g32 v33 = 22 then f_X8_how γ v33 g32 else none)) fun v35 g34 => bI ((if hK g34 v35 = 37 then some ((46 : Int32), g34) else if hK g34 v35 = 38 then some ((63 : Int32), g34) else if hK g34 v35 = 39 then some ((45 : Int32), g34) else if hK g34 v35 = 40 then some ((43 : Int32), g34) else if hK g34 v35 = 41 then some ((120 : Int32), g34) else none)) fun v37 g36 => bR ((if hK g36 v31 = 6 then f_J6_append_3 γ v31 v37 g36 else none)) fun v39 g38 => f_X1_describe_L49 γ x0 x2 x3 x4 K104 n g38))
def f_X1_describe (γ : GP) (x0 : Nat) (x1 : Int32) (g : AH) : Option ((Int32 × AH) ⊕ (Nat × AH)) := bXV ((if hK g x0 = 1 then f_X1_requireCourse γ x0 x1 g else none)) (fun e2 g3 => (thr e2 g3)) fun g1 => gR g1 x0 0 fun v4 => bR ((if hK g1 v4 = 2 then f_X2_course γ v4 x1 g1 else none)) fun v6 g5 => mO g5 6 fun q7 g8 => bV ((if q7 ≠ 0 then f_J6_init γ q7 g8 else none)) fun g9 => bI ((if hK g9 v6 = 20 then f_X7_phase γ v6 g9 else none)) fun v11 g10 => bI ((if hK g10 (γ.1 32) = 7 then f_J7_charAt γ (γ.1 32) v11 g10 else none)) fun v13 g12 => bR ((if hK g12 q7 = 6 then f_J6_append_3 γ q7 v13 g12 else none)) fun v15 g14 => bR ((if hK g14 v6 = 20 then f_X7_dishes γ v6 g14 else none)) fun v17 g16 => bR ((if hK g16 v17 = 15 then f_J28_keySet γ v17 g16 else none)) fun v19 g18 => bR ((if hK g18 v19 = 21 then f_J35_iterator γ v19 g18 else none)) fun v21 g20 => f_X1_describe_L49 γ x0 v6 v15 v21 (fun (g40 : AH) => bR ((if hK g40 v15 = 6 then f_J6_toString γ v15 g40 else none)) fun v42 g41 => pR γ g41 x0 7 v42 fun g43 => gR g43 x0 7 fun v44 => bI ((if hK g43 v44 = 7 then f_J7_length γ v44 g43 else none)) fun v46 g45 => (some (.inl (v46, g45)))) FU g20
theorem f_X1_describe_L49_w (γ : GP) (l : Launch) (hl : l.stackTraces = false) (G0 : AH) (x0 : Nat) (x2 : Nat) (x3 : Nat) (x4 : Nat) (K104 : AH → Option ((Int32 × AH) ⊕ (Nat × AH))) (h_K104 : ∀ (g : AH), AW (ρX ρI) γ l ck_X1_describe G0 104 [(0, .ref x0), (3, .ref x3)] [] g (K104 g)) : ∀ (n : Nat) (g : AH), AW (ρX ρI) γ l ck_X1_describe G0 49 [(0, .ref x0), (2, .ref x2), (3, .ref x3), (4, .ref x4)] [] g (f_X1_describe_L49 γ x0 x2 x3 x4 K104 n g) := by
  intro n
  induction n with
  | zero => intro g; exact AW_none
  | succ n ih =>
    intro g
    unfold f_X1_describe_L49
    refine r_aload (pc := 49) dX1_describe_49 3 rfl ?_
    refine r_cI (pc := 51) (rest := []) (RunOK_if (fun h => run_F (n := 0) (c9 := 10) (As := []) (rest := []) (t_J13_hasNext γ l hl x4 g) dX1_describe_51 q3209 q800 q802 q126 q804 (by decide +kernel) (by decide +kernel) rfl h ⟨by decide, by decide⟩ (Nat.le_of_ble_eq_true rfl) (Nat.le_of_ble_eq_true rfl) rfl (Nat.le_of_ble_eq_true rfl)) (RunOK_if (fun h => run_F (n := 0) (c9 := 13) (As := []) (rest := []) (t_J24_hasNext γ l hl x4 g) dX1_describe_51 q3209 q809 q811 q139 q813 (by decide +kernel) (by decide +kernel) rfl h ⟨by decide, by decide⟩ (Nat.le_of_ble_eq_true rfl) (Nat.le_of_ble_eq_true rfl) rfl (Nat.le_of_ble_eq_true rfl)) (RunOK_if (fun h => run_F (n := 0) (c9 := 17) (As := []) (rest := []) (t_J29_hasNext γ l hl x4 g) dX1_describe_51 q3209 q821 q817 q145 q819 (by decide +kernel) (by decide +kernel) rfl h ⟨by decide, by decide⟩ (Nat.le_of_ble_eq_true rfl) (Nat.le_of_ble_eq_true rfl) rfl (Nat.le_of_ble_eq_true rfl)) (RunOK_chk (fun h => run_F (n := 0) (c9 := 18) (As := []) (rest := []) (t_J29_hasNext γ l hl x4 g) dX1_describe_51 q3209 q824 q817 q145 q819 (by decide +kernel) (by decide +kernel) rfl h ⟨by decide, by decide⟩ (Nat.le_of_ble_eq_true rfl) (Nat.le_of_ble_eq_true rfl) rfl (Nat.le_of_ble_eq_true rfl)))))) (fun v23 g22 => ?_)
    refine r_if_eq (tgt := 104) (pc := 56) dX1_describe_56 (by decide) ?_ ?_
    · skip
      refine AW_sub [0, 2] rfl ?_
      exact h_K104 g22
    · skip
      refine r_aload (pc := 59) dX1_describe_59 3 rfl ?_
      refine r_cR (pc := 61) (rest := []) (RunOK_if (fun h => run_F (n := 0) (c9 := 10) (As := []) (rest := []) (t_J13_next γ l hl x4 g22) dX1_describe_61 q3211 q991 q993 q126 q995 (by decide +kernel) (by decide +kernel) rfl h ⟨by decide, by decide⟩ (Nat.le_of_ble_eq_true rfl) (Nat.le_of_ble_eq_true rfl) rfl (Nat.le_of_ble_eq_true rfl)) (RunOK_if (fun h => run_F (n := 0) (c9 := 13) (As := []) (rest := []) (t_J24_next γ l hl x4 g22) dX1_describe_61 q3211 q1015 q1017 q139 q1019 (by decide +kernel) (by decide +kernel) rfl h ⟨by decide, by decide⟩ (Nat.le_of_ble_eq_true rfl) (Nat.le_of_ble_eq_true rfl) rfl (Nat.le_of_ble_eq_true rfl)) (RunOK_if (fun h => run_F (n := 0) (c9 := 17) (As := []) (rest := []) (t_J31_next γ l hl x4 g22) dX1_describe_61 q3211 q1047 q1049 q147 q1051 (by decide +kernel) (by decide +kernel) rfl h ⟨by decide, by decide⟩ (Nat.le_of_ble_eq_true rfl) (Nat.le_of_ble_eq_true rfl) rfl (Nat.le_of_ble_eq_true rfl)) (RunOK_chk (fun h => run_F (n := 0) (c9 := 18) (As := []) (rest := []) (t_J32_next γ l hl x4 g22) dX1_describe_61 q3211 q1055 q1057 q148 q1059 (by decide +kernel) (by decide +kernel) rfl h ⟨by decide, by decide⟩ (Nat.le_of_ble_eq_true rfl) (Nat.le_of_ble_eq_true rfl) rfl (Nat.le_of_ble_eq_true rfl)))))) (fun v25 g24 => ?_)
      refine r_cast_ (L := [12]) (pc := 66) dX1_describe_66 q2894 (List.forall_mem_cons.mpr ⟨⟨by decide, by decide, Or.inl rfl⟩, (fun _ h => absurd h List.not_mem_nil)⟩) ?_
      refine r_cI (pc := 69) (rest := []) (RunOK_chk (fun h => run_V (n := 0) (c9 := 12) (As := []) (rest := []) (t_J21_intValue γ l hl v25 g24) dX1_describe_69 q2895 q1499 q1500 q135 q1501 (by decide +kernel) rfl h ⟨rfl, by decide, by decide⟩ (Nat.le_of_ble_eq_true rfl) (Nat.le_of_ble_eq_true rfl) rfl (Nat.le_of_ble_eq_true rfl))) (fun v27 g26 => ?_)
      refine r_istore (pc := 72) dX1_describe_72 (Nat.le_of_ble_eq_true rfl) rfl ?_
      refine r_aload_n (pc := 74) dX1_describe_74 rfl 3 rfl ?_
      refine r_bipush (v := (32 : Int32)) (pc := 75) dX1_describe_75 (by decide) ?_
      refine r_cR (pc := 77) (rest := []) (RunOK_chk (fun h => run_V (n := 1) (c9 := 6) (As := [.int (32 : Int32)]) (rest := []) (t_J6_append_3 γ l hl x3 (32 : Int32) g26) dX1_describe_77 q2923 q2924 q2925 q118 q2926 (by decide +kernel) rfl h ⟨rfl, by decide, by decide⟩ (Nat.le_of_ble_eq_true rfl) (Nat.le_of_ble_eq_true rfl) rfl (Nat.le_of_ble_eq_true rfl))) (fun v29 g28 => ?_)
      refine r_iload (pc := 80) dX1_describe_80 0 rfl ?_
      refine r_cR (pc := 82) (rest := []) (RunOK_chk (fun h => run_V (n := 1) (c9 := 6) (As := [.int v27]) (rest := []) (t_J6_append_2 γ l hl v29 v27 g28) dX1_describe_82 q3252 q582 q583 q118 q584 (by decide +kernel) rfl h ⟨rfl, by decide, by decide⟩ (Nat.le_of_ble_eq_true rfl) (Nat.le_of_ble_eq_true rfl) rfl (Nat.le_of_ble_eq_true rfl))) (fun v31 g30 => ?_)
      refine r_aload_n (pc := 85) dX1_describe_85 rfl 2 rfl ?_
      refine r_iload (pc := 86) dX1_describe_86 0 rfl ?_
      refine r_cR (pc := 88) (rest := [.ref v31]) (RunOK_chk (fun h => run_V (n := 1) (c9 := 20) (As := [.int v27]) (rest := [.ref v31]) (t_X7_of γ l hl x2 v27 g30) dX1_describe_88 q2181 q2067 q2068 q150 q2069 (by decide +kernel) rfl h ⟨rfl, by decide, by decide⟩ (Nat.le_of_ble_eq_true rfl) (Nat.le_of_ble_eq_true rfl) rfl (Nat.le_of_ble_eq_true rfl))) (fun v33 g32 => ?_)
      refine r_cR (pc := 91) (rest := [.ref v31]) (RunOK_chk (fun h => run_V (n := 0) (c9 := 22) (As := []) (rest := [.ref v31]) (t_X8_how γ l hl v33 g32) dX1_describe_91 q3253 q1179 q1180 q157 q1181 (by decide +kernel) rfl h ⟨rfl, by decide, by decide⟩ (Nat.le_of_ble_eq_true rfl) (Nat.le_of_ble_eq_true rfl) rfl (Nat.le_of_ble_eq_true rfl))) (fun v35 g34 => ?_)
      refine r_cI (pc := 94) (rest := [.ref v31]) (RunOK_if (fun h => run_K (n9 := 0) (c9 := 37) (As := []) (rest := [.ref v31]) (owner := "BanquetVotes$How") dX1_describe_94 q3254 q3256 q3257 q3258 q3259 (Or.inr mv3255) (by decide +kernel) dX19_sign_0 (Or.inr ⟨rfl, by decide⟩) dX19_sign_2 (by decide) ⟨by decide, by decide, by decide +kernel⟩ rfl h ⟨by decide, by decide⟩ (Nat.le_of_ble_eq_true rfl) (Nat.le_of_ble_eq_true rfl) rfl (Nat.le_of_ble_eq_true rfl)) (RunOK_if (fun h => run_K (n9 := 0) (c9 := 38) (As := []) (rest := [.ref v31]) (owner := "BanquetVotes$How") dX1_describe_94 q3254 q3256 q3260 q3261 q3262 (Or.inr mv3255) (by decide +kernel) dX20_sign_0 (Or.inr ⟨rfl, by decide⟩) dX20_sign_2 (by decide) ⟨by decide, by decide, by decide +kernel⟩ rfl h ⟨by decide, by decide⟩ (Nat.le_of_ble_eq_true rfl) (Nat.le_of_ble_eq_true rfl) rfl (Nat.le_of_ble_eq_true rfl)) (RunOK_if (fun h => run_K (n9 := 0) (c9 := 39) (As := []) (rest := [.ref v31]) (owner := "BanquetVotes$How") dX1_describe_94 q3254 q3256 q3263 q3264 q3265 (Or.inr mv3255) (by decide +kernel) dX21_sign_0 (Or.inr ⟨rfl, by decide⟩) dX21_sign_2 (by decide) ⟨by decide, by decide, by decide +kernel⟩ rfl h ⟨by decide, by decide⟩ (Nat.le_of_ble_eq_true rfl) (Nat.le_of_ble_eq_true rfl) rfl (Nat.le_of_ble_eq_true rfl)) (RunOK_if (fun h => run_K (n9 := 0) (c9 := 40) (As := []) (rest := [.ref v31]) (owner := "BanquetVotes$How") dX1_describe_94 q3254 q3256 q3266 q3267 q3268 (Or.inr mv3255) (by decide +kernel) dX22_sign_0 (Or.inr ⟨rfl, by decide⟩) dX22_sign_2 (by decide) ⟨by decide, by decide, by decide +kernel⟩ rfl h ⟨by decide, by decide⟩ (Nat.le_of_ble_eq_true rfl) (Nat.le_of_ble_eq_true rfl) rfl (Nat.le_of_ble_eq_true rfl)) (RunOK_chk (fun h => run_K (n9 := 0) (c9 := 41) (As := []) (rest := [.ref v31]) (owner := "BanquetVotes$How") dX1_describe_94 q3254 q3256 q3269 q3270 q3271 (Or.inr mv3255) (by decide +kernel) dX23_sign_0 (Or.inr ⟨rfl, by decide⟩) dX23_sign_2 (by decide) ⟨by decide, by decide, by decide +kernel⟩ rfl h ⟨by decide, by decide⟩ (Nat.le_of_ble_eq_true rfl) (Nat.le_of_ble_eq_true rfl) rfl (Nat.le_of_ble_eq_true rfl))))))) (fun v37 g36 => ?_)
      refine r_cR (pc := 97) (rest := []) (RunOK_chk (fun h => run_V (n := 1) (c9 := 6) (As := [.int v37]) (rest := []) (t_J6_append_3 γ l hl v31 v37 g36) dX1_describe_97 q2923 q2924 q2925 q118 q2926 (by decide +kernel) rfl h ⟨rfl, by decide, by decide⟩ (Nat.le_of_ble_eq_true rfl) (Nat.le_of_ble_eq_true rfl) rfl (Nat.le_of_ble_eq_true rfl))) (fun v39 g38 => ?_)
      refine r_pop (pc := 100) dX1_describe_100 rfl ?_
      refine r_goto (tgt := 49) (pc := 101) dX1_describe_101 (by decide) ?_
      refine AW_sub [1, 2, 3, 4] rfl ?_
      exact ih g38
theorem t_X1_describe (γ : GP) (l : Launch) (hl : l.stackTraces = false) (x0 : Nat) (x1 : Int32) (g : AH) : TrM (ρX ρI) γ l ⟨"BanquetVotes", "describe", "(I)I"⟩ (ws_ ⟨"BanquetVotes", "describe", "(I)I"⟩ prog_1_method_42_code 6 (some .int)) 10 [.ref x0, .int x1] g (f_X1_describe γ x0 x1 g) := by
  refine TrM_of (plainFor_of_name (by decide)) (Nat.le_of_ble_eq_true rfl) ?_
  unfold f_X1_describe
  change AW (ρX ρI) γ l ck_X1_describe g 0 [(0, .ref x0), (1, .int x1)] [] g _
  refine r_aload_n (pc := 0) dX1_describe_0 rfl 0 rfl ?_
  refine r_iload_n (pc := 1) dX1_describe_1 rfl 1 rfl ?_
  refine r_cXV (pc := 2) (rest := []) (RunOK_chk (fun h => run_V (n := 1) (c9 := 1) (As := [.int x1]) (rest := []) (t_X1_requireCourse γ l hl x0 x1 g) dX1_describe_2 q2115 q2117 qs21 q108 q2118 (by decide +kernel) rfl h ⟨rfl, by decide, by decide⟩ (Nat.le_of_ble_eq_true rfl) (Nat.le_of_ble_eq_true rfl) rfl (Nat.le_of_ble_eq_true rfl))) (fun e2 g3 => ?_) (fun g1 => ?_)
  · skip
    exact x_out (by decide)
  · skip
    refine r_aload_n (pc := 5) dX1_describe_5 rfl 0 rfl ?_
    refine r_getR (f := 0) (pc := 6) dX1_describe_6 q320 (Or.inl rfl) rfl (fun v4 => ?_)
    refine r_iload_n (pc := 9) dX1_describe_9 rfl 1 rfl ?_
    refine r_cR (pc := 10) (rest := []) (RunOK_chk (fun h => run_V (n := 1) (c9 := 2) (As := [.int x1]) (rest := []) (t_X2_course γ l hl v4 x1 g1) dX1_describe_10 q2155 q2128 q2129 q109 q2130 (by decide +kernel) rfl h ⟨rfl, by decide, by decide⟩ (Nat.le_of_ble_eq_true rfl) (Nat.le_of_ble_eq_true rfl) rfl (Nat.le_of_ble_eq_true rfl))) (fun v6 g5 => ?_)
    refine r_astore_n (pc := 13) dX1_describe_13 rfl (Nat.le_of_ble_eq_true rfl) rfl ?_
    refine r_new (c := 6) (pc := 14) dX1_describe_14 q286 (by decide) (by decide) (fun q7 g8 => ?_)
    refine r_dup (pc := 17) dX1_describe_17 rfl ?_
    refine r_cV (pc := 18) (rest := [.ref q7]) (RunOK_chk (fun h => run_I (n := 0) (As := []) (rest := [.ref q7]) (t_J6_init γ l hl q7 g8) dX1_describe_18 q288 q289 q118 q290 rfl (by decide +kernel) rfl h (Nat.le_of_ble_eq_true rfl) (Nat.le_of_ble_eq_true rfl) rfl (Nat.le_of_ble_eq_true rfl))) (fun g9 => ?_)
    refine r_ldcwS (pc := 21) dX1_describe_21 (List.mem_of_getElem? (i := 20) rfl) ?_
    refine r_aload_n (pc := 24) dX1_describe_24 rfl 0 rfl ?_
    refine r_cI (pc := 25) (rest := [.ref (γ.1 32), .ref q7]) (RunOK_chk (fun h => run_V (n := 0) (c9 := 20) (As := []) (rest := [.ref (γ.1 32), .ref q7]) (t_X7_phase γ l hl v6 g9) dX1_describe_25 q2156 q2132 q2133 q150 q2134 (by decide +kernel) rfl h ⟨rfl, by decide, by decide⟩ (Nat.le_of_ble_eq_true rfl) (Nat.le_of_ble_eq_true rfl) rfl (Nat.le_of_ble_eq_true rfl))) (fun v11 g10 => ?_)
    refine r_cI (pc := 28) (rest := [.ref q7]) (RunOK_chk (fun h => run_V (n := 1) (c9 := 7) (As := [.int v11]) (rest := [.ref q7]) (t_J7_charAt γ l hl (γ.1 32) v11 g10) dX1_describe_28 q3248 q3039 q3040 q119 q3041 (by decide +kernel) rfl h ⟨rfl, by decide, by decide⟩ (Nat.le_of_ble_eq_true rfl) (Nat.le_of_ble_eq_true rfl) rfl (Nat.le_of_ble_eq_true rfl))) (fun v13 g12 => ?_)
    refine r_cR (pc := 31) (rest := []) (RunOK_chk (fun h => run_V (n := 1) (c9 := 6) (As := [.int v13]) (rest := []) (t_J6_append_3 γ l hl q7 v13 g12) dX1_describe_31 q2923 q2924 q2925 q118 q2926 (by decide +kernel) rfl h ⟨rfl, by decide, by decide⟩ (Nat.le_of_ble_eq_true rfl) (Nat.le_of_ble_eq_true rfl) rfl (Nat.le_of_ble_eq_true rfl))) (fun v15 g14 => ?_)
    refine r_astore_n (pc := 34) dX1_describe_34 rfl (Nat.le_of_ble_eq_true rfl) rfl ?_
    refine r_aload_n (pc := 35) dX1_describe_35 rfl 1 rfl ?_
    refine r_cR (pc := 36) (rest := []) (RunOK_chk (fun h => run_V (n := 0) (c9 := 20) (As := []) (rest := []) (t_X7_dishes γ l hl v6 g14) dX1_describe_36 q2157 q2140 q2141 q150 q2142 (by decide +kernel) rfl h ⟨rfl, by decide, by decide⟩ (Nat.le_of_ble_eq_true rfl) (Nat.le_of_ble_eq_true rfl) rfl (Nat.le_of_ble_eq_true rfl))) (fun v17 g16 => ?_)
    refine r_cR (pc := 39) (rest := []) (RunOK_chk (fun h => run_V (n := 0) (c9 := 15) (As := []) (rest := []) (t_J28_keySet γ l hl v17 g16) dX1_describe_39 q3249 q1469 q1470 q143 q1471 (by decide +kernel) rfl h ⟨rfl, by decide, by decide⟩ (Nat.le_of_ble_eq_true rfl) (Nat.le_of_ble_eq_true rfl) rfl (Nat.le_of_ble_eq_true rfl))) (fun v19 g18 => ?_)
    refine r_cR (pc := 42) (rest := []) (RunOK_chk (fun h => run_F (n := 0) (c9 := 21) (As := []) (rest := []) (t_J35_iterator γ l hl v19 g18) dX1_describe_42 q3251 q1496 q1131 q152 q1133 (by decide +kernel) (by decide +kernel) rfl h ⟨by decide, by decide⟩ (Nat.le_of_ble_eq_true rfl) (Nat.le_of_ble_eq_true rfl) rfl (Nat.le_of_ble_eq_true rfl))) (fun v21 g20 => ?_)
    refine r_astore (pc := 47) dX1_describe_47 (Nat.le_of_ble_eq_true rfl) rfl ?_
    refine AW_sub [3, 2, 1, 0] rfl ?_
    refine f_X1_describe_L49_w γ l hl _ x0 v6 v15 v21 _ ?_ FU g20
    · intro g40
      refine r_aload_n (pc := 104) dX1_describe_104 rfl 0 rfl ?_
      refine r_aload_n (pc := 105) dX1_describe_105 rfl 1 rfl ?_
      refine r_cR (pc := 106) (rest := [.ref x0]) (RunOK_chk (fun h => run_V (n := 0) (c9 := 6) (As := []) (rest := [.ref x0]) (t_J6_toString γ l hl v15 g40) dX1_describe_106 q2951 q608 q609 q118 q610 (by decide +kernel) rfl h ⟨rfl, by decide, by decide⟩ (Nat.le_of_ble_eq_true rfl) (Nat.le_of_ble_eq_true rfl) rfl (Nat.le_of_ble_eq_true rfl))) (fun v42 g41 => ?_)
      refine r_putR (f := 7) (pc := 109) dX1_describe_109 q327 (Or.inl rfl) (Or.inl rfl) rfl (fun g43 => ?_)
      refine r_aload_n (pc := 112) dX1_describe_112 rfl 0 rfl ?_
      refine r_getR (f := 7) (pc := 113) dX1_describe_113 q327 (Or.inl rfl) rfl (fun v44 => ?_)
      refine r_cI (pc := 116) (rest := []) (RunOK_chk (fun h => run_V (n := 0) (c9 := 7) (As := []) (rest := []) (t_J7_length γ l hl v44 g43) dX1_describe_116 q3272 q539 q540 q119 q541 (by decide +kernel) rfl h ⟨rfl, by decide, by decide⟩ (Nat.le_of_ble_eq_true rfl) (Nat.le_of_ble_eq_true rfl) rfl (Nat.le_of_ble_eq_true rfl))) (fun v46 g45 => ?_)
      exact r_inl (fun _ => rfl) (r_iret (pc := 119) dX1_describe_119 rfl)
abbrev ck_X1_written : CK := ("BanquetVotes", prog_1_method_43_code, 2, (some .char), "written", [], 9)
def f_X1_written (γ : GP) (x0 : Nat) (x1 : Int32) (g : AH) : Option ((Int32 × AH) ⊕ (Nat × AH)) := gR g x0 7 fun v1 => bI ((if hK g v1 = 7 then f_J7_length γ v1 g else none)) fun v3 g2 => bI (f_X1_isIn γ x1 (0 : Int32) (v3 - (1 : Int32)) g2) fun v5 g4 => bXV (f_X1_requireElement γ v5 g4) (fun e7 g8 => (thr e7 g8)) fun g6 => gR g6 x0 7 fun v9 => bI ((if hK g6 v9 = 7 then f_J7_charAt γ v9 x1 g6 else none)) fun v11 g10 => ((rtN .char v11 g10).map Sum.inl)
theorem t_X1_written (γ : GP) (l : Launch) (hl : l.stackTraces = false) (x0 : Nat) (x1 : Int32) (g : AH) : TrM (ρX ρI) γ l ⟨"BanquetVotes", "written", "(I)C"⟩ (ws_ ⟨"BanquetVotes", "written", "(I)C"⟩ prog_1_method_43_code 2 (some .char)) 9 [.ref x0, .int x1] g (f_X1_written γ x0 x1 g) := by
  refine TrM_of (plainFor_of_name (by decide)) (Nat.le_of_ble_eq_true rfl) ?_
  unfold f_X1_written
  change AW (ρX ρI) γ l ck_X1_written g 0 [(0, .ref x0), (1, .int x1)] [] g _
  refine r_iload_n (pc := 0) dX1_written_0 rfl 1 rfl ?_
  refine r_iconst (v := (0 : Int32)) (pc := 1) dX1_written_1 (by decide) ?_
  refine r_aload_n (pc := 2) dX1_written_2 rfl 0 rfl ?_
  refine r_getR (f := 7) (pc := 3) dX1_written_3 q327 (Or.inl rfl) rfl (fun v1 => ?_)
  refine r_cI (pc := 6) (rest := [.int (0 : Int32), .int x1]) (RunOK_chk (fun h => run_V (n := 0) (c9 := 7) (As := []) (rest := [.int (0 : Int32), .int x1]) (t_J7_length γ l hl v1 g) dX1_written_6 q3272 q539 q540 q119 q541 (by decide +kernel) rfl h ⟨rfl, by decide, by decide⟩ (Nat.le_of_ble_eq_true rfl) (Nat.le_of_ble_eq_true rfl) rfl (Nat.le_of_ble_eq_true rfl))) (fun v3 g2 => ?_)
  refine r_iconst (v := (1 : Int32)) (pc := 9) dX1_written_9 (by decide) ?_
  refine r_isub (pc := 10) dX1_written_10 ?_
  refine r_cI (pc := 11) (rest := []) (run_S (n := 3) (As := [.int x1, .int (0 : Int32), .int (v3 - (1 : Int32))]) (rest := []) (t_X1_isIn γ l hl x1 (0 : Int32) (v3 - (1 : Int32)) g2) dX1_written_11 q1208 q1209 q108 q1210 (by decide +kernel) rfl (Nat.le_of_ble_eq_true rfl) (Nat.le_of_ble_eq_true rfl) rfl (Nat.le_of_ble_eq_true rfl)) (fun v5 g4 => ?_)
  refine r_cXV (pc := 14) (rest := []) (run_S (n := 1) (As := [.int v5]) (rest := []) (t_X1_requireElement γ l hl v5 g4) dX1_written_14 q2182 q2183 q108 q2184 (by decide +kernel) rfl (Nat.le_of_ble_eq_true rfl) (Nat.le_of_ble_eq_true rfl) rfl (Nat.le_of_ble_eq_true rfl)) (fun e7 g8 => ?_) (fun g6 => ?_)
  · skip
    exact x_out (by decide)
  · skip
    refine r_aload_n (pc := 17) dX1_written_17 rfl 0 rfl ?_
    refine r_getR (f := 7) (pc := 18) dX1_written_18 q327 (Or.inl rfl) rfl (fun v9 => ?_)
    refine r_iload_n (pc := 21) dX1_written_21 rfl 1 rfl ?_
    refine r_cI (pc := 22) (rest := []) (RunOK_chk (fun h => run_V (n := 1) (c9 := 7) (As := [.int x1]) (rest := []) (t_J7_charAt γ l hl v9 x1 g6) dX1_written_22 q3248 q3039 q3040 q119 q3041 (by decide +kernel) rfl h ⟨rfl, by decide, by decide⟩ (Nat.le_of_ble_eq_true rfl) (Nat.le_of_ble_eq_true rfl) rfl (Nat.le_of_ble_eq_true rfl))) (fun v11 g10 => ?_)
    exact r_map (fun _ => rfl) (r_zret (ty := .char) (pc := 25) dX1_written_25 rfl)
abbrev ck_X2_minute : CK := ("BanquetVotes$Kitchen", prog_14_method_8_code, 1, (some .int), "minute", [], 1)
def f_X2_minute (γ : GP) (x0 : Nat) (g : AH) : Option (Int32 × AH) := gI g x0 12 fun v1 => (some (v1, g))
theorem t_X2_minute (γ : GP) (l : Launch) (hl : l.stackTraces = false) (x0 : Nat) (g : AH) : TrM ρI γ l ⟨"BanquetVotes$Kitchen", "minute", "()I"⟩ (ws_ ⟨"BanquetVotes$Kitchen", "minute", "()I"⟩ prog_14_method_8_code 1 (some .int)) 1 [.ref x0] g (f_X2_minute γ x0 g) := by
  refine TrM_of (plainFor_of_name (by decide)) (Nat.le_of_ble_eq_true rfl) ?_
  unfold f_X2_minute
  change AW ρI γ l ck_X2_minute g 0 [(0, .ref x0)] [] g _
  refine r_aload_n (pc := 0) dX2_minute_0 rfl 0 rfl ?_
  refine r_getI (f := 12) (pc := 1) dX2_minute_1 q269 (Or.inl rfl) rfl (fun v1 => ?_)
  exact r_iret (pc := 4) dX2_minute_4 rfl
abbrev ck_X2_dishes : CK := ("BanquetVotes$Kitchen", prog_14_method_45_code, 4, (some .int), "dishes", [], 4)
def f_X2_dishes_L12 (γ : GP) (x2 : Nat) : Nat → Int32 → AH → Option (Int32 × AH)
  | 0, _, _ => none
  | n + 1, x1, g => bI ((if hK g x2 = 10 then f_J13_hasNext γ x2 g else if hK g x2 = 13 then f_J24_hasNext γ x2 g else if hK g x2 = 17 then f_J29_hasNext γ x2 g else if hK g x2 = 18 then f_J29_hasNext γ x2 g else none)) fun v5 g4 => (if v5 = 0 then (some (x1, g4)) else bR ((if hK g4 x2 = 10 then f_J13_next γ x2 g4 else if hK g4 x2 = 13 then f_J24_next γ x2 g4 else if hK g4 x2 = 17 then f_J31_next γ x2 g4 else if hK g4 x2 = 18 then f_J32_next γ x2 g4 else none)) fun v7 g6 => gC g6 [20] v7 (bR ((if hK g6 v7 = 20 then f_X7_dishes γ v7 g6 else none)) fun v9 g8 => bI ((if hK g8 v9 = 15 then f_J28_size γ v9 g8 else none)) fun v11 g10 => f_X2_dishes_L12 γ x2 n (x1 + v11) g10))
def f_X2_dishes (γ : GP) (x0 : Nat) (g : AH) : Option (Int32 × AH) := gR g x0 9 fun v1 => bR ((if hK g v1 = 3 then f_J2_iterator γ v1 g else none)) fun v3 g2 => f_X2_dishes_L12 γ v3 FU (0 : Int32) g2
theorem f_X2_dishes_L12_w (γ : GP) (l : Launch) (hl : l.stackTraces = false) (G0 : AH) (x2 : Nat) : ∀ (n : Nat) (x1 : Int32) (g : AH), AW ρI γ l ck_X2_dishes G0 12 [(1, .int x1), (2, .ref x2)] [] g (f_X2_dishes_L12 γ x2 n x1 g) := by
  intro n
  induction n with
  | zero => intro x1 g; exact AW_none
  | succ n ih =>
    intro x1 g
    unfold f_X2_dishes_L12
    refine r_aload_n (pc := 12) dX2_dishes_12 rfl 1 rfl ?_
    refine r_cI (pc := 13) (rest := []) (RunOK_if (fun h => run_F (n := 0) (c9 := 10) (As := []) (rest := []) (t_J13_hasNext γ l hl x2 g) dX2_dishes_13 q781 q800 q802 q126 q804 (by decide +kernel) (by decide +kernel) rfl h ⟨by decide, by decide⟩ (Nat.le_of_ble_eq_true rfl) (Nat.le_of_ble_eq_true rfl) rfl (Nat.le_of_ble_eq_true rfl)) (RunOK_if (fun h => run_F (n := 0) (c9 := 13) (As := []) (rest := []) (t_J24_hasNext γ l hl x2 g) dX2_dishes_13 q781 q809 q811 q139 q813 (by decide +kernel) (by decide +kernel) rfl h ⟨by decide, by decide⟩ (Nat.le_of_ble_eq_true rfl) (Nat.le_of_ble_eq_true rfl) rfl (Nat.le_of_ble_eq_true rfl)) (RunOK_if (fun h => run_F (n := 0) (c9 := 17) (As := []) (rest := []) (t_J29_hasNext γ l hl x2 g) dX2_dishes_13 q781 q821 q817 q145 q819 (by decide +kernel) (by decide +kernel) rfl h ⟨by decide, by decide⟩ (Nat.le_of_ble_eq_true rfl) (Nat.le_of_ble_eq_true rfl) rfl (Nat.le_of_ble_eq_true rfl)) (RunOK_chk (fun h => run_F (n := 0) (c9 := 18) (As := []) (rest := []) (t_J29_hasNext γ l hl x2 g) dX2_dishes_13 q781 q824 q817 q145 q819 (by decide +kernel) (by decide +kernel) rfl h ⟨by decide, by decide⟩ (Nat.le_of_ble_eq_true rfl) (Nat.le_of_ble_eq_true rfl) rfl (Nat.le_of_ble_eq_true rfl)))))) (fun v5 g4 => ?_)
    refine r_if_eq (tgt := 44) (pc := 18) dX2_dishes_18 (by decide) ?_ ?_
    · skip
      refine r_iload_n (pc := 44) dX2_dishes_44 rfl 0 rfl ?_
      exact r_iret (pc := 45) dX2_dishes_45 rfl
    · skip
      refine r_aload_n (pc := 21) dX2_dishes_21 rfl 1 rfl ?_
      refine r_cR (pc := 22) (rest := []) (RunOK_if (fun h => run_F (n := 0) (c9 := 10) (As := []) (rest := []) (t_J13_next γ l hl x2 g4) dX2_dishes_22 q827 q991 q993 q126 q995 (by decide +kernel) (by decide +kernel) rfl h ⟨by decide, by decide⟩ (Nat.le_of_ble_eq_true rfl) (Nat.le_of_ble_eq_true rfl) rfl (Nat.le_of_ble_eq_true rfl)) (RunOK_if (fun h => run_F (n := 0) (c9 := 13) (As := []) (rest := []) (t_J24_next γ l hl x2 g4) dX2_dishes_22 q827 q1015 q1017 q139 q1019 (by decide +kernel) (by decide +kernel) rfl h ⟨by decide, by decide⟩ (Nat.le_of_ble_eq_true rfl) (Nat.le_of_ble_eq_true rfl) rfl (Nat.le_of_ble_eq_true rfl)) (RunOK_if (fun h => run_F (n := 0) (c9 := 17) (As := []) (rest := []) (t_J31_next γ l hl x2 g4) dX2_dishes_22 q827 q1047 q1049 q147 q1051 (by decide +kernel) (by decide +kernel) rfl h ⟨by decide, by decide⟩ (Nat.le_of_ble_eq_true rfl) (Nat.le_of_ble_eq_true rfl) rfl (Nat.le_of_ble_eq_true rfl)) (RunOK_chk (fun h => run_F (n := 0) (c9 := 18) (As := []) (rest := []) (t_J32_next γ l hl x2 g4) dX2_dishes_22 q827 q1055 q1057 q148 q1059 (by decide +kernel) (by decide +kernel) rfl h ⟨by decide, by decide⟩ (Nat.le_of_ble_eq_true rfl) (Nat.le_of_ble_eq_true rfl) rfl (Nat.le_of_ble_eq_true rfl)))))) (fun v7 g6 => ?_)
      refine r_cast_ (L := [20]) (pc := 27) dX2_dishes_27 q1063 (List.forall_mem_cons.mpr ⟨⟨by decide, by decide, Or.inl rfl⟩, (fun _ h => absurd h List.not_mem_nil)⟩) ?_
      refine r_astore_n (pc := 30) dX2_dishes_30 rfl (Nat.le_of_ble_eq_true rfl) rfl ?_
      refine r_iload_n (pc := 31) dX2_dishes_31 rfl 1 rfl ?_
      refine r_aload_n (pc := 32) dX2_dishes_32 rfl 0 rfl ?_
      refine r_cR (pc := 33) (rest := [.int x1]) (RunOK_chk (fun h => run_V (n := 0) (c9 := 20) (As := []) (rest := [.int x1]) (t_X7_dishes γ l hl v7 g6) dX2_dishes_33 q2139 q2140 q2141 q150 q2142 (by decide +kernel) rfl h ⟨rfl, by decide, by decide⟩ (Nat.le_of_ble_eq_true rfl) (Nat.le_of_ble_eq_true rfl) rfl (Nat.le_of_ble_eq_true rfl))) (fun v9 g8 => ?_)
      refine r_cI (pc := 36) (rest := [.int x1]) (RunOK_chk (fun h => run_V (n := 0) (c9 := 15) (As := []) (rest := [.int x1]) (t_J28_size γ l hl v9 g8) dX2_dishes_36 q2147 q1301 q1302 q143 q1303 (by decide +kernel) rfl h ⟨rfl, by decide, by decide⟩ (Nat.le_of_ble_eq_true rfl) (Nat.le_of_ble_eq_true rfl) rfl (Nat.le_of_ble_eq_true rfl))) (fun v11 g10 => ?_)
      refine r_iadd (pc := 39) dX2_dishes_39 ?_
      refine r_istore_n (pc := 40) dX2_dishes_40 rfl (Nat.le_of_ble_eq_true rfl) rfl ?_
      refine r_goto (tgt := 12) (pc := 41) dX2_dishes_41 (by decide) ?_
      refine AW_sub [0, 2] rfl ?_
      exact ih (x1 + v11) g10
theorem t_X2_dishes (γ : GP) (l : Launch) (hl : l.stackTraces = false) (x0 : Nat) (g : AH) : TrM ρI γ l ⟨"BanquetVotes$Kitchen", "dishes", "()I"⟩ (ws_ ⟨"BanquetVotes$Kitchen", "dishes", "()I"⟩ prog_14_method_45_code 4 (some .int)) 4 [.ref x0] g (f_X2_dishes γ x0 g) := by
  refine TrM_of (plainFor_of_name (by decide)) (Nat.le_of_ble_eq_true rfl) ?_
  unfold f_X2_dishes
  change AW ρI γ l ck_X2_dishes g 0 [(0, .ref x0)] [] g _
  refine r_iconst (v := (0 : Int32)) (pc := 0) dX2_dishes_0 (by decide) ?_
  refine r_istore_n (pc := 1) dX2_dishes_1 rfl (Nat.le_of_ble_eq_true rfl) rfl ?_
  refine r_aload_n (pc := 2) dX2_dishes_2 rfl 1 rfl ?_
  refine r_getR (f := 9) (pc := 3) dX2_dishes_3 q266 (Or.inl rfl) rfl (fun v1 => ?_)
  refine r_cR (pc := 6) (rest := []) (RunOK_chk (fun h => run_F (n := 0) (c9 := 3) (As := []) (rest := []) (t_J2_iterator γ l hl v1 g) dX2_dishes_6 q354 q358 q360 q112 q362 (by decide +kernel) (by decide +kernel) rfl h ⟨by decide, by decide⟩ (Nat.le_of_ble_eq_true rfl) (Nat.le_of_ble_eq_true rfl) rfl (Nat.le_of_ble_eq_true rfl))) (fun v3 g2 => ?_)
  refine r_astore_n (pc := 11) dX2_dishes_11 rfl (Nat.le_of_ble_eq_true rfl) rfl ?_
  refine AW_sub [1, 0] rfl ?_
  refine f_X2_dishes_L12_w γ l hl _ v3 FU (0 : Int32) g2
abbrev ck_X2_ready : CK := ("BanquetVotes$Kitchen", prog_14_method_46_code, 4, (some .int), "ready", [], 6)
def f_X2_ready_L12 (γ : GP) (x2 : Nat) : Nat → Int32 → AH → Option (Int32 × AH)
  | 0, _, _ => none
  | n + 1, x1, g => bI ((if hK g x2 = 10 then f_J13_hasNext γ x2 g else if hK g x2 = 13 then f_J24_hasNext γ x2 g else if hK g x2 = 17 then f_J29_hasNext γ x2 g else if hK g x2 = 18 then f_J29_hasNext γ x2 g else none)) fun v5 g4 => (if v5 = 0 then (some (x1, g4)) else bR ((if hK g4 x2 = 10 then f_J13_next γ x2 g4 else if hK g4 x2 = 13 then f_J24_next γ x2 g4 else if hK g4 x2 = 17 then f_J31_next γ x2 g4 else if hK g4 x2 = 18 then f_J32_next γ x2 g4 else none)) fun v7 g6 => gC g6 [20] v7 (bI ((if hK g6 v7 = 20 then f_X7_those γ v7 (γ.1 11) g6 else none)) fun v9 g8 => f_X2_ready_L12 γ x2 n (x1 + v9) g8))
def f_X2_ready (γ : GP) (x0 : Nat) (g : AH) : Option (Int32 × AH) := gR g x0 9 fun v1 => bR ((if hK g v1 = 3 then f_J2_iterator γ v1 g else none)) fun v3 g2 => f_X2_ready_L12 γ v3 FU (0 : Int32) g2
theorem f_X2_ready_L12_w (γ : GP) (l : Launch) (hl : l.stackTraces = false) (G0 : AH) (x2 : Nat) : ∀ (n : Nat) (x1 : Int32) (g : AH), AW ρI γ l ck_X2_ready G0 12 [(1, .int x1), (2, .ref x2)] [] g (f_X2_ready_L12 γ x2 n x1 g) := by
  intro n
  induction n with
  | zero => intro x1 g; exact AW_none
  | succ n ih =>
    intro x1 g
    unfold f_X2_ready_L12
    refine r_aload_n (pc := 12) dX2_ready_12 rfl 1 rfl ?_
    refine r_cI (pc := 13) (rest := []) (RunOK_if (fun h => run_F (n := 0) (c9 := 10) (As := []) (rest := []) (t_J13_hasNext γ l hl x2 g) dX2_ready_13 q781 q800 q802 q126 q804 (by decide +kernel) (by decide +kernel) rfl h ⟨by decide, by decide⟩ (Nat.le_of_ble_eq_true rfl) (Nat.le_of_ble_eq_true rfl) rfl (Nat.le_of_ble_eq_true rfl)) (RunOK_if (fun h => run_F (n := 0) (c9 := 13) (As := []) (rest := []) (t_J24_hasNext γ l hl x2 g) dX2_ready_13 q781 q809 q811 q139 q813 (by decide +kernel) (by decide +kernel) rfl h ⟨by decide, by decide⟩ (Nat.le_of_ble_eq_true rfl) (Nat.le_of_ble_eq_true rfl) rfl (Nat.le_of_ble_eq_true rfl)) (RunOK_if (fun h => run_F (n := 0) (c9 := 17) (As := []) (rest := []) (t_J29_hasNext γ l hl x2 g) dX2_ready_13 q781 q821 q817 q145 q819 (by decide +kernel) (by decide +kernel) rfl h ⟨by decide, by decide⟩ (Nat.le_of_ble_eq_true rfl) (Nat.le_of_ble_eq_true rfl) rfl (Nat.le_of_ble_eq_true rfl)) (RunOK_chk (fun h => run_F (n := 0) (c9 := 18) (As := []) (rest := []) (t_J29_hasNext γ l hl x2 g) dX2_ready_13 q781 q824 q817 q145 q819 (by decide +kernel) (by decide +kernel) rfl h ⟨by decide, by decide⟩ (Nat.le_of_ble_eq_true rfl) (Nat.le_of_ble_eq_true rfl) rfl (Nat.le_of_ble_eq_true rfl)))))) (fun v5 g4 => ?_)
    refine r_if_eq (tgt := 44) (pc := 18) dX2_ready_18 (by decide) ?_ ?_
    · skip
      refine r_iload_n (pc := 44) dX2_ready_44 rfl 0 rfl ?_
      exact r_iret (pc := 45) dX2_ready_45 rfl
    · skip
      refine r_aload_n (pc := 21) dX2_ready_21 rfl 1 rfl ?_
      refine r_cR (pc := 22) (rest := []) (RunOK_if (fun h => run_F (n := 0) (c9 := 10) (As := []) (rest := []) (t_J13_next γ l hl x2 g4) dX2_ready_22 q827 q991 q993 q126 q995 (by decide +kernel) (by decide +kernel) rfl h ⟨by decide, by decide⟩ (Nat.le_of_ble_eq_true rfl) (Nat.le_of_ble_eq_true rfl) rfl (Nat.le_of_ble_eq_true rfl)) (RunOK_if (fun h => run_F (n := 0) (c9 := 13) (As := []) (rest := []) (t_J24_next γ l hl x2 g4) dX2_ready_22 q827 q1015 q1017 q139 q1019 (by decide +kernel) (by decide +kernel) rfl h ⟨by decide, by decide⟩ (Nat.le_of_ble_eq_true rfl) (Nat.le_of_ble_eq_true rfl) rfl (Nat.le_of_ble_eq_true rfl)) (RunOK_if (fun h => run_F (n := 0) (c9 := 17) (As := []) (rest := []) (t_J31_next γ l hl x2 g4) dX2_ready_22 q827 q1047 q1049 q147 q1051 (by decide +kernel) (by decide +kernel) rfl h ⟨by decide, by decide⟩ (Nat.le_of_ble_eq_true rfl) (Nat.le_of_ble_eq_true rfl) rfl (Nat.le_of_ble_eq_true rfl)) (RunOK_chk (fun h => run_F (n := 0) (c9 := 18) (As := []) (rest := []) (t_J32_next γ l hl x2 g4) dX2_ready_22 q827 q1055 q1057 q148 q1059 (by decide +kernel) (by decide +kernel) rfl h ⟨by decide, by decide⟩ (Nat.le_of_ble_eq_true rfl) (Nat.le_of_ble_eq_true rfl) rfl (Nat.le_of_ble_eq_true rfl)))))) (fun v7 g6 => ?_)
      refine r_cast_ (L := [20]) (pc := 27) dX2_ready_27 q1063 (List.forall_mem_cons.mpr ⟨⟨by decide, by decide, Or.inl rfl⟩, (fun _ h => absurd h List.not_mem_nil)⟩) ?_
      refine r_astore_n (pc := 30) dX2_ready_30 rfl (Nat.le_of_ble_eq_true rfl) rfl ?_
      refine r_iload_n (pc := 31) dX2_ready_31 rfl 1 rfl ?_
      refine r_aload_n (pc := 32) dX2_ready_32 rfl 0 rfl ?_
      refine r_gets (i := 11) (pc := 33) dX2_ready_33 q2712 (List.mem_of_getElem? (i := 11) rfl) rfl ?_
      refine r_cI (pc := 36) (rest := [.int x1]) (RunOK_chk (fun h => run_V (n := 1) (c9 := 20) (As := [.ref (γ.1 11)]) (rest := [.int x1]) (t_X7_those γ l hl v7 (γ.1 11) g6) dX2_ready_36 q2810 q1071 q1072 q150 q1073 (by decide +kernel) rfl h ⟨rfl, by decide, by decide⟩ (Nat.le_of_ble_eq_true rfl) (Nat.le_of_ble_eq_true rfl) rfl (Nat.le_of_ble_eq_true rfl))) (fun v9 g8 => ?_)
      refine r_iadd (pc := 39) dX2_ready_39 ?_
      refine r_istore_n (pc := 40) dX2_ready_40 rfl (Nat.le_of_ble_eq_true rfl) rfl ?_
      refine r_goto (tgt := 12) (pc := 41) dX2_ready_41 (by decide) ?_
      refine AW_sub [0, 2] rfl ?_
      exact ih (x1 + v9) g8
theorem t_X2_ready (γ : GP) (l : Launch) (hl : l.stackTraces = false) (x0 : Nat) (g : AH) : TrM ρI γ l ⟨"BanquetVotes$Kitchen", "ready", "()I"⟩ (ws_ ⟨"BanquetVotes$Kitchen", "ready", "()I"⟩ prog_14_method_46_code 4 (some .int)) 6 [.ref x0] g (f_X2_ready γ x0 g) := by
  refine TrM_of (plainFor_of_name (by decide)) (Nat.le_of_ble_eq_true rfl) ?_
  unfold f_X2_ready
  change AW ρI γ l ck_X2_ready g 0 [(0, .ref x0)] [] g _
  refine r_iconst (v := (0 : Int32)) (pc := 0) dX2_ready_0 (by decide) ?_
  refine r_istore_n (pc := 1) dX2_ready_1 rfl (Nat.le_of_ble_eq_true rfl) rfl ?_
  refine r_aload_n (pc := 2) dX2_ready_2 rfl 1 rfl ?_
  refine r_getR (f := 9) (pc := 3) dX2_ready_3 q266 (Or.inl rfl) rfl (fun v1 => ?_)
  refine r_cR (pc := 6) (rest := []) (RunOK_chk (fun h => run_F (n := 0) (c9 := 3) (As := []) (rest := []) (t_J2_iterator γ l hl v1 g) dX2_ready_6 q354 q358 q360 q112 q362 (by decide +kernel) (by decide +kernel) rfl h ⟨by decide, by decide⟩ (Nat.le_of_ble_eq_true rfl) (Nat.le_of_ble_eq_true rfl) rfl (Nat.le_of_ble_eq_true rfl))) (fun v3 g2 => ?_)
  refine r_astore_n (pc := 11) dX2_ready_11 rfl (Nat.le_of_ble_eq_true rfl) rfl ?_
  refine AW_sub [1, 0] rfl ?_
  refine f_X2_ready_L12_w γ l hl _ v3 FU (0 : Int32) g2
abbrev ck_X2_lost : CK := ("BanquetVotes$Kitchen", prog_14_method_9_code, 1, (some .int), "lost", [], 1)
def f_X2_lost (γ : GP) (x0 : Nat) (g : AH) : Option (Int32 × AH) := gI g x0 13 fun v1 => (some (v1, g))
theorem t_X2_lost (γ : GP) (l : Launch) (hl : l.stackTraces = false) (x0 : Nat) (g : AH) : TrM ρI γ l ⟨"BanquetVotes$Kitchen", "lost", "()I"⟩ (ws_ ⟨"BanquetVotes$Kitchen", "lost", "()I"⟩ prog_14_method_9_code 1 (some .int)) 1 [.ref x0] g (f_X2_lost γ x0 g) := by
  refine TrM_of (plainFor_of_name (by decide)) (Nat.le_of_ble_eq_true rfl) ?_
  unfold f_X2_lost
  change AW ρI γ l ck_X2_lost g 0 [(0, .ref x0)] [] g _
  refine r_aload_n (pc := 0) dX2_lost_0 rfl 0 rfl ?_
  refine r_getI (f := 13) (pc := 1) dX2_lost_1 q270 (Or.inl rfl) rfl (fun v1 => ?_)
  exact r_iret (pc := 4) dX2_lost_4 rfl
abbrev ck_X2_served : CK := ("BanquetVotes$Kitchen", prog_14_method_47_code, 4, (some .int), "served", [], 4)
def f_X2_served_L12 (γ : GP) (x2 : Nat) : Nat → Int32 → AH → Option (Int32 × AH)
  | 0, _, _ => none
  | n + 1, x1, g => bI ((if hK g x2 = 10 then f_J13_hasNext γ x2 g else if hK g x2 = 13 then f_J24_hasNext γ x2 g else if hK g x2 = 17 then f_J29_hasNext γ x2 g else if hK g x2 = 18 then f_J29_hasNext γ x2 g else none)) fun v5 g4 => (if v5 = 0 then (some (x1, g4)) else bR ((if hK g4 x2 = 10 then f_J13_next γ x2 g4 else if hK g4 x2 = 13 then f_J24_next γ x2 g4 else if hK g4 x2 = 17 then f_J31_next γ x2 g4 else if hK g4 x2 = 18 then f_J32_next γ x2 g4 else none)) fun v7 g6 => gC g6 [16] v7 (bI ((if hK g6 v7 = 16 then f_X6_served γ v7 g6 else none)) fun v9 g8 => f_X2_served_L12 γ x2 n (x1 + v9) g8))
def f_X2_served (γ : GP) (x0 : Nat) (g : AH) : Option (Int32 × AH) := gR g x0 8 fun v1 => bR ((if hK g v1 = 3 then f_J2_iterator γ v1 g else none)) fun v3 g2 => f_X2_served_L12 γ v3 FU (0 : Int32) g2
theorem f_X2_served_L12_w (γ : GP) (l : Launch) (hl : l.stackTraces = false) (G0 : AH) (x2 : Nat) : ∀ (n : Nat) (x1 : Int32) (g : AH), AW ρI γ l ck_X2_served G0 12 [(1, .int x1), (2, .ref x2)] [] g (f_X2_served_L12 γ x2 n x1 g) := by
  intro n
  induction n with
  | zero => intro x1 g; exact AW_none
  | succ n ih =>
    intro x1 g
    unfold f_X2_served_L12
    refine r_aload_n (pc := 12) dX2_served_12 rfl 1 rfl ?_
    refine r_cI (pc := 13) (rest := []) (RunOK_if (fun h => run_F (n := 0) (c9 := 10) (As := []) (rest := []) (t_J13_hasNext γ l hl x2 g) dX2_served_13 q781 q800 q802 q126 q804 (by decide +kernel) (by decide +kernel) rfl h ⟨by decide, by decide⟩ (Nat.le_of_ble_eq_true rfl) (Nat.le_of_ble_eq_true rfl) rfl (Nat.le_of_ble_eq_true rfl)) (RunOK_if (fun h => run_F (n := 0) (c9 := 13) (As := []) (rest := []) (t_J24_hasNext γ l hl x2 g) dX2_served_13 q781 q809 q811 q139 q813 (by decide +kernel) (by decide +kernel) rfl h ⟨by decide, by decide⟩ (Nat.le_of_ble_eq_true rfl) (Nat.le_of_ble_eq_true rfl) rfl (Nat.le_of_ble_eq_true rfl)) (RunOK_if (fun h => run_F (n := 0) (c9 := 17) (As := []) (rest := []) (t_J29_hasNext γ l hl x2 g) dX2_served_13 q781 q821 q817 q145 q819 (by decide +kernel) (by decide +kernel) rfl h ⟨by decide, by decide⟩ (Nat.le_of_ble_eq_true rfl) (Nat.le_of_ble_eq_true rfl) rfl (Nat.le_of_ble_eq_true rfl)) (RunOK_chk (fun h => run_F (n := 0) (c9 := 18) (As := []) (rest := []) (t_J29_hasNext γ l hl x2 g) dX2_served_13 q781 q824 q817 q145 q819 (by decide +kernel) (by decide +kernel) rfl h ⟨by decide, by decide⟩ (Nat.le_of_ble_eq_true rfl) (Nat.le_of_ble_eq_true rfl) rfl (Nat.le_of_ble_eq_true rfl)))))) (fun v5 g4 => ?_)
    refine r_if_eq (tgt := 41) (pc := 18) dX2_served_18 (by decide) ?_ ?_
    · skip
      refine r_iload_n (pc := 41) dX2_served_41 rfl 0 rfl ?_
      exact r_iret (pc := 42) dX2_served_42 rfl
    · skip
      refine r_aload_n (pc := 21) dX2_served_21 rfl 1 rfl ?_
      refine r_cR (pc := 22) (rest := []) (RunOK_if (fun h => run_F (n := 0) (c9 := 10) (As := []) (rest := []) (t_J13_next γ l hl x2 g4) dX2_served_22 q827 q991 q993 q126 q995 (by decide +kernel) (by decide +kernel) rfl h ⟨by decide, by decide⟩ (Nat.le_of_ble_eq_true rfl) (Nat.le_of_ble_eq_true rfl) rfl (Nat.le_of_ble_eq_true rfl)) (RunOK_if (fun h => run_F (n := 0) (c9 := 13) (As := []) (rest := []) (t_J24_next γ l hl x2 g4) dX2_served_22 q827 q1015 q1017 q139 q1019 (by decide +kernel) (by decide +kernel) rfl h ⟨by decide, by decide⟩ (Nat.le_of_ble_eq_true rfl) (Nat.le_of_ble_eq_true rfl) rfl (Nat.le_of_ble_eq_true rfl)) (RunOK_if (fun h => run_F (n := 0) (c9 := 17) (As := []) (rest := []) (t_J31_next γ l hl x2 g4) dX2_served_22 q827 q1047 q1049 q147 q1051 (by decide +kernel) (by decide +kernel) rfl h ⟨by decide, by decide⟩ (Nat.le_of_ble_eq_true rfl) (Nat.le_of_ble_eq_true rfl) rfl (Nat.le_of_ble_eq_true rfl)) (RunOK_chk (fun h => run_F (n := 0) (c9 := 18) (As := []) (rest := []) (t_J32_next γ l hl x2 g4) dX2_served_22 q827 q1055 q1057 q148 q1059 (by decide +kernel) (by decide +kernel) rfl h ⟨by decide, by decide⟩ (Nat.le_of_ble_eq_true rfl) (Nat.le_of_ble_eq_true rfl) rfl (Nat.le_of_ble_eq_true rfl)))))) (fun v7 g6 => ?_)
      refine r_cast_ (L := [16]) (pc := 27) dX2_served_27 q1225 (List.forall_mem_cons.mpr ⟨⟨by decide, by decide, Or.inl rfl⟩, (fun _ h => absurd h List.not_mem_nil)⟩) ?_
      refine r_astore_n (pc := 30) dX2_served_30 rfl (Nat.le_of_ble_eq_true rfl) rfl ?_
      refine r_iload_n (pc := 31) dX2_served_31 rfl 1 rfl ?_
      refine r_aload_n (pc := 32) dX2_served_32 rfl 0 rfl ?_
      refine r_cI (pc := 33) (rest := [.int x1]) (RunOK_chk (fun h => run_V (n := 0) (c9 := 16) (As := []) (rest := [.int x1]) (t_X6_served γ l hl v7 g6) dX2_served_33 q2893 q2087 q2088 q144 q2089 (by decide +kernel) rfl h ⟨rfl, by decide, by decide⟩ (Nat.le_of_ble_eq_true rfl) (Nat.le_of_ble_eq_true rfl) rfl (Nat.le_of_ble_eq_true rfl))) (fun v9 g8 => ?_)
      refine r_iadd (pc := 36) dX2_served_36 ?_
      refine r_istore_n (pc := 37) dX2_served_37 rfl (Nat.le_of_ble_eq_true rfl) rfl ?_
      refine r_goto (tgt := 12) (pc := 38) dX2_served_38 (by decide) ?_
      refine AW_sub [0, 2] rfl ?_
      exact ih (x1 + v9) g8
theorem t_X2_served (γ : GP) (l : Launch) (hl : l.stackTraces = false) (x0 : Nat) (g : AH) : TrM ρI γ l ⟨"BanquetVotes$Kitchen", "served", "()I"⟩ (ws_ ⟨"BanquetVotes$Kitchen", "served", "()I"⟩ prog_14_method_47_code 4 (some .int)) 4 [.ref x0] g (f_X2_served γ x0 g) := by
  refine TrM_of (plainFor_of_name (by decide)) (Nat.le_of_ble_eq_true rfl) ?_
  unfold f_X2_served
  change AW ρI γ l ck_X2_served g 0 [(0, .ref x0)] [] g _
  refine r_iconst (v := (0 : Int32)) (pc := 0) dX2_served_0 (by decide) ?_
  refine r_istore_n (pc := 1) dX2_served_1 rfl (Nat.le_of_ble_eq_true rfl) rfl ?_
  refine r_aload_n (pc := 2) dX2_served_2 rfl 1 rfl ?_
  refine r_getR (f := 8) (pc := 3) dX2_served_3 q265 (Or.inl rfl) rfl (fun v1 => ?_)
  refine r_cR (pc := 6) (rest := []) (RunOK_chk (fun h => run_F (n := 0) (c9 := 3) (As := []) (rest := []) (t_J2_iterator γ l hl v1 g) dX2_served_6 q354 q358 q360 q112 q362 (by decide +kernel) (by decide +kernel) rfl h ⟨by decide, by decide⟩ (Nat.le_of_ble_eq_true rfl) (Nat.le_of_ble_eq_true rfl) rfl (Nat.le_of_ble_eq_true rfl))) (fun v3 g2 => ?_)
  refine r_astore_n (pc := 11) dX2_served_11 rfl (Nat.le_of_ble_eq_true rfl) rfl ?_
  refine AW_sub [1, 0] rfl ?_
  refine f_X2_served_L12_w γ l hl _ v3 FU (0 : Int32) g2
abbrev ck_X1_account : CK := ("BanquetVotes", prog_1_method_44_code, 2, (some .int), "account", [], 8)
def f_X1_account (γ : GP) (x0 : Nat) (x1 : Int32) (g : AH) : Option ((Int32 × AH) ⊕ (Nat × AH)) := (if x1 = (0 : Int32) then gR g x0 0 fun v1 => bI ((if hK g v1 = 2 then f_X2_minute γ v1 g else none)) fun v3 g2 => (some (.inl (v3, g2))) else (if x1 = (1 : Int32) then gR g x0 0 fun v4 => bR ((if hK g v4 = 2 then f_X2_cooks γ v4 g else none)) fun v6 g5 => bI ((if hK g5 v6 = 3 then f_J2_size γ v6 g5 else if hK g5 v6 = 5 then f_J4_size γ v6 g5 else none)) fun v8 g7 => (some (.inl (v8, g7))) else (if x1 = (2 : Int32) then gR g x0 0 fun v9 => bR ((if hK g v9 = 2 then f_X2_courses γ v9 g else none)) fun v11 g10 => bI ((if hK g10 v11 = 3 then f_J2_size γ v11 g10 else if hK g10 v11 = 5 then f_J4_size γ v11 g10 else none)) fun v13 g12 => (some (.inl (v13, g12))) else (if x1 = (3 : Int32) then gR g x0 0 fun v14 => bI ((if hK g v14 = 2 then f_X2_those γ v14 (x1 - (3 : Int32)) g else none)) fun v16 g15 => (some (.inl (v16, g15))) else (if x1 = (4 : Int32) then gR g x0 0 fun v17 => bI ((if hK g v17 = 2 then f_X2_those γ v17 (x1 - (3 : Int32)) g else none)) fun v19 g18 => (some (.inl (v19, g18))) else (if x1 = (5 : Int32) then gR g x0 0 fun v20 => bI ((if hK g v20 = 2 then f_X2_those γ v20 (x1 - (3 : Int32)) g else none)) fun v22 g21 => (some (.inl (v22, g21))) else (if x1 = (6 : Int32) then gR g x0 0 fun v23 => bI ((if hK g v23 = 2 then f_X2_those γ v23 (x1 - (3 : Int32)) g else none)) fun v25 g24 => (some (.inl (v25, g24))) else (if x1 = (7 : Int32) then gR g x0 0 fun v26 => bI ((if hK g v26 = 2 then f_X2_dishes γ v26 g else none)) fun v28 g27 => (some (.inl (v28, g27))) else (if x1 = (8 : Int32) then gR g x0 0 fun v29 => bI ((if hK g v29 = 2 then f_X2_ready γ v29 g else none)) fun v31 g30 => (some (.inl (v31, g30))) else (if x1 = (9 : Int32) then gR g x0 0 fun v32 => bR ((if hK g v32 = 2 then f_X2_onWay γ v32 g else none)) fun v34 g33 => bI ((if hK g33 v34 = 3 then f_J2_size γ v34 g33 else if hK g33 v34 = 5 then f_J4_size γ v34 g33 else none)) fun v36 g35 => (some (.inl (v36, g35))) else (if x1 = (10 : Int32) then gR g x0 0 fun v37 => bI ((if hK g v37 = 2 then f_X2_lost γ v37 g else none)) fun v39 g38 => (some (.inl (v39, g38))) else (if x1 = (11 : Int32) then gR g x0 0 fun v40 => bI ((if hK g v40 = 2 then f_X2_fainted γ v40 g else none)) fun v42 g41 => (some (.inl (v42, g41))) else (if x1 = (12 : Int32) then gR g x0 0 fun v43 => bI ((if hK g v43 = 2 then f_X2_served γ v43 g else none)) fun v45 g44 => (some (.inl (v45, g44))) else (if x1 = (13 : Int32) then gR g x0 3 fun v46 => bI ((if hK g v46 = 6 then f_J6_length γ v46 g else none)) fun v48 g47 => (some (.inl (v48, g47))) else (if x1 = (14 : Int32) then gR g x0 2 fun v49 => bI ((if hK g v49 = 5 then f_J4_size γ v49 g else none)) fun v51 g50 => (some (.inl (v51, g50))) else mO g 9 fun q52 g53 => bV ((if q52 ≠ 0 then f_J12_init_2 γ q52 g53 else none)) fun g54 => (tw γ g54 q52 (thr q52 g54)))))))))))))))))
theorem t_X1_account (γ : GP) (l : Launch) (hl : l.stackTraces = false) (x0 : Nat) (x1 : Int32) (g : AH) : TrM (ρX ρI) γ l ⟨"BanquetVotes", "account", "(I)I"⟩ (ws_ ⟨"BanquetVotes", "account", "(I)I"⟩ prog_1_method_44_code 2 (some .int)) 8 [.ref x0, .int x1] g (f_X1_account γ x0 x1 g) := by
  refine TrM_of (plainFor_of_name (by decide)) (Nat.le_of_ble_eq_true rfl) ?_
  unfold f_X1_account
  change AW (ρX ρI) γ l ck_X1_account g 0 [(0, .ref x0), (1, .int x1)] [] g _
  refine r_iload_n (pc := 0) dX1_account_0 rfl 1 rfl ?_
  refine r_tabC (v := (0 : Int32)) (tgt := 76) (pc := 1) dX1_account_1 (by decide) (by decide) rfl (by decide) ?_ (fun c0 => ?_)
  · skip
    refine r_aload_n (pc := 76) dX1_account_76 rfl 0 rfl ?_
    refine r_getR (f := 0) (pc := 77) dX1_account_77 q320 (Or.inl rfl) rfl (fun v1 => ?_)
    refine r_cI (pc := 80) (rest := []) (RunOK_chk (fun h => run_V (n := 0) (c9 := 2) (As := []) (rest := []) (t_X2_minute γ l hl v1 g) dX1_account_80 q1194 q1195 q1196 q109 q1197 (by decide +kernel) rfl h ⟨rfl, by decide, by decide⟩ (Nat.le_of_ble_eq_true rfl) (Nat.le_of_ble_eq_true rfl) rfl (Nat.le_of_ble_eq_true rfl))) (fun v3 g2 => ?_)
    exact r_inl (fun _ => rfl) (r_iret (pc := 83) dX1_account_83 rfl)
  · skip
    refine r_tabC (v := (1 : Int32)) (tgt := 84) (pc := 1) dX1_account_1 (by decide) (by decide) rfl (by decide) ?_ (fun c1 => ?_)
    · skip
      refine r_aload_n (pc := 84) dX1_account_84 rfl 0 rfl ?_
      refine r_getR (f := 0) (pc := 85) dX1_account_85 q320 (Or.inl rfl) rfl (fun v4 => ?_)
      refine r_cR (pc := 88) (rest := []) (RunOK_chk (fun h => run_V (n := 0) (c9 := 2) (As := []) (rest := []) (t_X2_cooks γ l hl v4 g) dX1_account_88 q1999 q2000 q2001 q109 q2002 (by decide +kernel) rfl h ⟨rfl, by decide, by decide⟩ (Nat.le_of_ble_eq_true rfl) (Nat.le_of_ble_eq_true rfl) rfl (Nat.le_of_ble_eq_true rfl))) (fun v6 g5 => ?_)
      refine r_cI (pc := 91) (rest := []) (RunOK_if (fun h => run_F (n := 0) (c9 := 3) (As := []) (rest := []) (t_J2_size γ l hl v6 g5) dX1_account_91 q2004 q1891 q794 q112 q795 (by decide +kernel) (by decide +kernel) rfl h ⟨by decide, by decide⟩ (Nat.le_of_ble_eq_true rfl) (Nat.le_of_ble_eq_true rfl) rfl (Nat.le_of_ble_eq_true rfl)) (RunOK_chk (fun h => run_F (n := 0) (c9 := 5) (As := []) (rest := []) (t_J4_size γ l hl v6 g5) dX1_account_91 q2004 q1894 q797 q116 q798 (by decide +kernel) (by decide +kernel) rfl h ⟨by decide, by decide⟩ (Nat.le_of_ble_eq_true rfl) (Nat.le_of_ble_eq_true rfl) rfl (Nat.le_of_ble_eq_true rfl)))) (fun v8 g7 => ?_)
      exact r_inl (fun _ => rfl) (r_iret (pc := 96) dX1_account_96 rfl)
    · skip
      refine r_tabC (v := (2 : Int32)) (tgt := 97) (pc := 1) dX1_account_1 (by decide) (by decide) rfl (by decide) ?_ (fun c2 => ?_)
      · skip
        refine r_aload_n (pc := 97) dX1_account_97 rfl 0 rfl ?_
        refine r_getR (f := 0) (pc := 98) dX1_account_98 q320 (Or.inl rfl) rfl (fun v9 => ?_)
        refine r_cR (pc := 101) (rest := []) (RunOK_chk (fun h => run_V (n := 0) (c9 := 2) (As := []) (rest := []) (t_X2_courses γ l hl v9 g) dX1_account_101 q2119 q2120 q2121 q109 q2122 (by decide +kernel) rfl h ⟨rfl, by decide, by decide⟩ (Nat.le_of_ble_eq_true rfl) (Nat.le_of_ble_eq_true rfl) rfl (Nat.le_of_ble_eq_true rfl))) (fun v11 g10 => ?_)
        refine r_cI (pc := 104) (rest := []) (RunOK_if (fun h => run_F (n := 0) (c9 := 3) (As := []) (rest := []) (t_J2_size γ l hl v11 g10) dX1_account_104 q2004 q1891 q794 q112 q795 (by decide +kernel) (by decide +kernel) rfl h ⟨by decide, by decide⟩ (Nat.le_of_ble_eq_true rfl) (Nat.le_of_ble_eq_true rfl) rfl (Nat.le_of_ble_eq_true rfl)) (RunOK_chk (fun h => run_F (n := 0) (c9 := 5) (As := []) (rest := []) (t_J4_size γ l hl v11 g10) dX1_account_104 q2004 q1894 q797 q116 q798 (by decide +kernel) (by decide +kernel) rfl h ⟨by decide, by decide⟩ (Nat.le_of_ble_eq_true rfl) (Nat.le_of_ble_eq_true rfl) rfl (Nat.le_of_ble_eq_true rfl)))) (fun v13 g12 => ?_)
        exact r_inl (fun _ => rfl) (r_iret (pc := 109) dX1_account_109 rfl)
      · skip
        refine r_tabC (v := (3 : Int32)) (tgt := 110) (pc := 1) dX1_account_1 (by decide) (by decide) rfl (by decide) ?_ (fun c3 => ?_)
        · skip
          refine r_aload_n (pc := 110) dX1_account_110 rfl 0 rfl ?_
          refine r_getR (f := 0) (pc := 111) dX1_account_111 q320 (Or.inl rfl) rfl (fun v14 => ?_)
          refine r_iload_n (pc := 114) dX1_account_114 rfl 1 rfl ?_
          refine r_iconst (v := (3 : Int32)) (pc := 115) dX1_account_115 (by decide) ?_
          refine r_isub (pc := 116) dX1_account_116 ?_
          refine r_cI (pc := 117) (rest := []) (RunOK_chk (fun h => run_V (n := 1) (c9 := 2) (As := [.int (x1 - (3 : Int32))]) (rest := []) (t_X2_those γ l hl v14 (x1 - (3 : Int32)) g) dX1_account_117 q3287 q2574 q2575 q109 q2576 (by decide +kernel) rfl h ⟨rfl, by decide, by decide⟩ (Nat.le_of_ble_eq_true rfl) (Nat.le_of_ble_eq_true rfl) rfl (Nat.le_of_ble_eq_true rfl))) (fun v16 g15 => ?_)
          exact r_inl (fun _ => rfl) (r_iret (pc := 120) dX1_account_120 rfl)
        · skip
          refine r_tabC (v := (4 : Int32)) (tgt := 110) (pc := 1) dX1_account_1 (by decide) (by decide) rfl (by decide) ?_ (fun c4 => ?_)
          · skip
            refine r_aload_n (pc := 110) dX1_account_110 rfl 0 rfl ?_
            refine r_getR (f := 0) (pc := 111) dX1_account_111 q320 (Or.inl rfl) rfl (fun v17 => ?_)
            refine r_iload_n (pc := 114) dX1_account_114 rfl 1 rfl ?_
            refine r_iconst (v := (3 : Int32)) (pc := 115) dX1_account_115 (by decide) ?_
            refine r_isub (pc := 116) dX1_account_116 ?_
            refine r_cI (pc := 117) (rest := []) (RunOK_chk (fun h => run_V (n := 1) (c9 := 2) (As := [.int (x1 - (3 : Int32))]) (rest := []) (t_X2_those γ l hl v17 (x1 - (3 : Int32)) g) dX1_account_117 q3287 q2574 q2575 q109 q2576 (by decide +kernel) rfl h ⟨rfl, by decide, by decide⟩ (Nat.le_of_ble_eq_true rfl) (Nat.le_of_ble_eq_true rfl) rfl (Nat.le_of_ble_eq_true rfl))) (fun v19 g18 => ?_)
            exact r_inl (fun _ => rfl) (r_iret (pc := 120) dX1_account_120 rfl)
          · skip
            refine r_tabC (v := (5 : Int32)) (tgt := 110) (pc := 1) dX1_account_1 (by decide) (by decide) rfl (by decide) ?_ (fun c5 => ?_)
            · skip
              refine r_aload_n (pc := 110) dX1_account_110 rfl 0 rfl ?_
              refine r_getR (f := 0) (pc := 111) dX1_account_111 q320 (Or.inl rfl) rfl (fun v20 => ?_)
              refine r_iload_n (pc := 114) dX1_account_114 rfl 1 rfl ?_
              refine r_iconst (v := (3 : Int32)) (pc := 115) dX1_account_115 (by decide) ?_
              refine r_isub (pc := 116) dX1_account_116 ?_
              refine r_cI (pc := 117) (rest := []) (RunOK_chk (fun h => run_V (n := 1) (c9 := 2) (As := [.int (x1 - (3 : Int32))]) (rest := []) (t_X2_those γ l hl v20 (x1 - (3 : Int32)) g) dX1_account_117 q3287 q2574 q2575 q109 q2576 (by decide +kernel) rfl h ⟨rfl, by decide, by decide⟩ (Nat.le_of_ble_eq_true rfl) (Nat.le_of_ble_eq_true rfl) rfl (Nat.le_of_ble_eq_true rfl))) (fun v22 g21 => ?_)
              exact r_inl (fun _ => rfl) (r_iret (pc := 120) dX1_account_120 rfl)
            · skip
              refine r_tabC (v := (6 : Int32)) (tgt := 110) (pc := 1) dX1_account_1 (by decide) (by decide) rfl (by decide) ?_ (fun c6 => ?_)
              · skip
                refine r_aload_n (pc := 110) dX1_account_110 rfl 0 rfl ?_
                refine r_getR (f := 0) (pc := 111) dX1_account_111 q320 (Or.inl rfl) rfl (fun v23 => ?_)
                refine r_iload_n (pc := 114) dX1_account_114 rfl 1 rfl ?_
                refine r_iconst (v := (3 : Int32)) (pc := 115) dX1_account_115 (by decide) ?_
                refine r_isub (pc := 116) dX1_account_116 ?_
                refine r_cI (pc := 117) (rest := []) (RunOK_chk (fun h => run_V (n := 1) (c9 := 2) (As := [.int (x1 - (3 : Int32))]) (rest := []) (t_X2_those γ l hl v23 (x1 - (3 : Int32)) g) dX1_account_117 q3287 q2574 q2575 q109 q2576 (by decide +kernel) rfl h ⟨rfl, by decide, by decide⟩ (Nat.le_of_ble_eq_true rfl) (Nat.le_of_ble_eq_true rfl) rfl (Nat.le_of_ble_eq_true rfl))) (fun v25 g24 => ?_)
                exact r_inl (fun _ => rfl) (r_iret (pc := 120) dX1_account_120 rfl)
              · skip
                refine r_tabC (v := (7 : Int32)) (tgt := 121) (pc := 1) dX1_account_1 (by decide) (by decide) rfl (by decide) ?_ (fun c7 => ?_)
                · skip
                  refine r_aload_n (pc := 121) dX1_account_121 rfl 0 rfl ?_
                  refine r_getR (f := 0) (pc := 122) dX1_account_122 q320 (Or.inl rfl) rfl (fun v26 => ?_)
                  refine r_cI (pc := 125) (rest := []) (RunOK_chk (fun h => run_V (n := 0) (c9 := 2) (As := []) (rest := []) (t_X2_dishes γ l hl v26 g) dX1_account_125 q3288 q3289 q3290 q109 q3291 (by decide +kernel) rfl h ⟨rfl, by decide, by decide⟩ (Nat.le_of_ble_eq_true rfl) (Nat.le_of_ble_eq_true rfl) rfl (Nat.le_of_ble_eq_true rfl))) (fun v28 g27 => ?_)
                  exact r_inl (fun _ => rfl) (r_iret (pc := 128) dX1_account_128 rfl)
                · skip
                  refine r_tabC (v := (8 : Int32)) (tgt := 129) (pc := 1) dX1_account_1 (by decide) (by decide) rfl (by decide) ?_ (fun c8 => ?_)
                  · skip
                    refine r_aload_n (pc := 129) dX1_account_129 rfl 0 rfl ?_
                    refine r_getR (f := 0) (pc := 130) dX1_account_130 q320 (Or.inl rfl) rfl (fun v29 => ?_)
                    refine r_cI (pc := 133) (rest := []) (RunOK_chk (fun h => run_V (n := 0) (c9 := 2) (As := []) (rest := []) (t_X2_ready γ l hl v29 g) dX1_account_133 q3292 q3293 q3294 q109 q3295 (by decide +kernel) rfl h ⟨rfl, by decide, by decide⟩ (Nat.le_of_ble_eq_true rfl) (Nat.le_of_ble_eq_true rfl) rfl (Nat.le_of_ble_eq_true rfl))) (fun v31 g30 => ?_)
                    exact r_inl (fun _ => rfl) (r_iret (pc := 136) dX1_account_136 rfl)
                  · skip
                    refine r_tabC (v := (9 : Int32)) (tgt := 137) (pc := 1) dX1_account_1 (by decide) (by decide) rfl (by decide) ?_ (fun c9 => ?_)
                    · skip
                      refine r_aload_n (pc := 137) dX1_account_137 rfl 0 rfl ?_
                      refine r_getR (f := 0) (pc := 138) dX1_account_138 q320 (Or.inl rfl) rfl (fun v32 => ?_)
                      refine r_cR (pc := 141) (rest := []) (RunOK_chk (fun h => run_V (n := 0) (c9 := 2) (As := []) (rest := []) (t_X2_onWay γ l hl v32 g) dX1_account_141 q2819 q2820 q2821 q109 q2822 (by decide +kernel) rfl h ⟨rfl, by decide, by decide⟩ (Nat.le_of_ble_eq_true rfl) (Nat.le_of_ble_eq_true rfl) rfl (Nat.le_of_ble_eq_true rfl))) (fun v34 g33 => ?_)
                      refine r_cI (pc := 144) (rest := []) (RunOK_if (fun h => run_F (n := 0) (c9 := 3) (As := []) (rest := []) (t_J2_size γ l hl v34 g33) dX1_account_144 q2004 q1891 q794 q112 q795 (by decide +kernel) (by decide +kernel) rfl h ⟨by decide, by decide⟩ (Nat.le_of_ble_eq_true rfl) (Nat.le_of_ble_eq_true rfl) rfl (Nat.le_of_ble_eq_true rfl)) (RunOK_chk (fun h => run_F (n := 0) (c9 := 5) (As := []) (rest := []) (t_J4_size γ l hl v34 g33) dX1_account_144 q2004 q1894 q797 q116 q798 (by decide +kernel) (by decide +kernel) rfl h ⟨by decide, by decide⟩ (Nat.le_of_ble_eq_true rfl) (Nat.le_of_ble_eq_true rfl) rfl (Nat.le_of_ble_eq_true rfl)))) (fun v36 g35 => ?_)
                      exact r_inl (fun _ => rfl) (r_iret (pc := 149) dX1_account_149 rfl)
                    · skip
                      refine r_tabC (v := (10 : Int32)) (tgt := 150) (pc := 1) dX1_account_1 (by decide) (by decide) rfl (by decide) ?_ (fun c10 => ?_)
                      · skip
                        refine r_aload_n (pc := 150) dX1_account_150 rfl 0 rfl ?_
                        refine r_getR (f := 0) (pc := 151) dX1_account_151 q320 (Or.inl rfl) rfl (fun v37 => ?_)
                        refine r_cI (pc := 154) (rest := []) (RunOK_chk (fun h => run_V (n := 0) (c9 := 2) (As := []) (rest := []) (t_X2_lost γ l hl v37 g) dX1_account_154 q3296 q3297 q3298 q109 q3299 (by decide +kernel) rfl h ⟨rfl, by decide, by decide⟩ (Nat.le_of_ble_eq_true rfl) (Nat.le_of_ble_eq_true rfl) rfl (Nat.le_of_ble_eq_true rfl))) (fun v39 g38 => ?_)
                        exact r_inl (fun _ => rfl) (r_iret (pc := 157) dX1_account_157 rfl)
                      · skip
                        refine r_tabC (v := (11 : Int32)) (tgt := 158) (pc := 1) dX1_account_1 (by decide) (by decide) rfl (by decide) ?_ (fun c11 => ?_)
                        · skip
                          refine r_aload_n (pc := 158) dX1_account_158 rfl 0 rfl ?_
                          refine r_getR (f := 0) (pc := 159) dX1_account_159 q320 (Or.inl rfl) rfl (fun v40 => ?_)
                          refine r_cI (pc := 162) (rest := []) (RunOK_chk (fun h => run_V (n := 0) (c9 := 2) (As := []) (rest := []) (t_X2_fainted γ l hl v40 g) dX1_account_162 q3300 q2486 q2487 q109 q2488 (by decide +kernel) rfl h ⟨rfl, by decide, by decide⟩ (Nat.le_of_ble_eq_true rfl) (Nat.le_of_ble_eq_true rfl) rfl (Nat.le_of_ble_eq_true rfl))) (fun v42 g41 => ?_)
                          exact r_inl (fun _ => rfl) (r_iret (pc := 165) dX1_account_165 rfl)
                        · skip
                          refine r_tabC (v := (12 : Int32)) (tgt := 166) (pc := 1) dX1_account_1 (by decide) (by decide) rfl (by decide) ?_ (fun c12 => ?_)
                          · skip
                            refine r_aload_n (pc := 166) dX1_account_166 rfl 0 rfl ?_
                            refine r_getR (f := 0) (pc := 167) dX1_account_167 q320 (Or.inl rfl) rfl (fun v43 => ?_)
                            refine r_cI (pc := 170) (rest := []) (RunOK_chk (fun h => run_V (n := 0) (c9 := 2) (As := []) (rest := []) (t_X2_served γ l hl v43 g) dX1_account_170 q3301 q3302 q3303 q109 q3304 (by decide +kernel) rfl h ⟨rfl, by decide, by decide⟩ (Nat.le_of_ble_eq_true rfl) (Nat.le_of_ble_eq_true rfl) rfl (Nat.le_of_ble_eq_true rfl))) (fun v45 g44 => ?_)
                            exact r_inl (fun _ => rfl) (r_iret (pc := 173) dX1_account_173 rfl)
                          · skip
                            refine r_tabC (v := (13 : Int32)) (tgt := 174) (pc := 1) dX1_account_1 (by decide) (by decide) rfl (by decide) ?_ (fun c13 => ?_)
                            · skip
                              refine r_aload_n (pc := 174) dX1_account_174 rfl 0 rfl ?_
                              refine r_getR (f := 3) (pc := 175) dX1_account_175 q323 (Or.inl rfl) rfl (fun v46 => ?_)
                              refine r_cI (pc := 178) (rest := []) (RunOK_chk (fun h => run_V (n := 0) (c9 := 6) (As := []) (rest := []) (t_J6_length γ l hl v46 g) dX1_account_178 q2904 q629 q3910 q118 q630 (by decide +kernel) rfl h ⟨rfl, by decide, by decide⟩ (Nat.le_of_ble_eq_true rfl) (Nat.le_of_ble_eq_true rfl) rfl (Nat.le_of_ble_eq_true rfl))) (fun v48 g47 => ?_)
                              exact r_inl (fun _ => rfl) (r_iret (pc := 181) dX1_account_181 rfl)
                            · skip
                              refine r_tabC (v := (14 : Int32)) (tgt := 182) (pc := 1) dX1_account_1 (by decide) (by decide) rfl (by decide) ?_ (fun c14 => ?_)
                              · skip
                                refine r_aload_n (pc := 182) dX1_account_182 rfl 0 rfl ?_
                                refine r_getR (f := 2) (pc := 183) dX1_account_183 q322 (Or.inl rfl) rfl (fun v49 => ?_)
                                refine r_cI (pc := 186) (rest := []) (RunOK_chk (fun h => run_V (n := 0) (c9 := 5) (As := []) (rest := []) (t_J4_size γ l hl v49 g) dX1_account_186 q1930 q797 q3899 q116 q798 (by decide +kernel) rfl h ⟨rfl, by decide, by decide⟩ (Nat.le_of_ble_eq_true rfl) (Nat.le_of_ble_eq_true rfl) rfl (Nat.le_of_ble_eq_true rfl))) (fun v51 g50 => ?_)
                                exact r_inl (fun _ => rfl) (r_iret (pc := 189) dX1_account_189 rfl)
                              · skip
                                refine r_tabD (tgt := 190) (pc := 1) dX1_account_1 (by have e0 := lv_neT c0 (a := 0) rfl; have e1 := lv_neT c1 (a := 1) rfl; have e2 := lv_neT c2 (a := 2) rfl; have e3 := lv_neT c3 (a := 3) rfl; have e4 := lv_neT c4 (a := 4) rfl; have e5 := lv_neT c5 (a := 5) rfl; have e6 := lv_neT c6 (a := 6) rfl; have e7 := lv_neT c7 (a := 7) rfl; have e8 := lv_neT c8 (a := 8) rfl; have e9 := lv_neT c9 (a := 9) rfl; have e10 := lv_neT c10 (a := 10) rfl; have e11 := lv_neT c11 (a := 11) rfl; have e12 := lv_neT c12 (a := 12) rfl; have e13 := lv_neT c13 (a := 13) rfl; have e14 := lv_neT c14 (a := 14) rfl; omega) (by decide) ?_
                                refine r_new (c := 9) (pc := 190) dX1_account_190 q1214 (by decide) (by decide) (fun q52 g53 => ?_)
                                refine r_dup (pc := 193) dX1_account_193 rfl ?_
                                refine r_cV (pc := 194) (rest := [.ref q52]) (RunOK_chk (fun h => run_I (n := 0) (As := []) (rest := [.ref q52]) (t_J12_init_2 γ l hl q52 g53) dX1_account_194 q1215 q1216 q125 q1217 rfl (by decide +kernel) rfl h (Nat.le_of_ble_eq_true rfl) (Nat.le_of_ble_eq_true rfl) rfl (Nat.le_of_ble_eq_true rfl))) (fun g54 => ?_)
                                refine r_athrow (pc := 197) dX1_account_197 ?_
                                exact x_out (by decide)
abbrev ck_X1_meanWait : CK := ("BanquetVotes", prog_1_method_45_code, 6, (some .double), "meanWait", [], 8)
def f_X1_meanWait_L17 (γ : GP) (x3 : Nat) (K100 : Int32 → Int32 → AH → Option ((UInt64 × AH) ⊕ (Nat × AH))) : Nat → Int32 → Int32 → AH → Option ((UInt64 × AH) ⊕ (Nat × AH))
  | 0, _, _, _ => none
  | n + 1, x1, x2, g => bI ((if hK g x3 = 10 then f_J13_hasNext γ x3 g else if hK g x3 = 13 then f_J24_hasNext γ x3 g else if hK g x3 = 17 then f_J29_hasNext γ x3 g else if hK g x3 = 18 then f_J29_hasNext γ x3 g else none)) fun v7 g6 => (if v7 = 0 then K100 x1 x2 g6 else bR ((if hK g6 x3 = 10 then f_J13_next γ x3 g6 else if hK g6 x3 = 13 then f_J24_next γ x3 g6 else if hK g6 x3 = 17 then f_J31_next γ x3 g6 else if hK g6 x3 = 18 then f_J32_next γ x3 g6 else none)) fun v9 g8 => gC g8 [20] v9 (bI ((if hK g8 v9 = 20 then f_X7_asked γ v9 g8 else none)) fun v11 g10 => jn (fun (y12 : Int32) (y13 : Int32) (y14 : Nat) (g15 : AH) => jn (fun (z17 : Int32) (z18 : Int32) (g19 : AH) => (if (0 : Int32) = 0 then f_X1_meanWait_L17 γ x3 K100 n (z18 + z17) (y13 + (0 : Int32)) g19 else f_X1_meanWait_L17 γ x3 K100 n (z18 + z17) (y13 + (1 : Int32)) g19)) (fun (j20 : Int32 → Int32 → AH → Option ((UInt64 × AH) ⊕ (Nat × AH))) => (if (0 : Int32) = 0 then j20 (0 : Int32) y12 g15 else bI ((if hK g15 y14 = 20 then f_X7_decided γ y14 g15 else none)) fun v22 g21 => bI ((if hK g21 y14 = 20 then f_X7_asked γ y14 g21 else none)) fun v24 g23 => j20 (v22 - v24) y12 g23))) (fun (j16 : Int32 → Int32 → Nat → AH → Option ((UInt64 × AH) ⊕ (Nat × AH))) => (if v11 = (-1 : Int32) then j16 x1 x2 v9 g10 else bI ((if hK g10 v9 = 20 then f_X7_isDecided γ v9 g10 else none)) fun v26 g25 => (if v26 = 0 then j16 x1 x2 v9 g25 else jn (fun (z27 : Int32) (z28 : Int32) (g29 : AH) => (if (1 : Int32) = 0 then f_X1_meanWait_L17 γ x3 K100 n (z28 + z27) (x2 + (0 : Int32)) g29 else f_X1_meanWait_L17 γ x3 K100 n (z28 + z27) (x2 + (1 : Int32)) g29)) (fun (j30 : Int32 → Int32 → AH → Option ((UInt64 × AH) ⊕ (Nat × AH))) => (if (1 : Int32) = 0 then j30 (0 : Int32) x1 g25 else bI ((if hK g25 v9 = 20 then f_X7_decided γ v9 g25 else none)) fun v32 g31 => bI ((if hK g31 v9 = 20 then f_X7_asked γ v9 g31 else none)) fun v34 g33 => j30 (v32 - v34) x1 g33)))))))
def f_X1_meanWait (γ : GP) (x0 : Nat) (g : AH) : Option ((UInt64 × AH) ⊕ (Nat × AH)) := gR g x0 0 fun v1 => bR ((if hK g v1 = 2 then f_X2_courses γ v1 g else none)) fun v3 g2 => bR ((if hK g2 v3 = 3 then f_J2_iterator γ v3 g2 else none)) fun v5 g4 => f_X1_meanWait_L17 γ v5 (fun (y35 : Int32) (y36 : Int32) (g37 : AH) => (if y36 = 0 then mO g37 36 fun q38 g39 => bV ((if q38 ≠ 0 then f_J48_init_2 γ q38 g39 else none)) fun g40 => (tw γ g40 q38 (thr q38 g40)) else (if (FP.ddiv (FP.i2d y35) (FP.i2d y36)) &&& 0x7fffffffffffffff ≤ 0x7ff0000000000000 then (some (.inl ((FP.ddiv (FP.i2d y35) (FP.i2d y36)), g37))) else none))) FU (0 : Int32) (0 : Int32) g4
theorem f_X1_meanWait_L17_w (γ : GP) (l : Launch) (hl : l.stackTraces = false) (G0 : AH) (x3 : Nat) (K100 : Int32 → Int32 → AH → Option ((UInt64 × AH) ⊕ (Nat × AH))) (h_K100 : ∀ (y1 : Int32) (y2 : Int32) (g : AH), AW (ρX ρD) γ l ck_X1_meanWait G0 100 [(1, .int y1), (2, .int y2)] [] g (K100 y1 y2 g)) : ∀ (n : Nat) (x1 : Int32) (x2 : Int32) (g : AH), AW (ρX ρD) γ l ck_X1_meanWait G0 17 [(1, .int x1), (2, .int x2), (3, .ref x3)] [] g (f_X1_meanWait_L17 γ x3 K100 n x1 x2 g) := by
  intro n
  induction n with
  | zero => intro x1 x2 g; exact AW_none
  | succ n ih =>
    intro x1 x2 g
    unfold f_X1_meanWait_L17
    refine r_aload_n (pc := 17) dX1_meanWait_17 rfl 2 rfl ?_
    refine r_cI (pc := 18) (rest := []) (RunOK_if (fun h => run_F (n := 0) (c9 := 10) (As := []) (rest := []) (t_J13_hasNext γ l hl x3 g) dX1_meanWait_18 q3209 q800 q802 q126 q804 (by decide +kernel) (by decide +kernel) rfl h ⟨by decide, by decide⟩ (Nat.le_of_ble_eq_true rfl) (Nat.le_of_ble_eq_true rfl) rfl (Nat.le_of_ble_eq_true rfl)) (RunOK_if (fun h => run_F (n := 0) (c9 := 13) (As := []) (rest := []) (t_J24_hasNext γ l hl x3 g) dX1_meanWait_18 q3209 q809 q811 q139 q813 (by decide +kernel) (by decide +kernel) rfl h ⟨by decide, by decide⟩ (Nat.le_of_ble_eq_true rfl) (Nat.le_of_ble_eq_true rfl) rfl (Nat.le_of_ble_eq_true rfl)) (RunOK_if (fun h => run_F (n := 0) (c9 := 17) (As := []) (rest := []) (t_J29_hasNext γ l hl x3 g) dX1_meanWait_18 q3209 q821 q817 q145 q819 (by decide +kernel) (by decide +kernel) rfl h ⟨by decide, by decide⟩ (Nat.le_of_ble_eq_true rfl) (Nat.le_of_ble_eq_true rfl) rfl (Nat.le_of_ble_eq_true rfl)) (RunOK_chk (fun h => run_F (n := 0) (c9 := 18) (As := []) (rest := []) (t_J29_hasNext γ l hl x3 g) dX1_meanWait_18 q3209 q824 q817 q145 q819 (by decide +kernel) (by decide +kernel) rfl h ⟨by decide, by decide⟩ (Nat.le_of_ble_eq_true rfl) (Nat.le_of_ble_eq_true rfl) rfl (Nat.le_of_ble_eq_true rfl)))))) (fun v7 g6 => ?_)
    refine r_if_eq (tgt := 100) (pc := 23) dX1_meanWait_23 (by decide) ?_ ?_
    · skip
      refine AW_sub [0, 1] rfl ?_
      exact h_K100 x1 x2 g6
    · skip
      refine r_aload_n (pc := 26) dX1_meanWait_26 rfl 2 rfl ?_
      refine r_cR (pc := 27) (rest := []) (RunOK_if (fun h => run_F (n := 0) (c9 := 10) (As := []) (rest := []) (t_J13_next γ l hl x3 g6) dX1_meanWait_27 q3211 q991 q993 q126 q995 (by decide +kernel) (by decide +kernel) rfl h ⟨by decide, by decide⟩ (Nat.le_of_ble_eq_true rfl) (Nat.le_of_ble_eq_true rfl) rfl (Nat.le_of_ble_eq_true rfl)) (RunOK_if (fun h => run_F (n := 0) (c9 := 13) (As := []) (rest := []) (t_J24_next γ l hl x3 g6) dX1_meanWait_27 q3211 q1015 q1017 q139 q1019 (by decide +kernel) (by decide +kernel) rfl h ⟨by decide, by decide⟩ (Nat.le_of_ble_eq_true rfl) (Nat.le_of_ble_eq_true rfl) rfl (Nat.le_of_ble_eq_true rfl)) (RunOK_if (fun h => run_F (n := 0) (c9 := 17) (As := []) (rest := []) (t_J31_next γ l hl x3 g6) dX1_meanWait_27 q3211 q1047 q1049 q147 q1051 (by decide +kernel) (by decide +kernel) rfl h ⟨by decide, by decide⟩ (Nat.le_of_ble_eq_true rfl) (Nat.le_of_ble_eq_true rfl) rfl (Nat.le_of_ble_eq_true rfl)) (RunOK_chk (fun h => run_F (n := 0) (c9 := 18) (As := []) (rest := []) (t_J32_next γ l hl x3 g6) dX1_meanWait_27 q3211 q1055 q1057 q148 q1059 (by decide +kernel) (by decide +kernel) rfl h ⟨by decide, by decide⟩ (Nat.le_of_ble_eq_true rfl) (Nat.le_of_ble_eq_true rfl) rfl (Nat.le_of_ble_eq_true rfl)))))) (fun v9 g8 => ?_)
      refine r_cast_ (L := [20]) (pc := 32) dX1_meanWait_32 q3326 (List.forall_mem_cons.mpr ⟨⟨by decide, by decide, Or.inl rfl⟩, (fun _ h => absurd h List.not_mem_nil)⟩) ?_
      refine r_astore (pc := 35) dX1_meanWait_35 (Nat.le_of_ble_eq_true rfl) rfl ?_
      refine r_aload (pc := 37) dX1_meanWait_37 0 rfl ?_
      refine r_cI (pc := 39) (rest := []) (RunOK_chk (fun h => run_V (n := 0) (c9 := 20) (As := []) (rest := []) (t_X7_asked γ l hl v9 g8) dX1_meanWait_39 q2161 q2162 q2163 q150 q2164 (by decide +kernel) rfl h ⟨rfl, by decide, by decide⟩ (Nat.le_of_ble_eq_true rfl) (Nat.le_of_ble_eq_true rfl) rfl (Nat.le_of_ble_eq_true rfl))) (fun v11 g10 => ?_)
      refine r_iconst (v := (-1 : Int32)) (pc := 42) dX1_meanWait_42 (by decide) ?_
      refine AW_jn (P := fun (j : Int32 → Int32 → Nat → AH → Option ((UInt64 × AH) ⊕ (Nat × AH))) => ∀ (y12 : Int32) (y13 : Int32) (y14 : Nat) (g15 : AH), AW (ρX ρD) γ l ck_X1_meanWait G0 58 [(1, .int y12), (2, .int y13), (3, .ref x3), (4, .ref y14)] [] g15 (j y12 y13 y14 g15)) (fun y12 y13 y14 g15 => ?_) (fun j16 h_j16 => ?_)
      · skip
        refine r_iconst (v := (0 : Int32)) (pc := 58) dX1_meanWait_58 (by decide) ?_
        refine r_istore (pc := 59) dX1_meanWait_59 (Nat.le_of_ble_eq_true rfl) rfl ?_
        refine r_iload_n (pc := 61) dX1_meanWait_61 rfl 1 rfl ?_
        refine r_iload (pc := 62) dX1_meanWait_62 0 rfl ?_
        refine AW_jn (P := fun (j : Int32 → Int32 → AH → Option ((UInt64 × AH) ⊕ (Nat × AH))) => ∀ (z17 : Int32) (z18 : Int32) (g19 : AH), AW (ρX ρD) γ l ck_X1_meanWait G0 82 [(2, .int y13), (3, .ref x3), (5, .int (0 : Int32))] [.int z17, .int z18] g19 (j z17 z18 g19)) (fun z17 z18 g19 => ?_) (fun j20 h_j20 => ?_)
        · skip
          refine r_iadd (pc := 82) dX1_meanWait_82 ?_
          refine r_istore_n (pc := 83) dX1_meanWait_83 rfl (Nat.le_of_ble_eq_true rfl) rfl ?_
          refine r_iload_n (pc := 84) dX1_meanWait_84 rfl 1 rfl ?_
          refine r_iload (pc := 85) dX1_meanWait_85 3 rfl ?_
          refine r_if_eq (tgt := 94) (pc := 87) dX1_meanWait_87 (by decide) ?_ ?_
          · skip
            refine r_iconst (v := (0 : Int32)) (pc := 94) dX1_meanWait_94 (by decide) ?_
            refine r_iadd (pc := 95) dX1_meanWait_95 ?_
            refine r_istore_n (pc := 96) dX1_meanWait_96 rfl (Nat.le_of_ble_eq_true rfl) rfl ?_
            refine r_goto (tgt := 17) (pc := 97) dX1_meanWait_97 (by decide) ?_
            refine AW_sub [1, 0, 2] rfl ?_
            exact ih (z18 + z17) (y13 + (0 : Int32)) g19
          · skip
            refine r_iconst (v := (1 : Int32)) (pc := 90) dX1_meanWait_90 (by decide) ?_
            refine r_goto (tgt := 95) (pc := 91) dX1_meanWait_91 (by decide) ?_
            refine r_iadd (pc := 95) dX1_meanWait_95 ?_
            refine r_istore_n (pc := 96) dX1_meanWait_96 rfl (Nat.le_of_ble_eq_true rfl) rfl ?_
            refine r_goto (tgt := 17) (pc := 97) dX1_meanWait_97 (by decide) ?_
            refine AW_sub [1, 0, 2] rfl ?_
            exact ih (z18 + z17) (y13 + (1 : Int32)) g19
        · skip
          refine r_if_eq (tgt := 81) (pc := 64) dX1_meanWait_64 (by decide) ?_ ?_
          · skip
            refine r_iconst (v := (0 : Int32)) (pc := 81) dX1_meanWait_81 (by decide) ?_
            refine AW_sub [2, 3, 0] rfl ?_
            exact h_j20 (0 : Int32) y12 g15
          · skip
            refine r_aload (pc := 67) dX1_meanWait_67 4 rfl ?_
            refine r_cI (pc := 69) (rest := [.int y12]) (RunOK_chk (fun h => run_V (n := 0) (c9 := 20) (As := []) (rest := [.int y12]) (t_X7_decided γ l hl y14 g15) dX1_meanWait_69 q2165 q2166 q2167 q150 q2168 (by decide +kernel) rfl h ⟨rfl, by decide, by decide⟩ (Nat.le_of_ble_eq_true rfl) (Nat.le_of_ble_eq_true rfl) rfl (Nat.le_of_ble_eq_true rfl))) (fun v22 g21 => ?_)
            refine r_aload (pc := 72) dX1_meanWait_72 4 rfl ?_
            refine r_cI (pc := 74) (rest := [.int v22, .int y12]) (RunOK_chk (fun h => run_V (n := 0) (c9 := 20) (As := []) (rest := [.int v22, .int y12]) (t_X7_asked γ l hl y14 g21) dX1_meanWait_74 q2161 q2162 q2163 q150 q2164 (by decide +kernel) rfl h ⟨rfl, by decide, by decide⟩ (Nat.le_of_ble_eq_true rfl) (Nat.le_of_ble_eq_true rfl) rfl (Nat.le_of_ble_eq_true rfl))) (fun v24 g23 => ?_)
            refine r_isub (pc := 77) dX1_meanWait_77 ?_
            refine r_goto (tgt := 82) (pc := 78) dX1_meanWait_78 (by decide) ?_
            refine AW_sub [2, 3, 0] rfl ?_
            exact h_j20 (v22 - v24) y12 g23
      · skip
        refine r_icmp_eq (tgt := 58) (pc := 43) dX1_meanWait_43 (by decide) ?_ ?_
        · skip
          refine AW_sub [1, 2, 3, 0] rfl ?_
          exact h_j16 x1 x2 v9 g10
        · skip
          refine r_aload (pc := 46) dX1_meanWait_46 0 rfl ?_
          refine r_cI (pc := 48) (rest := []) (RunOK_chk (fun h => run_V (n := 0) (c9 := 20) (As := []) (rest := []) (t_X7_isDecided γ l hl v9 g10) dX1_meanWait_48 q3327 q2436 q2437 q150 q2438 (by decide +kernel) rfl h ⟨rfl, by decide, by decide⟩ (Nat.le_of_ble_eq_true rfl) (Nat.le_of_ble_eq_true rfl) rfl (Nat.le_of_ble_eq_true rfl))) (fun v26 g25 => ?_)
          refine r_if_eq (tgt := 58) (pc := 51) dX1_meanWait_51 (by decide) ?_ ?_
          · skip
            refine AW_sub [1, 2, 3, 0] rfl ?_
            exact h_j16 x1 x2 v9 g25
          · skip
            refine r_iconst (v := (1 : Int32)) (pc := 54) dX1_meanWait_54 (by decide) ?_
            refine r_goto (tgt := 59) (pc := 55) dX1_meanWait_55 (by decide) ?_
            refine r_istore (pc := 59) dX1_meanWait_59 (Nat.le_of_ble_eq_true rfl) rfl ?_
            refine r_iload_n (pc := 61) dX1_meanWait_61 rfl 2 rfl ?_
            refine r_iload (pc := 62) dX1_meanWait_62 0 rfl ?_
            refine AW_jn (P := fun (j : Int32 → Int32 → AH → Option ((UInt64 × AH) ⊕ (Nat × AH))) => ∀ (z27 : Int32) (z28 : Int32) (g29 : AH), AW (ρX ρD) γ l ck_X1_meanWait G0 82 [(2, .int x2), (3, .ref x3), (5, .int (1 : Int32))] [.int z27, .int z28] g29 (j z27 z28 g29)) (fun z27 z28 g29 => ?_) (fun j30 h_j30 => ?_)
            · skip
              refine r_iadd (pc := 82) dX1_meanWait_82 ?_
              refine r_istore_n (pc := 83) dX1_meanWait_83 rfl (Nat.le_of_ble_eq_true rfl) rfl ?_
              refine r_iload_n (pc := 84) dX1_meanWait_84 rfl 1 rfl ?_
              refine r_iload (pc := 85) dX1_meanWait_85 3 rfl ?_
              refine r_if_eq (tgt := 94) (pc := 87) dX1_meanWait_87 (by decide) ?_ ?_
              · skip
                refine r_iconst (v := (0 : Int32)) (pc := 94) dX1_meanWait_94 (by decide) ?_
                refine r_iadd (pc := 95) dX1_meanWait_95 ?_
                refine r_istore_n (pc := 96) dX1_meanWait_96 rfl (Nat.le_of_ble_eq_true rfl) rfl ?_
                refine r_goto (tgt := 17) (pc := 97) dX1_meanWait_97 (by decide) ?_
                refine AW_sub [1, 0, 2] rfl ?_
                exact ih (z28 + z27) (x2 + (0 : Int32)) g29
              · skip
                refine r_iconst (v := (1 : Int32)) (pc := 90) dX1_meanWait_90 (by decide) ?_
                refine r_goto (tgt := 95) (pc := 91) dX1_meanWait_91 (by decide) ?_
                refine r_iadd (pc := 95) dX1_meanWait_95 ?_
                refine r_istore_n (pc := 96) dX1_meanWait_96 rfl (Nat.le_of_ble_eq_true rfl) rfl ?_
                refine r_goto (tgt := 17) (pc := 97) dX1_meanWait_97 (by decide) ?_
                refine AW_sub [1, 0, 2] rfl ?_
                exact ih (z28 + z27) (x2 + (1 : Int32)) g29
            · skip
              refine r_if_eq (tgt := 81) (pc := 64) dX1_meanWait_64 (by decide) ?_ ?_
              · skip
                refine r_iconst (v := (0 : Int32)) (pc := 81) dX1_meanWait_81 (by decide) ?_
                refine AW_sub [3, 4, 0] rfl ?_
                exact h_j30 (0 : Int32) x1 g25
              · skip
                refine r_aload (pc := 67) dX1_meanWait_67 1 rfl ?_
                refine r_cI (pc := 69) (rest := [.int x1]) (RunOK_chk (fun h => run_V (n := 0) (c9 := 20) (As := []) (rest := [.int x1]) (t_X7_decided γ l hl v9 g25) dX1_meanWait_69 q2165 q2166 q2167 q150 q2168 (by decide +kernel) rfl h ⟨rfl, by decide, by decide⟩ (Nat.le_of_ble_eq_true rfl) (Nat.le_of_ble_eq_true rfl) rfl (Nat.le_of_ble_eq_true rfl))) (fun v32 g31 => ?_)
                refine r_aload (pc := 72) dX1_meanWait_72 1 rfl ?_
                refine r_cI (pc := 74) (rest := [.int v32, .int x1]) (RunOK_chk (fun h => run_V (n := 0) (c9 := 20) (As := []) (rest := [.int v32, .int x1]) (t_X7_asked γ l hl v9 g31) dX1_meanWait_74 q2161 q2162 q2163 q150 q2164 (by decide +kernel) rfl h ⟨rfl, by decide, by decide⟩ (Nat.le_of_ble_eq_true rfl) (Nat.le_of_ble_eq_true rfl) rfl (Nat.le_of_ble_eq_true rfl))) (fun v34 g33 => ?_)
                refine r_isub (pc := 77) dX1_meanWait_77 ?_
                refine r_goto (tgt := 82) (pc := 78) dX1_meanWait_78 (by decide) ?_
                refine AW_sub [3, 4, 0] rfl ?_
                exact h_j30 (v32 - v34) x1 g33
theorem t_X1_meanWait (γ : GP) (l : Launch) (hl : l.stackTraces = false) (x0 : Nat) (g : AH) : TrM (ρX ρD) γ l ⟨"BanquetVotes", "meanWait", "()D"⟩ (ws_ ⟨"BanquetVotes", "meanWait", "()D"⟩ prog_1_method_45_code 6 (some .double)) 8 [.ref x0] g (f_X1_meanWait γ x0 g) := by
  refine TrM_of (plainFor_of_name (by decide)) (Nat.le_of_ble_eq_true rfl) ?_
  unfold f_X1_meanWait
  change AW (ρX ρD) γ l ck_X1_meanWait g 0 [(0, .ref x0)] [] g _
  refine r_iconst (v := (0 : Int32)) (pc := 0) dX1_meanWait_0 (by decide) ?_
  refine r_istore_n (pc := 1) dX1_meanWait_1 rfl (Nat.le_of_ble_eq_true rfl) rfl ?_
  refine r_iconst (v := (0 : Int32)) (pc := 2) dX1_meanWait_2 (by decide) ?_
  refine r_istore_n (pc := 3) dX1_meanWait_3 rfl (Nat.le_of_ble_eq_true rfl) rfl ?_
  refine r_aload_n (pc := 4) dX1_meanWait_4 rfl 2 rfl ?_
  refine r_getR (f := 0) (pc := 5) dX1_meanWait_5 q320 (Or.inl rfl) rfl (fun v1 => ?_)
  refine r_cR (pc := 8) (rest := []) (RunOK_chk (fun h => run_V (n := 0) (c9 := 2) (As := []) (rest := []) (t_X2_courses γ l hl v1 g) dX1_meanWait_8 q2119 q2120 q2121 q109 q2122 (by decide +kernel) rfl h ⟨rfl, by decide, by decide⟩ (Nat.le_of_ble_eq_true rfl) (Nat.le_of_ble_eq_true rfl) rfl (Nat.le_of_ble_eq_true rfl))) (fun v3 g2 => ?_)
  refine r_cR (pc := 11) (rest := []) (RunOK_chk (fun h => run_F (n := 0) (c9 := 3) (As := []) (rest := []) (t_J2_iterator γ l hl v3 g2) dX1_meanWait_11 q3207 q358 q360 q112 q362 (by decide +kernel) (by decide +kernel) rfl h ⟨by decide, by decide⟩ (Nat.le_of_ble_eq_true rfl) (Nat.le_of_ble_eq_true rfl) rfl (Nat.le_of_ble_eq_true rfl))) (fun v5 g4 => ?_)
  refine r_astore_n (pc := 16) dX1_meanWait_16 rfl (Nat.le_of_ble_eq_true rfl) rfl ?_
  refine AW_sub [2, 1, 0] rfl ?_
  refine f_X1_meanWait_L17_w γ l hl _ v5 _ ?_ FU (0 : Int32) (0 : Int32) g4
  · intro y35 y36 g37
    refine r_iload_n (pc := 100) dX1_meanWait_100 rfl 1 rfl ?_
    refine r_if_ne (tgt := 112) (pc := 101) dX1_meanWait_101 (by decide) ?_ ?_
    · skip
      refine r_new (c := 36) (pc := 104) dX1_meanWait_104 q3328 (by decide) (by decide) (fun q38 g39 => ?_)
      refine r_dup (pc := 107) dX1_meanWait_107 rfl ?_
      refine r_cV (pc := 108) (rest := [.ref q38]) (RunOK_chk (fun h => run_I (n := 0) (As := []) (rest := [.ref q38]) (t_J48_init_2 γ l hl q38 g39) dX1_meanWait_108 q3329 q3330 q178 q3331 rfl (by decide +kernel) rfl h (Nat.le_of_ble_eq_true rfl) (Nat.le_of_ble_eq_true rfl) rfl (Nat.le_of_ble_eq_true rfl))) (fun g40 => ?_)
      refine r_athrow (pc := 111) dX1_meanWait_111 ?_
      exact x_out (by decide)
    · skip
      refine r_iload_n (pc := 112) dX1_meanWait_112 rfl 0 rfl ?_
      refine r_i2d (pc := 113) dX1_meanWait_113 ?_
      refine r_iload_n (pc := 114) dX1_meanWait_114 rfl 1 rfl ?_
      refine r_i2d (pc := 115) dX1_meanWait_115 ?_
      refine r_ddiv (pc := 116) dX1_meanWait_116 ?_
      exact r_inl (fun _ => rfl) (r_dret (pc := 117) dX1_meanWait_117 rfl)
abbrev ck_X1_servedShare : CK := ("BanquetVotes", prog_1_method_46_code, 1, (some .float), "servedShare", [], 8)
def f_X1_servedShare (γ : GP) (x0 : Nat) (g : AH) : Option ((UInt32 × AH) ⊕ (Nat × AH)) := gR g x0 0 fun v1 => bI ((if hK g v1 = 2 then f_X2_decided γ v1 g else none)) fun v3 g2 => (if v3 = 0 then mO g2 36 fun q4 g5 => bV ((if q4 ≠ 0 then f_J48_init_2 γ q4 g5 else none)) fun g6 => (tw γ g6 q4 (thr q4 g6)) else gR g2 x0 0 fun v7 => bI ((if hK g2 v7 = 2 then f_X2_those γ v7 (2 : Int32) g2 else none)) fun v9 g8 => gR g8 x0 0 fun v10 => bI ((if hK g8 v10 = 2 then f_X2_decided γ v10 g8 else none)) fun v12 g11 => (if (FP.fdiv (FP.i2f v9) (FP.i2f v12)) &&& 0x7fffffff ≤ 0x7f800000 then (some (.inl ((FP.fdiv (FP.i2f v9) (FP.i2f v12)), g11))) else none))
theorem t_X1_servedShare (γ : GP) (l : Launch) (hl : l.stackTraces = false) (x0 : Nat) (g : AH) : TrM (ρX ρF) γ l ⟨"BanquetVotes", "servedShare", "()F"⟩ (ws_ ⟨"BanquetVotes", "servedShare", "()F"⟩ prog_1_method_46_code 1 (some .float)) 8 [.ref x0] g (f_X1_servedShare γ x0 g) := by
  refine TrM_of (plainFor_of_name (by decide)) (Nat.le_of_ble_eq_true rfl) ?_
  unfold f_X1_servedShare
  change AW (ρX ρF) γ l ck_X1_servedShare g 0 [(0, .ref x0)] [] g _
  refine r_aload_n (pc := 0) dX1_servedShare_0 rfl 0 rfl ?_
  refine r_getR (f := 0) (pc := 1) dX1_servedShare_1 q320 (Or.inl rfl) rfl (fun v1 => ?_)
  refine r_cI (pc := 4) (rest := []) (RunOK_chk (fun h => run_V (n := 0) (c9 := 2) (As := []) (rest := []) (t_X2_decided γ l hl v1 g) dX1_servedShare_4 q3340 q2570 q2571 q109 q2572 (by decide +kernel) rfl h ⟨rfl, by decide, by decide⟩ (Nat.le_of_ble_eq_true rfl) (Nat.le_of_ble_eq_true rfl) rfl (Nat.le_of_ble_eq_true rfl))) (fun v3 g2 => ?_)
  refine r_if_ne (tgt := 18) (pc := 7) dX1_servedShare_7 (by decide) ?_ ?_
  · skip
    refine r_new (c := 36) (pc := 10) dX1_servedShare_10 q3328 (by decide) (by decide) (fun q4 g5 => ?_)
    refine r_dup (pc := 13) dX1_servedShare_13 rfl ?_
    refine r_cV (pc := 14) (rest := [.ref q4]) (RunOK_chk (fun h => run_I (n := 0) (As := []) (rest := [.ref q4]) (t_J48_init_2 γ l hl q4 g5) dX1_servedShare_14 q3329 q3330 q178 q3331 rfl (by decide +kernel) rfl h (Nat.le_of_ble_eq_true rfl) (Nat.le_of_ble_eq_true rfl) rfl (Nat.le_of_ble_eq_true rfl))) (fun g6 => ?_)
    refine r_athrow (pc := 17) dX1_servedShare_17 ?_
    exact x_out (by decide)
  · skip
    refine r_aload_n (pc := 18) dX1_servedShare_18 rfl 0 rfl ?_
    refine r_getR (f := 0) (pc := 19) dX1_servedShare_19 q320 (Or.inl rfl) rfl (fun v7 => ?_)
    refine r_iconst (v := (2 : Int32)) (pc := 22) dX1_servedShare_22 (by decide) ?_
    refine r_cI (pc := 23) (rest := []) (RunOK_chk (fun h => run_V (n := 1) (c9 := 2) (As := [.int (2 : Int32)]) (rest := []) (t_X2_those γ l hl v7 (2 : Int32) g2) dX1_servedShare_23 q3287 q2574 q2575 q109 q2576 (by decide +kernel) rfl h ⟨rfl, by decide, by decide⟩ (Nat.le_of_ble_eq_true rfl) (Nat.le_of_ble_eq_true rfl) rfl (Nat.le_of_ble_eq_true rfl))) (fun v9 g8 => ?_)
    refine r_i2f (pc := 26) dX1_servedShare_26 ?_
    refine r_aload_n (pc := 27) dX1_servedShare_27 rfl 0 rfl ?_
    refine r_getR (f := 0) (pc := 28) dX1_servedShare_28 q320 (Or.inl rfl) rfl (fun v10 => ?_)
    refine r_cI (pc := 31) (rest := [.float (FP.i2f v9)]) (RunOK_chk (fun h => run_V (n := 0) (c9 := 2) (As := []) (rest := [.float (FP.i2f v9)]) (t_X2_decided γ l hl v10 g8) dX1_servedShare_31 q3340 q2570 q2571 q109 q2572 (by decide +kernel) rfl h ⟨rfl, by decide, by decide⟩ (Nat.le_of_ble_eq_true rfl) (Nat.le_of_ble_eq_true rfl) rfl (Nat.le_of_ble_eq_true rfl))) (fun v12 g11 => ?_)
    refine r_i2f (pc := 34) dX1_servedShare_34 ?_
    refine r_fdiv (pc := 35) dX1_servedShare_35 ?_
    exact r_inl (fun _ => rfl) (r_fret (pc := 36) dX1_servedShare_36 rfl)
abbrev ck_X1_undo : CK := ("BanquetVotes", prog_1_method_47_code, 1, (some .int), "undo", [], 9)
def f_X1_undo (γ : GP) (x0 : Nat) (g : AH) : Option ((Int32 × AH) ⊕ (Nat × AH)) := gR g x0 2 fun v1 => bI ((if hK g v1 = 5 then f_J0_isEmpty γ v1 g else none)) fun v3 g2 => jn (fun (z4 : Int32) (g5 : AH) => bXV (f_X1_requireState γ z4 g5) (fun e8 g9 => (thr e8 g9)) fun g7 => gR g7 x0 2 fun v10 => bR ((if hK g7 v10 = 5 then f_J4_removeLast γ v10 g7 else none)) fun v12 g11 => gC g11 [2] v12 (pR γ g11 x0 0 v12 fun g13 => gR g13 x0 2 fun v14 => bI ((if hK g13 v14 = 5 then f_J4_size γ v14 g13 else none)) fun v16 g15 => (some (.inl (v16, g15))))) (fun (j6 : Int32 → AH → Option ((Int32 × AH) ⊕ (Nat × AH))) => (if v3 = 0 then j6 (1 : Int32) g2 else j6 (0 : Int32) g2))
theorem t_X1_undo (γ : GP) (l : Launch) (hl : l.stackTraces = false) (x0 : Nat) (g : AH) : TrM (ρX ρI) γ l ⟨"BanquetVotes", "undo", "()I"⟩ (ws_ ⟨"BanquetVotes", "undo", "()I"⟩ prog_1_method_47_code 1 (some .int)) 9 [.ref x0] g (f_X1_undo γ x0 g) := by
  refine TrM_of (plainFor_of_name (by decide)) (Nat.le_of_ble_eq_true rfl) ?_
  unfold f_X1_undo
  change AW (ρX ρI) γ l ck_X1_undo g 0 [(0, .ref x0)] [] g _
  refine r_aload_n (pc := 0) dX1_undo_0 rfl 0 rfl ?_
  refine r_getR (f := 2) (pc := 1) dX1_undo_1 q322 (Or.inl rfl) rfl (fun v1 => ?_)
  refine r_cI (pc := 4) (rest := []) (RunOK_chk (fun h => run_U (n := 0) (c9 := 5) (As := []) (rest := []) (owner := "java/util/AbstractCollection") (t_J0_isEmpty γ l hl v1 g) dX1_undo_4 q3348 q3349 q3351 q3352 q110 q3353 rfl ⟨by decide, by decide, by decide +kernel⟩ rfl h ⟨by decide, by decide⟩ (Nat.le_of_ble_eq_true rfl) (Nat.le_of_ble_eq_true rfl) rfl (Nat.le_of_ble_eq_true rfl))) (fun v3 g2 => ?_)
  refine AW_jn (P := fun (j : Int32 → AH → Option ((Int32 × AH) ⊕ (Nat × AH))) => ∀ (z4 : Int32) (g5 : AH), AW (ρX ρI) γ l ck_X1_undo g 15 [(0, .ref x0)] [.int z4] g5 (j z4 g5)) (fun z4 g5 => ?_) (fun j6 h_j6 => ?_)
  · skip
    refine r_cXV (pc := 15) (rest := []) (run_S (n := 1) (As := [.int z4]) (rest := []) (t_X1_requireState γ l hl z4 g5) dX1_undo_15 q2905 q2906 q108 q2907 (by decide +kernel) rfl (Nat.le_of_ble_eq_true rfl) (Nat.le_of_ble_eq_true rfl) rfl (Nat.le_of_ble_eq_true rfl)) (fun e8 g9 => ?_) (fun g7 => ?_)
    · skip
      exact x_out (by decide)
    · skip
      refine r_aload_n (pc := 18) dX1_undo_18 rfl 0 rfl ?_
      refine r_aload_n (pc := 19) dX1_undo_19 rfl 0 rfl ?_
      refine r_getR (f := 2) (pc := 20) dX1_undo_20 q322 (Or.inl rfl) rfl (fun v10 => ?_)
      refine r_cR (pc := 23) (rest := [.ref x0]) (RunOK_chk (fun h => run_V (n := 0) (c9 := 5) (As := []) (rest := [.ref x0]) (t_J4_removeLast γ l hl v10 g7) dX1_undo_23 q3354 q3355 q3356 q116 q3357 (by decide +kernel) rfl h ⟨rfl, by decide, by decide⟩ (Nat.le_of_ble_eq_true rfl) (Nat.le_of_ble_eq_true rfl) rfl (Nat.le_of_ble_eq_true rfl))) (fun v12 g11 => ?_)
      refine r_cast_ (L := [2]) (pc := 26) dX1_undo_26 q187 (List.forall_mem_cons.mpr ⟨⟨by decide, by decide, Or.inl rfl⟩, (fun _ h => absurd h List.not_mem_nil)⟩) ?_
      refine r_putR (f := 0) (pc := 29) dX1_undo_29 q320 (Or.inl rfl) (Or.inl rfl) rfl (fun g13 => ?_)
      refine r_aload_n (pc := 32) dX1_undo_32 rfl 0 rfl ?_
      refine r_getR (f := 2) (pc := 33) dX1_undo_33 q322 (Or.inl rfl) rfl (fun v14 => ?_)
      refine r_cI (pc := 36) (rest := []) (RunOK_chk (fun h => run_V (n := 0) (c9 := 5) (As := []) (rest := []) (t_J4_size γ l hl v14 g13) dX1_undo_36 q1930 q797 q3899 q116 q798 (by decide +kernel) rfl h ⟨rfl, by decide, by decide⟩ (Nat.le_of_ble_eq_true rfl) (Nat.le_of_ble_eq_true rfl) rfl (Nat.le_of_ble_eq_true rfl))) (fun v16 g15 => ?_)
      exact r_inl (fun _ => rfl) (r_iret (pc := 39) dX1_undo_39 rfl)
  · skip
    refine r_if_ne (tgt := 14) (pc := 7) dX1_undo_7 (by decide) ?_ ?_
    · skip
      refine r_iconst (v := (1 : Int32)) (pc := 10) dX1_undo_10 (by decide) ?_
      refine r_goto (tgt := 15) (pc := 11) dX1_undo_11 (by decide) ?_
      exact h_j6 (1 : Int32) g2
    · skip
      refine r_iconst (v := (0 : Int32)) (pc := 14) dX1_undo_14 (by decide) ?_
      exact h_j6 (0 : Int32) g2
abbrev ck_X1_restore : CK := ("BanquetVotes", prog_1_method_49_code, 1, (some .int), "restore", [], 9)
def f_X1_restore (γ : GP) (x0 : Nat) (g : AH) : Option ((Int32 × AH) ⊕ (Nat × AH)) := gR g x0 1 fun v1 => jn (fun (z2 : Int32) (g3 : AH) => bXV (f_X1_requireState γ z2 g3) (fun e6 g7 => (thr e6 g7)) fun g5 => gR g5 x0 1 fun v8 => pR γ g5 x0 0 v8 fun g9 => gR g9 x0 2 fun v10 => bV ((if hK g9 v10 = 5 then f_J4_clear γ v10 g9 else none)) fun g11 => gR g11 x0 0 fun v12 => bI ((if hK g11 v12 = 2 then f_X2_minute γ v12 g11 else none)) fun v14 g13 => (some (.inl (v14, g13)))) (fun (j4 : Int32 → AH → Option ((Int32 × AH) ⊕ (Nat × AH))) => (if v1 = 0 then j4 (0 : Int32) g else j4 (1 : Int32) g))
theorem t_X1_restore (γ : GP) (l : Launch) (hl : l.stackTraces = false) (x0 : Nat) (g : AH) : TrM (ρX ρI) γ l ⟨"BanquetVotes", "restore", "()I"⟩ (ws_ ⟨"BanquetVotes", "restore", "()I"⟩ prog_1_method_49_code 1 (some .int)) 9 [.ref x0] g (f_X1_restore γ x0 g) := by
  refine TrM_of (plainFor_of_name (by decide)) (Nat.le_of_ble_eq_true rfl) ?_
  unfold f_X1_restore
  change AW (ρX ρI) γ l ck_X1_restore g 0 [(0, .ref x0)] [] g _
  refine r_aload_n (pc := 0) dX1_restore_0 rfl 0 rfl ?_
  refine r_getR (f := 1) (pc := 1) dX1_restore_1 q321 (Or.inl rfl) rfl (fun v1 => ?_)
  refine AW_jn (P := fun (j : Int32 → AH → Option ((Int32 × AH) ⊕ (Nat × AH))) => ∀ (z2 : Int32) (g3 : AH), AW (ρX ρI) γ l ck_X1_restore g 12 [(0, .ref x0)] [.int z2] g3 (j z2 g3)) (fun z2 g3 => ?_) (fun j4 h_j4 => ?_)
  · skip
    refine r_cXV (pc := 12) (rest := []) (run_S (n := 1) (As := [.int z2]) (rest := []) (t_X1_requireState γ l hl z2 g3) dX1_restore_12 q2905 q2906 q108 q2907 (by decide +kernel) rfl (Nat.le_of_ble_eq_true rfl) (Nat.le_of_ble_eq_true rfl) rfl (Nat.le_of_ble_eq_true rfl)) (fun e6 g7 => ?_) (fun g5 => ?_)
    · skip
      exact x_out (by decide)
    · skip
      refine r_aload_n (pc := 15) dX1_restore_15 rfl 0 rfl ?_
      refine r_aload_n (pc := 16) dX1_restore_16 rfl 0 rfl ?_
      refine r_getR (f := 1) (pc := 17) dX1_restore_17 q321 (Or.inl rfl) rfl (fun v8 => ?_)
      refine r_putR (f := 0) (pc := 20) dX1_restore_20 q320 (Or.inl rfl) (Or.inl rfl) rfl (fun g9 => ?_)
      refine r_aload_n (pc := 23) dX1_restore_23 rfl 0 rfl ?_
      refine r_getR (f := 2) (pc := 24) dX1_restore_24 q322 (Or.inl rfl) rfl (fun v10 => ?_)
      refine r_cV (pc := 27) (rest := []) (RunOK_chk (fun h => run_V (n := 0) (c9 := 5) (As := []) (rest := []) (t_J4_clear γ l hl v10 g9) dX1_restore_27 q3369 q2615 q2616 q116 q2617 (by decide +kernel) rfl h ⟨rfl, by decide, by decide⟩ (Nat.le_of_ble_eq_true rfl) (Nat.le_of_ble_eq_true rfl) rfl (Nat.le_of_ble_eq_true rfl))) (fun g11 => ?_)
      refine r_aload_n (pc := 30) dX1_restore_30 rfl 0 rfl ?_
      refine r_getR (f := 0) (pc := 31) dX1_restore_31 q320 (Or.inl rfl) rfl (fun v12 => ?_)
      refine r_cI (pc := 34) (rest := []) (RunOK_chk (fun h => run_V (n := 0) (c9 := 2) (As := []) (rest := []) (t_X2_minute γ l hl v12 g11) dX1_restore_34 q1194 q1195 q1196 q109 q1197 (by decide +kernel) rfl h ⟨rfl, by decide, by decide⟩ (Nat.le_of_ble_eq_true rfl) (Nat.le_of_ble_eq_true rfl) rfl (Nat.le_of_ble_eq_true rfl))) (fun v14 g13 => ?_)
      exact r_inl (fun _ => rfl) (r_iret (pc := 37) dX1_restore_37 rfl)
  · skip
    refine r_ifnull (tgt := 11) (pc := 4) dX1_restore_4 (by decide) ?_ ?_
    · skip
      refine r_iconst (v := (0 : Int32)) (pc := 11) dX1_restore_11 (by decide) ?_
      exact h_j4 (0 : Int32) g
    · skip
      refine r_iconst (v := (1 : Int32)) (pc := 7) dX1_restore_7 (by decide) ?_
      refine r_goto (tgt := 12) (pc := 8) dX1_restore_8 (by decide) ?_
      exact h_j4 (1 : Int32) g
abbrev ck_X1_init : CK := ("BanquetVotes", prog_1_method_4_code, 1, none, "<init>", [], 8)
def f_X1_init (γ : GP) (x0 : Nat) (g : AH) : Option (AH) := (if x0 ≠ 0 then mO g 2 fun q1 g2 => bV ((if q1 ≠ 0 then f_X2_init γ q1 g2 else none)) fun g3 => pR γ g3 x0 0 q1 fun g4 => mO g4 5 fun q5 g6 => bV ((if q5 ≠ 0 then f_J4_init γ q5 g6 else none)) fun g7 => pR γ g7 x0 2 q5 fun g8 => mO g8 6 fun q9 g10 => bV ((if q9 ≠ 0 then f_J6_init γ q9 g10 else none)) fun g11 => pR γ g11 x0 3 q9 fun g12 => pI γ g12 x0 4 (-1 : Int32) fun g13 => pR γ g13 x0 7 (γ.1 12) fun g14 => (some g14) else none)
theorem t_X1_init (γ : GP) (l : Launch) (hl : l.stackTraces = false) (x0 : Nat) (g : AH) : TrM ρV γ l ⟨"BanquetVotes", "<init>", "()V"⟩ (ws_ ⟨"BanquetVotes", "<init>", "()V"⟩ prog_1_method_4_code 1 none) 8 [.ref x0] g (f_X1_init γ x0 g) := by
  refine TrM_of (plainFor_of_name (by decide)) (Nat.le_of_ble_eq_true rfl) ?_
  unfold f_X1_init
  change AW ρV γ l ck_X1_init g 0 [(0, .ref x0)] [] g _
  refine r_aload_n (pc := 0) dX1_init_0 rfl 0 rfl ?_
  refine r_objInit (pc := 1) dX1_init_1 q184 q185 q186 (by decide) (Nat.le_of_ble_eq_true rfl) ?_
  refine r_aload_n (pc := 4) dX1_init_4 rfl 0 rfl ?_
  refine r_new (c := 2) (pc := 5) dX1_init_5 q187 (by decide) (by decide) (fun q1 g2 => ?_)
  refine r_dup (pc := 8) dX1_init_8 rfl ?_
  refine r_cV (pc := 9) (rest := [.ref q1, .ref x0]) (RunOK_chk (fun h => run_IN (n := 0) (As := []) (rest := [.ref q1, .ref x0]) (t_X2_init γ l hl q1 g2) dX1_init_9 mv189 q190 q109 q191 rfl (by decide +kernel) rfl h (Nat.le_of_ble_eq_true rfl) (Nat.le_of_ble_eq_true rfl) rfl (Nat.le_of_ble_eq_true rfl))) (fun g3 => ?_)
  refine r_putR (f := 0) (pc := 12) dX1_init_12 q320 (Or.inl rfl) (Or.inl rfl) rfl (fun g4 => ?_)
  refine r_aload_n (pc := 15) dX1_init_15 rfl 0 rfl ?_
  refine r_new (c := 5) (pc := 16) dX1_init_16 q284 (by decide) (by decide) (fun q5 g6 => ?_)
  refine r_dup (pc := 19) dX1_init_19 rfl ?_
  refine r_cV (pc := 20) (rest := [.ref q5, .ref x0]) (RunOK_chk (fun h => run_I (n := 0) (As := []) (rest := [.ref q5, .ref x0]) (t_J4_init γ l hl q5 g6) dX1_init_20 q285 q247 q116 q248 rfl (by decide +kernel) rfl h (Nat.le_of_ble_eq_true rfl) (Nat.le_of_ble_eq_true rfl) rfl (Nat.le_of_ble_eq_true rfl))) (fun g7 => ?_)
  refine r_putR (f := 2) (pc := 23) dX1_init_23 q322 (Or.inl rfl) (Or.inr ⟨rfl, rfl⟩) rfl (fun g8 => ?_)
  refine r_aload_n (pc := 26) dX1_init_26 rfl 0 rfl ?_
  refine r_new (c := 6) (pc := 27) dX1_init_27 q286 (by decide) (by decide) (fun q9 g10 => ?_)
  refine r_dup (pc := 30) dX1_init_30 rfl ?_
  refine r_cV (pc := 31) (rest := [.ref q9, .ref x0]) (RunOK_chk (fun h => run_I (n := 0) (As := []) (rest := [.ref q9, .ref x0]) (t_J6_init γ l hl q9 g10) dX1_init_31 q288 q289 q118 q290 rfl (by decide +kernel) rfl h (Nat.le_of_ble_eq_true rfl) (Nat.le_of_ble_eq_true rfl) rfl (Nat.le_of_ble_eq_true rfl))) (fun g11 => ?_)
  refine r_putR (f := 3) (pc := 34) dX1_init_34 q323 (Or.inl rfl) (Or.inr ⟨rfl, rfl⟩) rfl (fun g12 => ?_)
  refine r_aload_n (pc := 37) dX1_init_37 rfl 0 rfl ?_
  refine r_iconst (v := (-1 : Int32)) (pc := 38) dX1_init_38 (by decide) ?_
  refine r_putI (f := 4) (pc := 39) dX1_init_39 q324 (Or.inl rfl) (Or.inl rfl) rfl (fun g13 => ?_)
  refine r_aload_n (pc := 42) dX1_init_42 rfl 0 rfl ?_
  refine r_ldcS (pc := 43) dX1_init_43 (List.mem_of_getElem? (i := 0) rfl) ?_
  refine r_putR (f := 7) (pc := 45) dX1_init_45 q327 (Or.inl rfl) (Or.inl rfl) rfl (fun g14 => ?_)
  exact r_vret (pc := 48) dX1_init_48 rfl
abbrev ck_X7_isSafe : CK := ("BanquetVotes$Course", prog_4_method_15_code, 1, (some .boolean), "isSafe", [], 7)
def f_X7_isSafe (γ : GP) (x0 : Nat) (g : AH) : Option (Int32 × AH) := bI ((if hK g x0 = 20 then f_X7_those γ x0 (γ.1 6) g else none)) fun v2 g1 => (if v2 = 0 then (rtN .boolean (1 : Int32) g1) else bI ((if hK g1 x0 = 20 then f_X7_off γ x0 g1 else none)) fun v4 g3 => (if v4 = 0 then (rtN .boolean (1 : Int32) g3) else (rtN .boolean (0 : Int32) g3)))
theorem t_X7_isSafe (γ : GP) (l : Launch) (hl : l.stackTraces = false) (x0 : Nat) (g : AH) : TrM ρI γ l ⟨"BanquetVotes$Course", "isSafe", "()Z"⟩ (ws_ ⟨"BanquetVotes$Course", "isSafe", "()Z"⟩ prog_4_method_15_code 1 (some .boolean)) 7 [.ref x0] g (f_X7_isSafe γ x0 g) := by
  refine TrM_of (plainFor_of_name (by decide)) (Nat.le_of_ble_eq_true rfl) ?_
  unfold f_X7_isSafe
  change AW ρI γ l ck_X7_isSafe g 0 [(0, .ref x0)] [] g _
  refine r_aload_n (pc := 0) dX7_isSafe_0 rfl 0 rfl ?_
  refine r_gets (i := 6) (pc := 1) dX7_isSafe_1 q1068 (List.mem_of_getElem? (i := 6) rfl) rfl ?_
  refine r_cI (pc := 4) (rest := []) (RunOK_chk (fun h => run_V (n := 1) (c9 := 20) (As := [.ref (γ.1 6)]) (rest := []) (t_X7_those γ l hl x0 (γ.1 6) g) dX7_isSafe_4 q1070 q1071 q1072 q150 q1073 (by decide +kernel) rfl h ⟨rfl, by decide, by decide⟩ (Nat.le_of_ble_eq_true rfl) (Nat.le_of_ble_eq_true rfl) rfl (Nat.le_of_ble_eq_true rfl))) (fun v2 g1 => ?_)
  refine r_if_eq (tgt := 17) (pc := 7) dX7_isSafe_7 (by decide) ?_ ?_
  · skip
    refine r_iconst (v := (1 : Int32)) (pc := 17) dX7_isSafe_17 (by decide) ?_
    refine r_goto (tgt := 22) (pc := 18) dX7_isSafe_18 (by decide) ?_
    exact r_zret (ty := .boolean) (pc := 22) dX7_isSafe_22 rfl
  · skip
    refine r_aload_n (pc := 10) dX7_isSafe_10 rfl 0 rfl ?_
    refine r_cI (pc := 11) (rest := []) (RunOK_chk (fun h => run_V (n := 0) (c9 := 20) (As := []) (rest := []) (t_X7_off γ l hl x0 g1) dX7_isSafe_11 q1182 q1183 q1184 q150 q1185 (by decide +kernel) rfl h ⟨rfl, by decide, by decide⟩ (Nat.le_of_ble_eq_true rfl) (Nat.le_of_ble_eq_true rfl) rfl (Nat.le_of_ble_eq_true rfl))) (fun v4 g3 => ?_)
    refine r_if_ne (tgt := 21) (pc := 14) dX7_isSafe_14 (by decide) ?_ ?_
    · skip
      refine r_iconst (v := (1 : Int32)) (pc := 17) dX7_isSafe_17 (by decide) ?_
      refine r_goto (tgt := 22) (pc := 18) dX7_isSafe_18 (by decide) ?_
      exact r_zret (ty := .boolean) (pc := 22) dX7_isSafe_22 rfl
    · skip
      refine r_iconst (v := (0 : Int32)) (pc := 21) dX7_isSafe_21 (by decide) ?_
      exact r_zret (ty := .boolean) (pc := 22) dX7_isSafe_22 rfl
abbrev ck_X2_isSafe : CK := ("BanquetVotes$Kitchen", prog_14_method_49_code, 3, (some .boolean), "isSafe", [], 8)
def f_X2_isSafe_L10 (γ : GP) (x1 : Nat) : Nat → AH → Option (Int32 × AH)
  | 0, _ => none
  | n + 1, g => bI ((if hK g x1 = 10 then f_J13_hasNext γ x1 g else if hK g x1 = 13 then f_J24_hasNext γ x1 g else if hK g x1 = 17 then f_J29_hasNext γ x1 g else if hK g x1 = 18 then f_J29_hasNext γ x1 g else none)) fun v5 g4 => (if v5 = 0 then (rtN .boolean (1 : Int32) g4) else bR ((if hK g4 x1 = 10 then f_J13_next γ x1 g4 else if hK g4 x1 = 13 then f_J24_next γ x1 g4 else if hK g4 x1 = 17 then f_J31_next γ x1 g4 else if hK g4 x1 = 18 then f_J32_next γ x1 g4 else none)) fun v7 g6 => gC g6 [20] v7 (bI ((if hK g6 v7 = 20 then f_X7_isSafe γ v7 g6 else none)) fun v9 g8 => (if v9 = 0 then (rtN .boolean (0 : Int32) g8) else f_X2_isSafe_L10 γ x1 n g8)))
def f_X2_isSafe (γ : GP) (x0 : Nat) (g : AH) : Option (Int32 × AH) := gR g x0 9 fun v1 => bR ((if hK g v1 = 3 then f_J2_iterator γ v1 g else none)) fun v3 g2 => f_X2_isSafe_L10 γ v3 FU g2
theorem f_X2_isSafe_L10_w (γ : GP) (l : Launch) (hl : l.stackTraces = false) (G0 : AH) (x1 : Nat) : ∀ (n : Nat) (g : AH), AW ρI γ l ck_X2_isSafe G0 10 [(1, .ref x1)] [] g (f_X2_isSafe_L10 γ x1 n g) := by
  intro n
  induction n with
  | zero => intro g; exact AW_none
  | succ n ih =>
    intro g
    unfold f_X2_isSafe_L10
    refine r_aload_n (pc := 10) dX2_isSafe_10 rfl 0 rfl ?_
    refine r_cI (pc := 11) (rest := []) (RunOK_if (fun h => run_F (n := 0) (c9 := 10) (As := []) (rest := []) (t_J13_hasNext γ l hl x1 g) dX2_isSafe_11 q781 q800 q802 q126 q804 (by decide +kernel) (by decide +kernel) rfl h ⟨by decide, by decide⟩ (Nat.le_of_ble_eq_true rfl) (Nat.le_of_ble_eq_true rfl) rfl (Nat.le_of_ble_eq_true rfl)) (RunOK_if (fun h => run_F (n := 0) (c9 := 13) (As := []) (rest := []) (t_J24_hasNext γ l hl x1 g) dX2_isSafe_11 q781 q809 q811 q139 q813 (by decide +kernel) (by decide +kernel) rfl h ⟨by decide, by decide⟩ (Nat.le_of_ble_eq_true rfl) (Nat.le_of_ble_eq_true rfl) rfl (Nat.le_of_ble_eq_true rfl)) (RunOK_if (fun h => run_F (n := 0) (c9 := 17) (As := []) (rest := []) (t_J29_hasNext γ l hl x1 g) dX2_isSafe_11 q781 q821 q817 q145 q819 (by decide +kernel) (by decide +kernel) rfl h ⟨by decide, by decide⟩ (Nat.le_of_ble_eq_true rfl) (Nat.le_of_ble_eq_true rfl) rfl (Nat.le_of_ble_eq_true rfl)) (RunOK_chk (fun h => run_F (n := 0) (c9 := 18) (As := []) (rest := []) (t_J29_hasNext γ l hl x1 g) dX2_isSafe_11 q781 q824 q817 q145 q819 (by decide +kernel) (by decide +kernel) rfl h ⟨by decide, by decide⟩ (Nat.le_of_ble_eq_true rfl) (Nat.le_of_ble_eq_true rfl) rfl (Nat.le_of_ble_eq_true rfl)))))) (fun v5 g4 => ?_)
    refine r_if_eq (tgt := 41) (pc := 16) dX2_isSafe_16 (by decide) ?_ ?_
    · skip
      refine r_iconst (v := (1 : Int32)) (pc := 41) dX2_isSafe_41 (by decide) ?_
      exact r_zret (ty := .boolean) (pc := 42) dX2_isSafe_42 rfl
    · skip
      refine r_aload_n (pc := 19) dX2_isSafe_19 rfl 0 rfl ?_
      refine r_cR (pc := 20) (rest := []) (RunOK_if (fun h => run_F (n := 0) (c9 := 10) (As := []) (rest := []) (t_J13_next γ l hl x1 g4) dX2_isSafe_20 q827 q991 q993 q126 q995 (by decide +kernel) (by decide +kernel) rfl h ⟨by decide, by decide⟩ (Nat.le_of_ble_eq_true rfl) (Nat.le_of_ble_eq_true rfl) rfl (Nat.le_of_ble_eq_true rfl)) (RunOK_if (fun h => run_F (n := 0) (c9 := 13) (As := []) (rest := []) (t_J24_next γ l hl x1 g4) dX2_isSafe_20 q827 q1015 q1017 q139 q1019 (by decide +kernel) (by decide +kernel) rfl h ⟨by decide, by decide⟩ (Nat.le_of_ble_eq_true rfl) (Nat.le_of_ble_eq_true rfl) rfl (Nat.le_of_ble_eq_true rfl)) (RunOK_if (fun h => run_F (n := 0) (c9 := 17) (As := []) (rest := []) (t_J31_next γ l hl x1 g4) dX2_isSafe_20 q827 q1047 q1049 q147 q1051 (by decide +kernel) (by decide +kernel) rfl h ⟨by decide, by decide⟩ (Nat.le_of_ble_eq_true rfl) (Nat.le_of_ble_eq_true rfl) rfl (Nat.le_of_ble_eq_true rfl)) (RunOK_chk (fun h => run_F (n := 0) (c9 := 18) (As := []) (rest := []) (t_J32_next γ l hl x1 g4) dX2_isSafe_20 q827 q1055 q1057 q148 q1059 (by decide +kernel) (by decide +kernel) rfl h ⟨by decide, by decide⟩ (Nat.le_of_ble_eq_true rfl) (Nat.le_of_ble_eq_true rfl) rfl (Nat.le_of_ble_eq_true rfl)))))) (fun v7 g6 => ?_)
      refine r_cast_ (L := [20]) (pc := 25) dX2_isSafe_25 q1063 (List.forall_mem_cons.mpr ⟨⟨by decide, by decide, Or.inl rfl⟩, (fun _ h => absurd h List.not_mem_nil)⟩) ?_
      refine r_astore_n (pc := 28) dX2_isSafe_28 rfl (Nat.le_of_ble_eq_true rfl) rfl ?_
      refine r_aload_n (pc := 29) dX2_isSafe_29 rfl 0 rfl ?_
      refine r_cI (pc := 30) (rest := []) (RunOK_chk (fun h => run_V (n := 0) (c9 := 20) (As := []) (rest := []) (t_X7_isSafe γ l hl v7 g6) dX2_isSafe_30 q1064 q1065 q1066 q150 q1067 (by decide +kernel) rfl h ⟨rfl, by decide, by decide⟩ (Nat.le_of_ble_eq_true rfl) (Nat.le_of_ble_eq_true rfl) rfl (Nat.le_of_ble_eq_true rfl))) (fun v9 g8 => ?_)
      refine r_if_ne (tgt := 38) (pc := 33) dX2_isSafe_33 (by decide) ?_ ?_
      · skip
        refine r_iconst (v := (0 : Int32)) (pc := 36) dX2_isSafe_36 (by decide) ?_
        exact r_zret (ty := .boolean) (pc := 37) dX2_isSafe_37 rfl
      · skip
        refine r_goto (tgt := 10) (pc := 38) dX2_isSafe_38 (by decide) ?_
        refine AW_sub [1] rfl ?_
        exact ih g8
theorem t_X2_isSafe (γ : GP) (l : Launch) (hl : l.stackTraces = false) (x0 : Nat) (g : AH) : TrM ρI γ l ⟨"BanquetVotes$Kitchen", "isSafe", "()Z"⟩ (ws_ ⟨"BanquetVotes$Kitchen", "isSafe", "()Z"⟩ prog_14_method_49_code 3 (some .boolean)) 8 [.ref x0] g (f_X2_isSafe γ x0 g) := by
  refine TrM_of (plainFor_of_name (by decide)) (Nat.le_of_ble_eq_true rfl) ?_
  unfold f_X2_isSafe
  change AW ρI γ l ck_X2_isSafe g 0 [(0, .ref x0)] [] g _
  refine r_aload_n (pc := 0) dX2_isSafe_0 rfl 0 rfl ?_
  refine r_getR (f := 9) (pc := 1) dX2_isSafe_1 q266 (Or.inl rfl) rfl (fun v1 => ?_)
  refine r_cR (pc := 4) (rest := []) (RunOK_chk (fun h => run_F (n := 0) (c9 := 3) (As := []) (rest := []) (t_J2_iterator γ l hl v1 g) dX2_isSafe_4 q354 q358 q360 q112 q362 (by decide +kernel) (by decide +kernel) rfl h ⟨by decide, by decide⟩ (Nat.le_of_ble_eq_true rfl) (Nat.le_of_ble_eq_true rfl) rfl (Nat.le_of_ble_eq_true rfl))) (fun v3 g2 => ?_)
  refine r_astore_n (pc := 9) dX2_isSafe_9 rfl (Nat.le_of_ble_eq_true rfl) rfl ?_
  refine AW_sub [0] rfl ?_
  refine f_X2_isSafe_L10_w γ l hl _ v3 FU g2
abbrev ck_X1_isSafe : CK := ("BanquetVotes", prog_1_method_33_code, 1, (some .boolean), "isSafe", [], 9)
def f_X1_isSafe (γ : GP) (x0 : Nat) (g : AH) : Option (Int32 × AH) := gR g x0 0 fun v1 => bI ((if hK g v1 = 2 then f_X2_isSafe γ v1 g else none)) fun v3 g2 => (rtN .boolean v3 g2)
theorem t_X1_isSafe (γ : GP) (l : Launch) (hl : l.stackTraces = false) (x0 : Nat) (g : AH) : TrM ρI γ l ⟨"BanquetVotes", "isSafe", "()Z"⟩ (ws_ ⟨"BanquetVotes", "isSafe", "()Z"⟩ prog_1_method_33_code 1 (some .boolean)) 9 [.ref x0] g (f_X1_isSafe γ x0 g) := by
  refine TrM_of (plainFor_of_name (by decide)) (Nat.le_of_ble_eq_true rfl) ?_
  unfold f_X1_isSafe
  change AW ρI γ l ck_X1_isSafe g 0 [(0, .ref x0)] [] g _
  refine r_aload_n (pc := 0) dX1_isSafe_0 rfl 0 rfl ?_
  refine r_getR (f := 0) (pc := 1) dX1_isSafe_1 q320 (Or.inl rfl) rfl (fun v1 => ?_)
  refine r_cI (pc := 4) (rest := []) (RunOK_chk (fun h => run_V (n := 0) (c9 := 2) (As := []) (rest := []) (t_X2_isSafe γ l hl v1 g) dX1_isSafe_4 q349 q350 q351 q109 q352 (by decide +kernel) rfl h ⟨rfl, by decide, by decide⟩ (Nat.le_of_ble_eq_true rfl) (Nat.le_of_ble_eq_true rfl) rfl (Nat.le_of_ble_eq_true rfl))) (fun v3 g2 => ?_)
  exact r_zret (ty := .boolean) (pc := 7) dX1_isSafe_7 rfl
abbrev ck_X1_save : CK := ("BanquetVotes", prog_1_method_48_code, 1, (some .int), "save", [], 2)
def f_X1_save (γ : GP) (x0 : Nat) (g : AH) : Option (Int32 × AH) := gR g x0 0 fun v1 => pR γ g x0 1 v1 fun g2 => gR g2 x0 0 fun v3 => bI ((if hK g2 v3 = 2 then f_X2_minute γ v3 g2 else none)) fun v5 g4 => (some (v5, g4))
theorem t_X1_save (γ : GP) (l : Launch) (hl : l.stackTraces = false) (x0 : Nat) (g : AH) : TrM ρI γ l ⟨"BanquetVotes", "save", "()I"⟩ (ws_ ⟨"BanquetVotes", "save", "()I"⟩ prog_1_method_48_code 1 (some .int)) 2 [.ref x0] g (f_X1_save γ x0 g) := by
  refine TrM_of (plainFor_of_name (by decide)) (Nat.le_of_ble_eq_true rfl) ?_
  unfold f_X1_save
  change AW ρI γ l ck_X1_save g 0 [(0, .ref x0)] [] g _
  refine r_aload_n (pc := 0) dX1_save_0 rfl 0 rfl ?_
  refine r_aload_n (pc := 1) dX1_save_1 rfl 0 rfl ?_
  refine r_getR (f := 0) (pc := 2) dX1_save_2 q320 (Or.inl rfl) rfl (fun v1 => ?_)
  refine r_putR (f := 1) (pc := 5) dX1_save_5 q321 (Or.inl rfl) (Or.inl rfl) rfl (fun g2 => ?_)
  refine r_aload_n (pc := 8) dX1_save_8 rfl 0 rfl ?_
  refine r_getR (f := 0) (pc := 9) dX1_save_9 q320 (Or.inl rfl) rfl (fun v3 => ?_)
  refine r_cI (pc := 12) (rest := []) (RunOK_chk (fun h => run_V (n := 0) (c9 := 2) (As := []) (rest := []) (t_X2_minute γ l hl v3 g2) dX1_save_12 q1194 q1195 q1196 q109 q1197 (by decide +kernel) rfl h ⟨rfl, by decide, by decide⟩ (Nat.le_of_ble_eq_true rfl) (Nat.le_of_ble_eq_true rfl) rfl (Nat.le_of_ble_eq_true rfl))) (fun v5 g4 => ?_)
  exact r_iret (pc := 15) dX1_save_15 rfl
