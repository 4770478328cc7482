set_option maxRecDepth 100000
abbrev cJ15_vectorizedHashCode : ByteArray := prog_106_method_4_code
def dkwJ15_vectorizedHashCode_6 : List UInt8 := [183, 0, 91, 18, 92, 182, 0, 94, 21, 4, 182, 0, 98, 182, 0, 101, 183, 0, 105, 191, 172]
abbrev dktJ15_vectorizedHashCode_6 : List UInt8 := dkwJ15_vectorizedHashCode_6 ++ []
def dkwJ15_vectorizedHashCode_5 : List UInt8 := [167, 0, 44, 29, 42, 192, 0, 82, 27, 28, 184, 0, 84, 167, 0, 31, 187, 0, 87, 89, 187, 0, 89, 89]
abbrev dktJ15_vectorizedHashCode_5 : List UInt8 := dkwJ15_vectorizedHashCode_5 ++ dktJ15_vectorizedHashCode_6
def dkwJ15_vectorizedHashCode_4 : List UInt8 := [29, 42, 192, 0, 60, 27, 28, 184, 0, 75, 167, 0, 57, 29, 42, 192, 0, 77, 27, 28, 184, 0, 79]
abbrev dktJ15_vectorizedHashCode_4 : List UInt8 := dkwJ15_vectorizedHashCode_4 ++ dktJ15_vectorizedHashCode_5
def dkwJ15_vectorizedHashCode_3 : List UInt8 := [192, 0, 60, 27, 28, 184, 0, 66, 167, 0, 83, 29, 42, 192, 0, 69, 27, 28, 184, 0, 71, 167, 0, 70]
abbrev dktJ15_vectorizedHashCode_3 : List UInt8 := dkwJ15_vectorizedHashCode_3 ++ dktJ15_vectorizedHashCode_4
def dkwJ15_vectorizedHashCode_2 : List UInt8 := [29, 42, 192, 0, 60, 27, 28, 184, 0, 62, 167, 0, 103, 42, 193, 0, 60, 153, 0, 16, 29, 42]
abbrev dktJ15_vectorizedHashCode_2 : List UInt8 := dkwJ15_vectorizedHashCode_2 ++ dktJ15_vectorizedHashCode_3
def dkwJ15_vectorizedHashCode_1 : List UInt8 := [170, 0, 0, 0, 0, 127, 0, 0, 0, 4, 0, 0, 0, 10, 0, 0, 0, 42, 0, 0, 0, 55, 0, 0, 0, 127, 0, 0, 0, 127, 0, 0, 0, 88, 0, 0, 0, 101, 0, 0, 0, 114]
abbrev dktJ15_vectorizedHashCode_1 : List UInt8 := dkwJ15_vectorizedHashCode_1 ++ dktJ15_vectorizedHashCode_2
def dkwJ15_vectorizedHashCode_0 : List UInt8 := [21, 4]
abbrev dktJ15_vectorizedHashCode_0 : List UInt8 := dkwJ15_vectorizedHashCode_0 ++ dktJ15_vectorizedHashCode_1
theorem dksJ15_vectorizedHashCode_0 : cJ15_vectorizedHashCode.data.toList.drop 0 = dktJ15_vectorizedHashCode_0 := by decide +kernel
theorem dksJ15_vectorizedHashCode_1 : cJ15_vectorizedHashCode.data.toList.drop 2 = dktJ15_vectorizedHashCode_1 := dk_seg dksJ15_vectorizedHashCode_0 2 rfl rfl
theorem dksJ15_vectorizedHashCode_2 : cJ15_vectorizedHashCode.data.toList.drop 44 = dktJ15_vectorizedHashCode_2 := dk_seg dksJ15_vectorizedHashCode_1 42 rfl rfl
theorem dksJ15_vectorizedHashCode_3 : cJ15_vectorizedHashCode.data.toList.drop 66 = dktJ15_vectorizedHashCode_3 := dk_seg dksJ15_vectorizedHashCode_2 22 rfl rfl
theorem dksJ15_vectorizedHashCode_4 : cJ15_vectorizedHashCode.data.toList.drop 90 = dktJ15_vectorizedHashCode_4 := dk_seg dksJ15_vectorizedHashCode_3 24 rfl rfl
theorem dksJ15_vectorizedHashCode_5 : cJ15_vectorizedHashCode.data.toList.drop 113 = dktJ15_vectorizedHashCode_5 := dk_seg dksJ15_vectorizedHashCode_4 23 rfl rfl
theorem dksJ15_vectorizedHashCode_6 : cJ15_vectorizedHashCode.data.toList.drop 137 = dktJ15_vectorizedHashCode_6 := dk_seg dksJ15_vectorizedHashCode_5 24 rfl rfl
theorem dJ15_vectorizedHashCode_0 : decode cJ15_vectorizedHashCode 0 = .ok (.iload 4, 2) := dk_21 4 (dk_at dksJ15_vectorizedHashCode_0 0 rfl rfl)
theorem dJ15_vectorizedHashCode_2 : decode cJ15_vectorizedHashCode 2 = .ok (.tableswitch 127 4 10 #[42, 55, 127, 127, 88, 101, 114], 42) := by decide +kernel
theorem dJ15_vectorizedHashCode_44 : decode cJ15_vectorizedHashCode 44 = .ok (.iload_n 3, 1) := dk_29 (dk_at dksJ15_vectorizedHashCode_2 0 rfl rfl)
theorem dJ15_vectorizedHashCode_45 : decode cJ15_vectorizedHashCode 45 = .ok (.aload_n 0, 1) := dk_42 (dk_at dksJ15_vectorizedHashCode_2 1 rfl rfl)
theorem dJ15_vectorizedHashCode_46 : decode cJ15_vectorizedHashCode 46 = .ok (.checkcast 60, 3) := dk_192 0 60 (dk_at dksJ15_vectorizedHashCode_2 2 rfl rfl)
theorem dJ15_vectorizedHashCode_49 : decode cJ15_vectorizedHashCode 49 = .ok (.iload_n 1, 1) := dk_27 (dk_at dksJ15_vectorizedHashCode_2 5 rfl rfl)
theorem dJ15_vectorizedHashCode_50 : decode cJ15_vectorizedHashCode 50 = .ok (.iload_n 2, 1) := dk_28 (dk_at dksJ15_vectorizedHashCode_2 6 rfl rfl)
theorem dJ15_vectorizedHashCode_51 : decode cJ15_vectorizedHashCode 51 = .ok (.invokestatic 62, 3) := dk_184 0 62 (dk_at dksJ15_vectorizedHashCode_2 7 rfl rfl)
theorem dJ15_vectorizedHashCode_54 : decode cJ15_vectorizedHashCode 54 = .ok (.goto 103, 3) := dk_167 0 103 (dk_at dksJ15_vectorizedHashCode_2 10 rfl rfl)
theorem dJ15_vectorizedHashCode_57 : decode cJ15_vectorizedHashCode 57 = .ok (.aload_n 0, 1) := dk_42 (dk_at dksJ15_vectorizedHashCode_2 13 rfl rfl)
theorem dJ15_vectorizedHashCode_58 : decode cJ15_vectorizedHashCode 58 = .ok (.instanceof 60, 3) := dk_193 0 60 (dk_at dksJ15_vectorizedHashCode_2 14 rfl rfl)
theorem dJ15_vectorizedHashCode_61 : decode cJ15_vectorizedHashCode 61 = .ok (.ifCond .eq 16, 3) := dk_153 0 16 (dk_at dksJ15_vectorizedHashCode_2 17 rfl rfl)
theorem dJ15_vectorizedHashCode_64 : decode cJ15_vectorizedHashCode 64 = .ok (.iload_n 3, 1) := dk_29 (dk_at dksJ15_vectorizedHashCode_2 20 rfl rfl)
theorem dJ15_vectorizedHashCode_65 : decode cJ15_vectorizedHashCode 65 = .ok (.aload_n 0, 1) := dk_42 (dk_at dksJ15_vectorizedHashCode_2 21 rfl rfl)
theorem dJ15_vectorizedHashCode_66 : decode cJ15_vectorizedHashCode 66 = .ok (.checkcast 60, 3) := dk_192 0 60 (dk_at dksJ15_vectorizedHashCode_3 0 rfl rfl)
theorem dJ15_vectorizedHashCode_69 : decode cJ15_vectorizedHashCode 69 = .ok (.iload_n 1, 1) := dk_27 (dk_at dksJ15_vectorizedHashCode_3 3 rfl rfl)
theorem dJ15_vectorizedHashCode_70 : decode cJ15_vectorizedHashCode 70 = .ok (.iload_n 2, 1) := dk_28 (dk_at dksJ15_vectorizedHashCode_3 4 rfl rfl)
theorem dJ15_vectorizedHashCode_71 : decode cJ15_vectorizedHashCode 71 = .ok (.invokestatic 66, 3) := dk_184 0 66 (dk_at dksJ15_vectorizedHashCode_3 5 rfl rfl)
theorem dJ15_vectorizedHashCode_77 : decode cJ15_vectorizedHashCode 77 = .ok (.iload_n 3, 1) := dk_29 (dk_at dksJ15_vectorizedHashCode_3 11 rfl rfl)
theorem dJ15_vectorizedHashCode_78 : decode cJ15_vectorizedHashCode 78 = .ok (.aload_n 0, 1) := dk_42 (dk_at dksJ15_vectorizedHashCode_3 12 rfl rfl)
theorem dJ15_vectorizedHashCode_79 : decode cJ15_vectorizedHashCode 79 = .ok (.checkcast 69, 3) := dk_192 0 69 (dk_at dksJ15_vectorizedHashCode_3 13 rfl rfl)
theorem dJ15_vectorizedHashCode_90 : decode cJ15_vectorizedHashCode 90 = .ok (.iload_n 3, 1) := dk_29 (dk_at dksJ15_vectorizedHashCode_4 0 rfl rfl)
theorem dJ15_vectorizedHashCode_91 : decode cJ15_vectorizedHashCode 91 = .ok (.aload_n 0, 1) := dk_42 (dk_at dksJ15_vectorizedHashCode_4 1 rfl rfl)
theorem dJ15_vectorizedHashCode_92 : decode cJ15_vectorizedHashCode 92 = .ok (.checkcast 60, 3) := dk_192 0 60 (dk_at dksJ15_vectorizedHashCode_4 2 rfl rfl)
theorem dJ15_vectorizedHashCode_95 : decode cJ15_vectorizedHashCode 95 = .ok (.iload_n 1, 1) := dk_27 (dk_at dksJ15_vectorizedHashCode_4 5 rfl rfl)
theorem dJ15_vectorizedHashCode_96 : decode cJ15_vectorizedHashCode 96 = .ok (.iload_n 2, 1) := dk_28 (dk_at dksJ15_vectorizedHashCode_4 6 rfl rfl)
theorem dJ15_vectorizedHashCode_97 : decode cJ15_vectorizedHashCode 97 = .ok (.invokestatic 75, 3) := dk_184 0 75 (dk_at dksJ15_vectorizedHashCode_4 7 rfl rfl)
theorem dJ15_vectorizedHashCode_100 : decode cJ15_vectorizedHashCode 100 = .ok (.goto 57, 3) := dk_167 0 57 (dk_at dksJ15_vectorizedHashCode_4 10 rfl rfl)
theorem dJ15_vectorizedHashCode_103 : decode cJ15_vectorizedHashCode 103 = .ok (.iload_n 3, 1) := dk_29 (dk_at dksJ15_vectorizedHashCode_4 13 rfl rfl)
theorem dJ15_vectorizedHashCode_104 : decode cJ15_vectorizedHashCode 104 = .ok (.aload_n 0, 1) := dk_42 (dk_at dksJ15_vectorizedHashCode_4 14 rfl rfl)
theorem dJ15_vectorizedHashCode_105 : decode cJ15_vectorizedHashCode 105 = .ok (.checkcast 77, 3) := dk_192 0 77 (dk_at dksJ15_vectorizedHashCode_4 15 rfl rfl)
theorem dJ15_vectorizedHashCode_116 : decode cJ15_vectorizedHashCode 116 = .ok (.iload_n 3, 1) := dk_29 (dk_at dksJ15_vectorizedHashCode_5 3 rfl rfl)
theorem dJ15_vectorizedHashCode_117 : decode cJ15_vectorizedHashCode 117 = .ok (.aload_n 0, 1) := dk_42 (dk_at dksJ15_vectorizedHashCode_5 4 rfl rfl)
theorem dJ15_vectorizedHashCode_118 : decode cJ15_vectorizedHashCode 118 = .ok (.checkcast 82, 3) := dk_192 0 82 (dk_at dksJ15_vectorizedHashCode_5 5 rfl rfl)
theorem dJ15_vectorizedHashCode_129 : decode cJ15_vectorizedHashCode 129 = .ok (.new 87, 3) := dk_187 0 87 (dk_at dksJ15_vectorizedHashCode_5 16 rfl rfl)
theorem dJ15_vectorizedHashCode_157 : decode cJ15_vectorizedHashCode 157 = .ok (.ireturn, 1) := dk_172 (dk_at dksJ15_vectorizedHashCode_6 20 rfl rfl)
abbrev cJ15_signedHashCode : ByteArray := prog_106_method_5_code
def dkwJ15_signedHashCode_1 : List UInt8 := [17, 0, 255, 126, 96, 59, 132, 5, 1, 167, 255, 232, 26, 172]
abbrev dktJ15_signedHashCode_1 : List UInt8 := dkwJ15_signedHashCode_1 ++ []
def dkwJ15_signedHashCode_0 : List UInt8 := [28, 29, 96, 54, 4, 28, 54, 5, 21, 5, 21, 4, 162, 0, 23, 16, 31, 26, 104, 43, 21, 5, 51]
abbrev dktJ15_signedHashCode_0 : List UInt8 := dkwJ15_signedHashCode_0 ++ dktJ15_signedHashCode_1
theorem dksJ15_signedHashCode_0 : cJ15_signedHashCode.data.toList.drop 0 = dktJ15_signedHashCode_0 := by decide +kernel
theorem dksJ15_signedHashCode_1 : cJ15_signedHashCode.data.toList.drop 23 = dktJ15_signedHashCode_1 := dk_seg dksJ15_signedHashCode_0 23 rfl rfl
theorem dJ15_signedHashCode_0 : decode cJ15_signedHashCode 0 = .ok (.iload_n 2, 1) := dk_28 (dk_at dksJ15_signedHashCode_0 0 rfl rfl)
theorem dJ15_signedHashCode_1 : decode cJ15_signedHashCode 1 = .ok (.iload_n 3, 1) := dk_29 (dk_at dksJ15_signedHashCode_0 1 rfl rfl)
theorem dJ15_signedHashCode_2 : decode cJ15_signedHashCode 2 = .ok (.iadd, 1) := dk_96 (dk_at dksJ15_signedHashCode_0 2 rfl rfl)
theorem dJ15_signedHashCode_3 : decode cJ15_signedHashCode 3 = .ok (.istore 4, 2) := dk_54 4 (dk_at dksJ15_signedHashCode_0 3 rfl rfl)
theorem dJ15_signedHashCode_5 : decode cJ15_signedHashCode 5 = .ok (.iload_n 2, 1) := dk_28 (dk_at dksJ15_signedHashCode_0 5 rfl rfl)
theorem dJ15_signedHashCode_6 : decode cJ15_signedHashCode 6 = .ok (.istore 5, 2) := dk_54 5 (dk_at dksJ15_signedHashCode_0 6 rfl rfl)
theorem dJ15_signedHashCode_8 : decode cJ15_signedHashCode 8 = .ok (.iload 5, 2) := dk_21 5 (dk_at dksJ15_signedHashCode_0 8 rfl rfl)
theorem dJ15_signedHashCode_10 : decode cJ15_signedHashCode 10 = .ok (.iload 4, 2) := dk_21 4 (dk_at dksJ15_signedHashCode_0 10 rfl rfl)
theorem dJ15_signedHashCode_12 : decode cJ15_signedHashCode 12 = .ok (.if_icmp .ge 23, 3) := dk_162 0 23 (dk_at dksJ15_signedHashCode_0 12 rfl rfl)
theorem dJ15_signedHashCode_15 : decode cJ15_signedHashCode 15 = .ok (.bipush 31, 2) := dk_16 31 (dk_at dksJ15_signedHashCode_0 15 rfl rfl)
theorem dJ15_signedHashCode_17 : decode cJ15_signedHashCode 17 = .ok (.iload_n 0, 1) := dk_26 (dk_at dksJ15_signedHashCode_0 17 rfl rfl)
theorem dJ15_signedHashCode_18 : decode cJ15_signedHashCode 18 = .ok (.imul, 1) := dk_104 (dk_at dksJ15_signedHashCode_0 18 rfl rfl)
theorem dJ15_signedHashCode_19 : decode cJ15_signedHashCode 19 = .ok (.aload_n 1, 1) := dk_43 (dk_at dksJ15_signedHashCode_0 19 rfl rfl)
theorem dJ15_signedHashCode_20 : decode cJ15_signedHashCode 20 = .ok (.iload 5, 2) := dk_21 5 (dk_at dksJ15_signedHashCode_0 20 rfl rfl)
theorem dJ15_signedHashCode_22 : decode cJ15_signedHashCode 22 = .ok (.baload, 1) := dk_51 (dk_at dksJ15_signedHashCode_0 22 rfl rfl)
theorem dJ15_signedHashCode_23 : decode cJ15_signedHashCode 23 = .ok (.sipush 255, 3) := dk_17 0 255 (dk_at dksJ15_signedHashCode_1 0 rfl rfl)
theorem dJ15_signedHashCode_26 : decode cJ15_signedHashCode 26 = .ok (.iand, 1) := dk_126 (dk_at dksJ15_signedHashCode_1 3 rfl rfl)
theorem dJ15_signedHashCode_27 : decode cJ15_signedHashCode 27 = .ok (.iadd, 1) := dk_96 (dk_at dksJ15_signedHashCode_1 4 rfl rfl)
theorem dJ15_signedHashCode_28 : decode cJ15_signedHashCode 28 = .ok (.istore_n 0, 1) := dk_59 (dk_at dksJ15_signedHashCode_1 5 rfl rfl)
theorem dJ15_signedHashCode_29 : decode cJ15_signedHashCode 29 = .ok (.iinc 5 1, 3) := dk_132 5 1 (dk_at dksJ15_signedHashCode_1 6 rfl rfl)
theorem dJ15_signedHashCode_32 : decode cJ15_signedHashCode 32 = .ok (.goto (-24), 3) := dk_167 255 232 (dk_at dksJ15_signedHashCode_1 9 rfl rfl)
theorem dJ15_signedHashCode_35 : decode cJ15_signedHashCode 35 = .ok (.iload_n 0, 1) := dk_26 (dk_at dksJ15_signedHashCode_1 12 rfl rfl)
theorem dJ15_signedHashCode_36 : decode cJ15_signedHashCode 36 = .ok (.ireturn, 1) := dk_172 (dk_at dksJ15_signedHashCode_1 13 rfl rfl)
abbrev cJ15_hashCode_2 : ByteArray := prog_106_method_6_code
def dkwJ15_hashCode_2_1 : List UInt8 := [59, 132, 5, 1, 167, 255, 236, 26, 172]
abbrev dktJ15_hashCode_2_1 : List UInt8 := dkwJ15_hashCode_2_1 ++ []
def dkwJ15_hashCode_2_0 : List UInt8 := [28, 29, 96, 54, 4, 28, 54, 5, 21, 5, 21, 4, 162, 0, 19, 16, 31, 26, 104, 43, 21, 5, 51, 96]
abbrev dktJ15_hashCode_2_0 : List UInt8 := dkwJ15_hashCode_2_0 ++ dktJ15_hashCode_2_1
theorem dksJ15_hashCode_2_0 : cJ15_hashCode_2.data.toList.drop 0 = dktJ15_hashCode_2_0 := by decide +kernel
theorem dksJ15_hashCode_2_1 : cJ15_hashCode_2.data.toList.drop 24 = dktJ15_hashCode_2_1 := dk_seg dksJ15_hashCode_2_0 24 rfl rfl
theorem dJ15_hashCode_2_0 : decode cJ15_hashCode_2 0 = .ok (.iload_n 2, 1) := dk_28 (dk_at dksJ15_hashCode_2_0 0 rfl rfl)
theorem dJ15_hashCode_2_1 : decode cJ15_hashCode_2 1 = .ok (.iload_n 3, 1) := dk_29 (dk_at dksJ15_hashCode_2_0 1 rfl rfl)
theorem dJ15_hashCode_2_2 : decode cJ15_hashCode_2 2 = .ok (.iadd, 1) := dk_96 (dk_at dksJ15_hashCode_2_0 2 rfl rfl)
theorem dJ15_hashCode_2_3 : decode cJ15_hashCode_2 3 = .ok (.istore 4, 2) := dk_54 4 (dk_at dksJ15_hashCode_2_0 3 rfl rfl)
theorem dJ15_hashCode_2_5 : decode cJ15_hashCode_2 5 = .ok (.iload_n 2, 1) := dk_28 (dk_at dksJ15_hashCode_2_0 5 rfl rfl)
theorem dJ15_hashCode_2_6 : decode cJ15_hashCode_2 6 = .ok (.istore 5, 2) := dk_54 5 (dk_at dksJ15_hashCode_2_0 6 rfl rfl)
theorem dJ15_hashCode_2_8 : decode cJ15_hashCode_2 8 = .ok (.iload 5, 2) := dk_21 5 (dk_at dksJ15_hashCode_2_0 8 rfl rfl)
theorem dJ15_hashCode_2_10 : decode cJ15_hashCode_2 10 = .ok (.iload 4, 2) := dk_21 4 (dk_at dksJ15_hashCode_2_0 10 rfl rfl)
theorem dJ15_hashCode_2_12 : decode cJ15_hashCode_2 12 = .ok (.if_icmp .ge 19, 3) := dk_162 0 19 (dk_at dksJ15_hashCode_2_0 12 rfl rfl)
theorem dJ15_hashCode_2_15 : decode cJ15_hashCode_2 15 = .ok (.bipush 31, 2) := dk_16 31 (dk_at dksJ15_hashCode_2_0 15 rfl rfl)
theorem dJ15_hashCode_2_17 : decode cJ15_hashCode_2 17 = .ok (.iload_n 0, 1) := dk_26 (dk_at dksJ15_hashCode_2_0 17 rfl rfl)
theorem dJ15_hashCode_2_18 : decode cJ15_hashCode_2 18 = .ok (.imul, 1) := dk_104 (dk_at dksJ15_hashCode_2_0 18 rfl rfl)
theorem dJ15_hashCode_2_19 : decode cJ15_hashCode_2 19 = .ok (.aload_n 1, 1) := dk_43 (dk_at dksJ15_hashCode_2_0 19 rfl rfl)
theorem dJ15_hashCode_2_20 : decode cJ15_hashCode_2 20 = .ok (.iload 5, 2) := dk_21 5 (dk_at dksJ15_hashCode_2_0 20 rfl rfl)
theorem dJ15_hashCode_2_22 : decode cJ15_hashCode_2 22 = .ok (.baload, 1) := dk_51 (dk_at dksJ15_hashCode_2_0 22 rfl rfl)
theorem dJ15_hashCode_2_23 : decode cJ15_hashCode_2 23 = .ok (.iadd, 1) := dk_96 (dk_at dksJ15_hashCode_2_0 23 rfl rfl)
theorem dJ15_hashCode_2_24 : decode cJ15_hashCode_2 24 = .ok (.istore_n 0, 1) := dk_59 (dk_at dksJ15_hashCode_2_1 0 rfl rfl)
theorem dJ15_hashCode_2_25 : decode cJ15_hashCode_2 25 = .ok (.iinc 5 1, 3) := dk_132 5 1 (dk_at dksJ15_hashCode_2_1 1 rfl rfl)
theorem dJ15_hashCode_2_28 : decode cJ15_hashCode_2 28 = .ok (.goto (-20), 3) := dk_167 255 236 (dk_at dksJ15_hashCode_2_1 4 rfl rfl)
theorem dJ15_hashCode_2_31 : decode cJ15_hashCode_2 31 = .ok (.iload_n 0, 1) := dk_26 (dk_at dksJ15_hashCode_2_1 7 rfl rfl)
theorem dJ15_hashCode_2_32 : decode cJ15_hashCode_2 32 = .ok (.ireturn, 1) := dk_172 (dk_at dksJ15_hashCode_2_1 8 rfl rfl)
abbrev cJ19_inflate : ByteArray := prog_51_method_50_code
def dkwJ19_inflate_0 : List UInt8 := [42, 27, 44, 29, 21, 4, 184, 0, 240, 177]
abbrev dktJ19_inflate_0 : List UInt8 := dkwJ19_inflate_0 ++ []
theorem dksJ19_inflate_0 : cJ19_inflate.data.toList.drop 0 = dktJ19_inflate_0 := by decide +kernel
theorem dJ19_inflate_0 : decode cJ19_inflate 0 = .ok (.aload_n 0, 1) := dk_42 (dk_at dksJ19_inflate_0 0 rfl rfl)
theorem dJ19_inflate_1 : decode cJ19_inflate 1 = .ok (.iload_n 1, 1) := dk_27 (dk_at dksJ19_inflate_0 1 rfl rfl)
theorem dJ19_inflate_2 : decode cJ19_inflate 2 = .ok (.aload_n 2, 1) := dk_44 (dk_at dksJ19_inflate_0 2 rfl rfl)
theorem dJ19_inflate_3 : decode cJ19_inflate 3 = .ok (.iload_n 3, 1) := dk_29 (dk_at dksJ19_inflate_0 3 rfl rfl)
theorem dJ19_inflate_4 : decode cJ19_inflate 4 = .ok (.iload 4, 2) := dk_21 4 (dk_at dksJ19_inflate_0 4 rfl rfl)
theorem dJ19_inflate_6 : decode cJ19_inflate 6 = .ok (.invokestatic 240, 3) := dk_184 0 240 (dk_at dksJ19_inflate_0 6 rfl rfl)
theorem dJ19_inflate_9 : decode cJ19_inflate 9 = .ok (.return_, 1) := dk_177 (dk_at dksJ19_inflate_0 9 rfl rfl)
abbrev cJ19_hashCode : ByteArray := prog_51_method_21_code
def dkwJ19_hashCode_2 : List UInt8 := [3, 167, 0, 22, 42, 3, 51, 17, 0, 255, 126, 167, 0, 12, 42, 3, 42, 190, 3, 7, 184, 0, 84, 172]
abbrev dktJ19_hashCode_2 : List UInt8 := dkwJ19_hashCode_2 ++ []
def dkwJ19_hashCode_1 : List UInt8 := [171, 0, 0, 0, 0, 40, 0, 0, 0, 2, 0, 0, 0, 0, 0, 0, 0, 26, 0, 0, 0, 1, 0, 0, 0, 30]
abbrev dktJ19_hashCode_1 : List UInt8 := dkwJ19_hashCode_1 ++ dktJ19_hashCode_2
def dkwJ19_hashCode_0 : List UInt8 := [42, 190]
abbrev dktJ19_hashCode_0 : List UInt8 := dkwJ19_hashCode_0 ++ dktJ19_hashCode_1
theorem dksJ19_hashCode_0 : cJ19_hashCode.data.toList.drop 0 = dktJ19_hashCode_0 := by decide +kernel
theorem dksJ19_hashCode_1 : cJ19_hashCode.data.toList.drop 2 = dktJ19_hashCode_1 := dk_seg dksJ19_hashCode_0 2 rfl rfl
theorem dksJ19_hashCode_2 : cJ19_hashCode.data.toList.drop 28 = dktJ19_hashCode_2 := dk_seg dksJ19_hashCode_1 26 rfl rfl
theorem dJ19_hashCode_0 : decode cJ19_hashCode 0 = .ok (.aload_n 0, 1) := dk_42 (dk_at dksJ19_hashCode_0 0 rfl rfl)
theorem dJ19_hashCode_1 : decode cJ19_hashCode 1 = .ok (.arraylength, 1) := dk_190 (dk_at dksJ19_hashCode_0 1 rfl rfl)
theorem dJ19_hashCode_2 : decode cJ19_hashCode 2 = .ok (.lookupswitch 40 #[(0, 26), (1, 30)], 26) := by decide +kernel
theorem dJ19_hashCode_28 : decode cJ19_hashCode 28 = .ok (.iconst 0, 1) := dk_3 (dk_at dksJ19_hashCode_2 0 rfl rfl)
theorem dJ19_hashCode_29 : decode cJ19_hashCode 29 = .ok (.goto 22, 3) := dk_167 0 22 (dk_at dksJ19_hashCode_2 1 rfl rfl)
theorem dJ19_hashCode_32 : decode cJ19_hashCode 32 = .ok (.aload_n 0, 1) := dk_42 (dk_at dksJ19_hashCode_2 4 rfl rfl)
theorem dJ19_hashCode_33 : decode cJ19_hashCode 33 = .ok (.iconst 0, 1) := dk_3 (dk_at dksJ19_hashCode_2 5 rfl rfl)
theorem dJ19_hashCode_34 : decode cJ19_hashCode 34 = .ok (.baload, 1) := dk_51 (dk_at dksJ19_hashCode_2 6 rfl rfl)
theorem dJ19_hashCode_35 : decode cJ19_hashCode 35 = .ok (.sipush 255, 3) := dk_17 0 255 (dk_at dksJ19_hashCode_2 7 rfl rfl)
theorem dJ19_hashCode_38 : decode cJ19_hashCode 38 = .ok (.iand, 1) := dk_126 (dk_at dksJ19_hashCode_2 10 rfl rfl)
theorem dJ19_hashCode_39 : decode cJ19_hashCode 39 = .ok (.goto 12, 3) := dk_167 0 12 (dk_at dksJ19_hashCode_2 11 rfl rfl)
theorem dJ19_hashCode_42 : decode cJ19_hashCode 42 = .ok (.aload_n 0, 1) := dk_42 (dk_at dksJ19_hashCode_2 14 rfl rfl)
theorem dJ19_hashCode_43 : decode cJ19_hashCode 43 = .ok (.iconst 0, 1) := dk_3 (dk_at dksJ19_hashCode_2 15 rfl rfl)
theorem dJ19_hashCode_44 : decode cJ19_hashCode 44 = .ok (.aload_n 0, 1) := dk_42 (dk_at dksJ19_hashCode_2 16 rfl rfl)
theorem dJ19_hashCode_45 : decode cJ19_hashCode 45 = .ok (.arraylength, 1) := dk_190 (dk_at dksJ19_hashCode_2 17 rfl rfl)
theorem dJ19_hashCode_46 : decode cJ19_hashCode 46 = .ok (.iconst 0, 1) := dk_3 (dk_at dksJ19_hashCode_2 18 rfl rfl)
theorem dJ19_hashCode_47 : decode cJ19_hashCode 47 = .ok (.iconst 4, 1) := dk_7 (dk_at dksJ19_hashCode_2 19 rfl rfl)
theorem dJ19_hashCode_48 : decode cJ19_hashCode 48 = .ok (.invokestatic 84, 3) := dk_184 0 84 (dk_at dksJ19_hashCode_2 20 rfl rfl)
theorem dJ19_hashCode_51 : decode cJ19_hashCode 51 = .ok (.ireturn, 1) := dk_172 (dk_at dksJ19_hashCode_2 23 rfl rfl)
abbrev cJ19_equals : ByteArray := prog_51_method_13_code
def dkwJ19_equals_1 : List UInt8 := [3, 172, 132, 2, 1, 167, 255, 236, 4, 172, 3, 172]
abbrev dktJ19_equals_1 : List UInt8 := dkwJ19_equals_1 ++ []
def dkwJ19_equals_0 : List UInt8 := [42, 190, 43, 190, 160, 0, 30, 3, 61, 28, 42, 190, 162, 0, 20, 42, 28, 51, 43, 28, 51, 159, 0, 5]
abbrev dktJ19_equals_0 : List UInt8 := dkwJ19_equals_0 ++ dktJ19_equals_1
theorem dksJ19_equals_0 : cJ19_equals.data.toList.drop 0 = dktJ19_equals_0 := by decide +kernel
theorem dksJ19_equals_1 : cJ19_equals.data.toList.drop 24 = dktJ19_equals_1 := dk_seg dksJ19_equals_0 24 rfl rfl
theorem dJ19_equals_0 : decode cJ19_equals 0 = .ok (.aload_n 0, 1) := dk_42 (dk_at dksJ19_equals_0 0 rfl rfl)
theorem dJ19_equals_1 : decode cJ19_equals 1 = .ok (.arraylength, 1) := dk_190 (dk_at dksJ19_equals_0 1 rfl rfl)
theorem dJ19_equals_2 : decode cJ19_equals 2 = .ok (.aload_n 1, 1) := dk_43 (dk_at dksJ19_equals_0 2 rfl rfl)
theorem dJ19_equals_3 : decode cJ19_equals 3 = .ok (.arraylength, 1) := dk_190 (dk_at dksJ19_equals_0 3 rfl rfl)
theorem dJ19_equals_4 : decode cJ19_equals 4 = .ok (.if_icmp .ne 30, 3) := dk_160 0 30 (dk_at dksJ19_equals_0 4 rfl rfl)
theorem dJ19_equals_7 : decode cJ19_equals 7 = .ok (.iconst 0, 1) := dk_3 (dk_at dksJ19_equals_0 7 rfl rfl)
theorem dJ19_equals_8 : decode cJ19_equals 8 = .ok (.istore_n 2, 1) := dk_61 (dk_at dksJ19_equals_0 8 rfl rfl)
theorem dJ19_equals_9 : decode cJ19_equals 9 = .ok (.iload_n 2, 1) := dk_28 (dk_at dksJ19_equals_0 9 rfl rfl)
theorem dJ19_equals_10 : decode cJ19_equals 10 = .ok (.aload_n 0, 1) := dk_42 (dk_at dksJ19_equals_0 10 rfl rfl)
theorem dJ19_equals_11 : decode cJ19_equals 11 = .ok (.arraylength, 1) := dk_190 (dk_at dksJ19_equals_0 11 rfl rfl)
theorem dJ19_equals_12 : decode cJ19_equals 12 = .ok (.if_icmp .ge 20, 3) := dk_162 0 20 (dk_at dksJ19_equals_0 12 rfl rfl)
theorem dJ19_equals_15 : decode cJ19_equals 15 = .ok (.aload_n 0, 1) := dk_42 (dk_at dksJ19_equals_0 15 rfl rfl)
theorem dJ19_equals_16 : decode cJ19_equals 16 = .ok (.iload_n 2, 1) := dk_28 (dk_at dksJ19_equals_0 16 rfl rfl)
theorem dJ19_equals_17 : decode cJ19_equals 17 = .ok (.baload, 1) := dk_51 (dk_at dksJ19_equals_0 17 rfl rfl)
theorem dJ19_equals_18 : decode cJ19_equals 18 = .ok (.aload_n 1, 1) := dk_43 (dk_at dksJ19_equals_0 18 rfl rfl)
theorem dJ19_equals_19 : decode cJ19_equals 19 = .ok (.iload_n 2, 1) := dk_28 (dk_at dksJ19_equals_0 19 rfl rfl)
theorem dJ19_equals_20 : decode cJ19_equals 20 = .ok (.baload, 1) := dk_51 (dk_at dksJ19_equals_0 20 rfl rfl)
theorem dJ19_equals_21 : decode cJ19_equals 21 = .ok (.if_icmp .eq 5, 3) := dk_159 0 5 (dk_at dksJ19_equals_0 21 rfl rfl)
theorem dJ19_equals_24 : decode cJ19_equals 24 = .ok (.iconst 0, 1) := dk_3 (dk_at dksJ19_equals_1 0 rfl rfl)
theorem dJ19_equals_25 : decode cJ19_equals 25 = .ok (.ireturn, 1) := dk_172 (dk_at dksJ19_equals_1 1 rfl rfl)
theorem dJ19_equals_26 : decode cJ19_equals 26 = .ok (.iinc 2 1, 3) := dk_132 2 1 (dk_at dksJ19_equals_1 2 rfl rfl)
theorem dJ19_equals_29 : decode cJ19_equals 29 = .ok (.goto (-20), 3) := dk_167 255 236 (dk_at dksJ19_equals_1 5 rfl rfl)
theorem dJ19_equals_32 : decode cJ19_equals 32 = .ok (.iconst 1, 1) := dk_4 (dk_at dksJ19_equals_1 8 rfl rfl)
theorem dJ19_equals_33 : decode cJ19_equals 33 = .ok (.ireturn, 1) := dk_172 (dk_at dksJ19_equals_1 9 rfl rfl)
theorem dJ19_equals_34 : decode cJ19_equals 34 = .ok (.iconst 0, 1) := dk_3 (dk_at dksJ19_equals_1 10 rfl rfl)
theorem dJ19_equals_35 : decode cJ19_equals 35 = .ok (.ireturn, 1) := dk_172 (dk_at dksJ19_equals_1 11 rfl rfl)
abbrev cJ19_canEncode : ByteArray := prog_51_method_3_code
def dkwJ19_canEncode_0 : List UInt8 := [26, 17, 0, 255, 163, 0, 7, 4, 167, 0, 4, 3, 172]
abbrev dktJ19_canEncode_0 : List UInt8 := dkwJ19_canEncode_0 ++ []
theorem dksJ19_canEncode_0 : cJ19_canEncode.data.toList.drop 0 = dktJ19_canEncode_0 := by decide +kernel
theorem dJ19_canEncode_0 : decode cJ19_canEncode 0 = .ok (.iload_n 0, 1) := dk_26 (dk_at dksJ19_canEncode_0 0 rfl rfl)
theorem dJ19_canEncode_1 : decode cJ19_canEncode 1 = .ok (.sipush 255, 3) := dk_17 0 255 (dk_at dksJ19_canEncode_0 1 rfl rfl)
theorem dJ19_canEncode_4 : decode cJ19_canEncode 4 = .ok (.if_icmp .gt 7, 3) := dk_163 0 7 (dk_at dksJ19_canEncode_0 4 rfl rfl)
theorem dJ19_canEncode_7 : decode cJ19_canEncode 7 = .ok (.iconst 1, 1) := dk_4 (dk_at dksJ19_canEncode_0 7 rfl rfl)
theorem dJ19_canEncode_8 : decode cJ19_canEncode 8 = .ok (.goto 4, 3) := dk_167 0 4 (dk_at dksJ19_canEncode_0 8 rfl rfl)
theorem dJ19_canEncode_11 : decode cJ19_canEncode 11 = .ok (.iconst 0, 1) := dk_3 (dk_at dksJ19_canEncode_0 11 rfl rfl)
theorem dJ19_canEncode_12 : decode cJ19_canEncode 12 = .ok (.ireturn, 1) := dk_172 (dk_at dksJ19_canEncode_0 12 rfl rfl)
abbrev cJ19_fillNull : ByteArray := prog_51_method_48_code
def dkwJ19_fillNull_0 : List UInt8 := [42, 27, 28, 3, 184, 0, 236, 177]
abbrev dktJ19_fillNull_0 : List UInt8 := dkwJ19_fillNull_0 ++ []
theorem dksJ19_fillNull_0 : cJ19_fillNull.data.toList.drop 0 = dktJ19_fillNull_0 := by decide +kernel
theorem dJ19_fillNull_0 : decode cJ19_fillNull 0 = .ok (.aload_n 0, 1) := dk_42 (dk_at dksJ19_fillNull_0 0 rfl rfl)
theorem dJ19_fillNull_1 : decode cJ19_fillNull 1 = .ok (.iload_n 1, 1) := dk_27 (dk_at dksJ19_fillNull_0 1 rfl rfl)
theorem dJ19_fillNull_2 : decode cJ19_fillNull 2 = .ok (.iload_n 2, 1) := dk_28 (dk_at dksJ19_fillNull_0 2 rfl rfl)
theorem dJ19_fillNull_3 : decode cJ19_fillNull 3 = .ok (.iconst 0, 1) := dk_3 (dk_at dksJ19_fillNull_0 3 rfl rfl)
theorem dJ19_fillNull_4 : decode cJ19_fillNull 4 = .ok (.invokestatic 236, 3) := dk_184 0 236 (dk_at dksJ19_fillNull_0 4 rfl rfl)
theorem dJ19_fillNull_7 : decode cJ19_fillNull 7 = .ok (.return_, 1) := dk_177 (dk_at dksJ19_fillNull_0 7 rfl rfl)
abbrev cJ19_charAt : ByteArray := prog_51_method_2_code
def dkwJ19_charAt_0 : List UInt8 := [27, 42, 190, 184, 0, 9, 42, 27, 51, 17, 0, 255, 126, 146, 172]
abbrev dktJ19_charAt_0 : List UInt8 := dkwJ19_charAt_0 ++ []
theorem dksJ19_charAt_0 : cJ19_charAt.data.toList.drop 0 = dktJ19_charAt_0 := by decide +kernel
theorem dJ19_charAt_0 : decode cJ19_charAt 0 = .ok (.iload_n 1, 1) := dk_27 (dk_at dksJ19_charAt_0 0 rfl rfl)
theorem dJ19_charAt_1 : decode cJ19_charAt 1 = .ok (.aload_n 0, 1) := dk_42 (dk_at dksJ19_charAt_0 1 rfl rfl)
theorem dJ19_charAt_2 : decode cJ19_charAt 2 = .ok (.arraylength, 1) := dk_190 (dk_at dksJ19_charAt_0 2 rfl rfl)
theorem dJ19_charAt_3 : decode cJ19_charAt 3 = .ok (.invokestatic 9, 3) := dk_184 0 9 (dk_at dksJ19_charAt_0 3 rfl rfl)
theorem dJ19_charAt_6 : decode cJ19_charAt 6 = .ok (.aload_n 0, 1) := dk_42 (dk_at dksJ19_charAt_0 6 rfl rfl)
theorem dJ19_charAt_7 : decode cJ19_charAt 7 = .ok (.iload_n 1, 1) := dk_27 (dk_at dksJ19_charAt_0 7 rfl rfl)
theorem dJ19_charAt_8 : decode cJ19_charAt 8 = .ok (.baload, 1) := dk_51 (dk_at dksJ19_charAt_0 8 rfl rfl)
theorem dJ19_charAt_9 : decode cJ19_charAt 9 = .ok (.sipush 255, 3) := dk_17 0 255 (dk_at dksJ19_charAt_0 9 rfl rfl)
theorem dJ19_charAt_12 : decode cJ19_charAt 12 = .ok (.iand, 1) := dk_126 (dk_at dksJ19_charAt_0 12 rfl rfl)
theorem dJ19_charAt_13 : decode cJ19_charAt 13 = .ok (.i2c, 1) := dk_146 (dk_at dksJ19_charAt_0 13 rfl rfl)
theorem dJ19_charAt_14 : decode cJ19_charAt 14 = .ok (.ireturn, 1) := dk_172 (dk_at dksJ19_charAt_0 14 rfl rfl)
abbrev cJ19_indexOf : ByteArray := prog_51_method_24_code
def dkwJ19_indexOf_1 : List UInt8 := [172]
abbrev dktJ19_indexOf_1 : List UInt8 := dkwJ19_indexOf_1 ++ []
def dkwJ19_indexOf_0 : List UInt8 := [43, 190, 154, 0, 5, 3, 172, 42, 190, 154, 0, 5, 2, 172, 42, 42, 190, 43, 43, 190, 3, 184, 0, 99]
abbrev dktJ19_indexOf_0 : List UInt8 := dkwJ19_indexOf_0 ++ dktJ19_indexOf_1
theorem dksJ19_indexOf_0 : cJ19_indexOf.data.toList.drop 0 = dktJ19_indexOf_0 := by decide +kernel
theorem dksJ19_indexOf_1 : cJ19_indexOf.data.toList.drop 24 = dktJ19_indexOf_1 := dk_seg dksJ19_indexOf_0 24 rfl rfl
theorem dJ19_indexOf_0 : decode cJ19_indexOf 0 = .ok (.aload_n 1, 1) := dk_43 (dk_at dksJ19_indexOf_0 0 rfl rfl)
theorem dJ19_indexOf_1 : decode cJ19_indexOf 1 = .ok (.arraylength, 1) := dk_190 (dk_at dksJ19_indexOf_0 1 rfl rfl)
theorem dJ19_indexOf_2 : decode cJ19_indexOf 2 = .ok (.ifCond .ne 5, 3) := dk_154 0 5 (dk_at dksJ19_indexOf_0 2 rfl rfl)
theorem dJ19_indexOf_5 : decode cJ19_indexOf 5 = .ok (.iconst 0, 1) := dk_3 (dk_at dksJ19_indexOf_0 5 rfl rfl)
theorem dJ19_indexOf_6 : decode cJ19_indexOf 6 = .ok (.ireturn, 1) := dk_172 (dk_at dksJ19_indexOf_0 6 rfl rfl)
theorem dJ19_indexOf_7 : decode cJ19_indexOf 7 = .ok (.aload_n 0, 1) := dk_42 (dk_at dksJ19_indexOf_0 7 rfl rfl)
theorem dJ19_indexOf_8 : decode cJ19_indexOf 8 = .ok (.arraylength, 1) := dk_190 (dk_at dksJ19_indexOf_0 8 rfl rfl)
theorem dJ19_indexOf_9 : decode cJ19_indexOf 9 = .ok (.ifCond .ne 5, 3) := dk_154 0 5 (dk_at dksJ19_indexOf_0 9 rfl rfl)
theorem dJ19_indexOf_12 : decode cJ19_indexOf 12 = .ok (.iconst (-1), 1) := dk_2 (dk_at dksJ19_indexOf_0 12 rfl rfl)
theorem dJ19_indexOf_13 : decode cJ19_indexOf 13 = .ok (.ireturn, 1) := dk_172 (dk_at dksJ19_indexOf_0 13 rfl rfl)
theorem dJ19_indexOf_14 : decode cJ19_indexOf 14 = .ok (.aload_n 0, 1) := dk_42 (dk_at dksJ19_indexOf_0 14 rfl rfl)
theorem dJ19_indexOf_15 : decode cJ19_indexOf 15 = .ok (.aload_n 0, 1) := dk_42 (dk_at dksJ19_indexOf_0 15 rfl rfl)
theorem dJ19_indexOf_16 : decode cJ19_indexOf 16 = .ok (.arraylength, 1) := dk_190 (dk_at dksJ19_indexOf_0 16 rfl rfl)
theorem dJ19_indexOf_17 : decode cJ19_indexOf 17 = .ok (.aload_n 1, 1) := dk_43 (dk_at dksJ19_indexOf_0 17 rfl rfl)
theorem dJ19_indexOf_18 : decode cJ19_indexOf 18 = .ok (.aload_n 1, 1) := dk_43 (dk_at dksJ19_indexOf_0 18 rfl rfl)
theorem dJ19_indexOf_19 : decode cJ19_indexOf 19 = .ok (.arraylength, 1) := dk_190 (dk_at dksJ19_indexOf_0 19 rfl rfl)
theorem dJ19_indexOf_20 : decode cJ19_indexOf 20 = .ok (.iconst 0, 1) := dk_3 (dk_at dksJ19_indexOf_0 20 rfl rfl)
theorem dJ19_indexOf_21 : decode cJ19_indexOf 21 = .ok (.invokestatic 99, 3) := dk_184 0 99 (dk_at dksJ19_indexOf_0 21 rfl rfl)
theorem dJ19_indexOf_24 : decode cJ19_indexOf 24 = .ok (.ireturn, 1) := dk_172 (dk_at dksJ19_indexOf_1 0 rfl rfl)
abbrev cJ19_indexOf_2 : ByteArray := prog_51_method_25_code
def dkwJ19_indexOf_2_5 : List UInt8 := [167, 255, 154, 2, 172]
abbrev dktJ19_indexOf_2_5 : List UInt8 := dkwJ19_indexOf_2_5 ++ []
def dkwJ19_indexOf_2_4 : List UInt8 := [132, 8, 1, 132, 10, 1, 167, 255, 232, 21, 8, 21, 9, 160, 0, 6, 21, 7, 172, 132, 7, 1]
abbrev dktJ19_indexOf_2_4 : List UInt8 := dkwJ19_indexOf_2_4 ++ dktJ19_indexOf_2_5
def dkwJ19_indexOf_2_3 : List UInt8 := [100, 54, 9, 4, 54, 10, 21, 8, 21, 9, 162, 0, 23, 42, 21, 8, 51, 44, 21, 10, 51, 160, 0, 12]
abbrev dktJ19_indexOf_2_3 : List UInt8 := dkwJ19_indexOf_2_3 ++ dktJ19_indexOf_2_4
def dkwJ19_indexOf_2_2 : List UInt8 := [159, 0, 6, 167, 255, 237, 21, 7, 21, 6, 163, 0, 57, 21, 7, 4, 96, 54, 8, 21, 8, 29, 96, 4]
abbrev dktJ19_indexOf_2_2 : List UInt8 := dkwJ19_indexOf_2_2 ++ dktJ19_indexOf_2_3
def dkwJ19_indexOf_2_1 : List UInt8 := [51, 21, 5, 159, 0, 25, 132, 7, 1, 21, 7, 21, 6, 163, 0, 15, 42, 21, 7, 51, 21, 5]
abbrev dktJ19_indexOf_2_1 : List UInt8 := dkwJ19_indexOf_2_1 ++ dktJ19_indexOf_2_2
def dkwJ19_indexOf_2_0 : List UInt8 := [44, 3, 51, 54, 5, 27, 29, 100, 54, 6, 21, 4, 54, 7, 21, 7, 21, 6, 163, 0, 101, 42, 21, 7]
abbrev dktJ19_indexOf_2_0 : List UInt8 := dkwJ19_indexOf_2_0 ++ dktJ19_indexOf_2_1
theorem dksJ19_indexOf_2_0 : cJ19_indexOf_2.data.toList.drop 0 = dktJ19_indexOf_2_0 := by decide +kernel
theorem dksJ19_indexOf_2_1 : cJ19_indexOf_2.data.toList.drop 24 = dktJ19_indexOf_2_1 := dk_seg dksJ19_indexOf_2_0 24 rfl rfl
theorem dksJ19_indexOf_2_2 : cJ19_indexOf_2.data.toList.drop 46 = dktJ19_indexOf_2_2 := dk_seg dksJ19_indexOf_2_1 22 rfl rfl
theorem dksJ19_indexOf_2_3 : cJ19_indexOf_2.data.toList.drop 70 = dktJ19_indexOf_2_3 := dk_seg dksJ19_indexOf_2_2 24 rfl rfl
theorem dksJ19_indexOf_2_4 : cJ19_indexOf_2.data.toList.drop 94 = dktJ19_indexOf_2_4 := dk_seg dksJ19_indexOf_2_3 24 rfl rfl
theorem dksJ19_indexOf_2_5 : cJ19_indexOf_2.data.toList.drop 116 = dktJ19_indexOf_2_5 := dk_seg dksJ19_indexOf_2_4 22 rfl rfl
theorem dJ19_indexOf_2_0 : decode cJ19_indexOf_2 0 = .ok (.aload_n 2, 1) := dk_44 (dk_at dksJ19_indexOf_2_0 0 rfl rfl)
theorem dJ19_indexOf_2_1 : decode cJ19_indexOf_2 1 = .ok (.iconst 0, 1) := dk_3 (dk_at dksJ19_indexOf_2_0 1 rfl rfl)
theorem dJ19_indexOf_2_2 : decode cJ19_indexOf_2 2 = .ok (.baload, 1) := dk_51 (dk_at dksJ19_indexOf_2_0 2 rfl rfl)
theorem dJ19_indexOf_2_3 : decode cJ19_indexOf_2 3 = .ok (.istore 5, 2) := dk_54 5 (dk_at dksJ19_indexOf_2_0 3 rfl rfl)
theorem dJ19_indexOf_2_5 : decode cJ19_indexOf_2 5 = .ok (.iload_n 1, 1) := dk_27 (dk_at dksJ19_indexOf_2_0 5 rfl rfl)
theorem dJ19_indexOf_2_6 : decode cJ19_indexOf_2 6 = .ok (.iload_n 3, 1) := dk_29 (dk_at dksJ19_indexOf_2_0 6 rfl rfl)
theorem dJ19_indexOf_2_7 : decode cJ19_indexOf_2 7 = .ok (.isub, 1) := dk_100 (dk_at dksJ19_indexOf_2_0 7 rfl rfl)
theorem dJ19_indexOf_2_8 : decode cJ19_indexOf_2 8 = .ok (.istore 6, 2) := dk_54 6 (dk_at dksJ19_indexOf_2_0 8 rfl rfl)
theorem dJ19_indexOf_2_10 : decode cJ19_indexOf_2 10 = .ok (.iload 4, 2) := dk_21 4 (dk_at dksJ19_indexOf_2_0 10 rfl rfl)
theorem dJ19_indexOf_2_12 : decode cJ19_indexOf_2 12 = .ok (.istore 7, 2) := dk_54 7 (dk_at dksJ19_indexOf_2_0 12 rfl rfl)
theorem dJ19_indexOf_2_14 : decode cJ19_indexOf_2 14 = .ok (.iload 7, 2) := dk_21 7 (dk_at dksJ19_indexOf_2_0 14 rfl rfl)
theorem dJ19_indexOf_2_16 : decode cJ19_indexOf_2 16 = .ok (.iload 6, 2) := dk_21 6 (dk_at dksJ19_indexOf_2_0 16 rfl rfl)
theorem dJ19_indexOf_2_18 : decode cJ19_indexOf_2 18 = .ok (.if_icmp .gt 101, 3) := dk_163 0 101 (dk_at dksJ19_indexOf_2_0 18 rfl rfl)
theorem dJ19_indexOf_2_21 : decode cJ19_indexOf_2 21 = .ok (.aload_n 0, 1) := dk_42 (dk_at dksJ19_indexOf_2_0 21 rfl rfl)
theorem dJ19_indexOf_2_22 : decode cJ19_indexOf_2 22 = .ok (.iload 7, 2) := dk_21 7 (dk_at dksJ19_indexOf_2_0 22 rfl rfl)
theorem dJ19_indexOf_2_24 : decode cJ19_indexOf_2 24 = .ok (.baload, 1) := dk_51 (dk_at dksJ19_indexOf_2_1 0 rfl rfl)
theorem dJ19_indexOf_2_25 : decode cJ19_indexOf_2 25 = .ok (.iload 5, 2) := dk_21 5 (dk_at dksJ19_indexOf_2_1 1 rfl rfl)
theorem dJ19_indexOf_2_27 : decode cJ19_indexOf_2 27 = .ok (.if_icmp .eq 25, 3) := dk_159 0 25 (dk_at dksJ19_indexOf_2_1 3 rfl rfl)
theorem dJ19_indexOf_2_30 : decode cJ19_indexOf_2 30 = .ok (.iinc 7 1, 3) := dk_132 7 1 (dk_at dksJ19_indexOf_2_1 6 rfl rfl)
theorem dJ19_indexOf_2_33 : decode cJ19_indexOf_2 33 = .ok (.iload 7, 2) := dk_21 7 (dk_at dksJ19_indexOf_2_1 9 rfl rfl)
theorem dJ19_indexOf_2_35 : decode cJ19_indexOf_2 35 = .ok (.iload 6, 2) := dk_21 6 (dk_at dksJ19_indexOf_2_1 11 rfl rfl)
theorem dJ19_indexOf_2_37 : decode cJ19_indexOf_2 37 = .ok (.if_icmp .gt 15, 3) := dk_163 0 15 (dk_at dksJ19_indexOf_2_1 13 rfl rfl)
theorem dJ19_indexOf_2_40 : decode cJ19_indexOf_2 40 = .ok (.aload_n 0, 1) := dk_42 (dk_at dksJ19_indexOf_2_1 16 rfl rfl)
theorem dJ19_indexOf_2_41 : decode cJ19_indexOf_2 41 = .ok (.iload 7, 2) := dk_21 7 (dk_at dksJ19_indexOf_2_1 17 rfl rfl)
theorem dJ19_indexOf_2_43 : decode cJ19_indexOf_2 43 = .ok (.baload, 1) := dk_51 (dk_at dksJ19_indexOf_2_1 19 rfl rfl)
theorem dJ19_indexOf_2_44 : decode cJ19_indexOf_2 44 = .ok (.iload 5, 2) := dk_21 5 (dk_at dksJ19_indexOf_2_1 20 rfl rfl)
theorem dJ19_indexOf_2_46 : decode cJ19_indexOf_2 46 = .ok (.if_icmp .eq 6, 3) := dk_159 0 6 (dk_at dksJ19_indexOf_2_2 0 rfl rfl)
theorem dJ19_indexOf_2_49 : decode cJ19_indexOf_2 49 = .ok (.goto (-19), 3) := dk_167 255 237 (dk_at dksJ19_indexOf_2_2 3 rfl rfl)
theorem dJ19_indexOf_2_52 : decode cJ19_indexOf_2 52 = .ok (.iload 7, 2) := dk_21 7 (dk_at dksJ19_indexOf_2_2 6 rfl rfl)
theorem dJ19_indexOf_2_54 : decode cJ19_indexOf_2 54 = .ok (.iload 6, 2) := dk_21 6 (dk_at dksJ19_indexOf_2_2 8 rfl rfl)
theorem dJ19_indexOf_2_56 : decode cJ19_indexOf_2 56 = .ok (.if_icmp .gt 57, 3) := dk_163 0 57 (dk_at dksJ19_indexOf_2_2 10 rfl rfl)
theorem dJ19_indexOf_2_59 : decode cJ19_indexOf_2 59 = .ok (.iload 7, 2) := dk_21 7 (dk_at dksJ19_indexOf_2_2 13 rfl rfl)
theorem dJ19_indexOf_2_61 : decode cJ19_indexOf_2 61 = .ok (.iconst 1, 1) := dk_4 (dk_at dksJ19_indexOf_2_2 15 rfl rfl)
theorem dJ19_indexOf_2_62 : decode cJ19_indexOf_2 62 = .ok (.iadd, 1) := dk_96 (dk_at dksJ19_indexOf_2_2 16 rfl rfl)
theorem dJ19_indexOf_2_63 : decode cJ19_indexOf_2 63 = .ok (.istore 8, 2) := dk_54 8 (dk_at dksJ19_indexOf_2_2 17 rfl rfl)
theorem dJ19_indexOf_2_65 : decode cJ19_indexOf_2 65 = .ok (.iload 8, 2) := dk_21 8 (dk_at dksJ19_indexOf_2_2 19 rfl rfl)
theorem dJ19_indexOf_2_67 : decode cJ19_indexOf_2 67 = .ok (.iload_n 3, 1) := dk_29 (dk_at dksJ19_indexOf_2_2 21 rfl rfl)
theorem dJ19_indexOf_2_68 : decode cJ19_indexOf_2 68 = .ok (.iadd, 1) := dk_96 (dk_at dksJ19_indexOf_2_2 22 rfl rfl)
theorem dJ19_indexOf_2_69 : decode cJ19_indexOf_2 69 = .ok (.iconst 1, 1) := dk_4 (dk_at dksJ19_indexOf_2_2 23 rfl rfl)
theorem dJ19_indexOf_2_70 : decode cJ19_indexOf_2 70 = .ok (.isub, 1) := dk_100 (dk_at dksJ19_indexOf_2_3 0 rfl rfl)
theorem dJ19_indexOf_2_71 : decode cJ19_indexOf_2 71 = .ok (.istore 9, 2) := dk_54 9 (dk_at dksJ19_indexOf_2_3 1 rfl rfl)
theorem dJ19_indexOf_2_73 : decode cJ19_indexOf_2 73 = .ok (.iconst 1, 1) := dk_4 (dk_at dksJ19_indexOf_2_3 3 rfl rfl)
theorem dJ19_indexOf_2_74 : decode cJ19_indexOf_2 74 = .ok (.istore 10, 2) := dk_54 10 (dk_at dksJ19_indexOf_2_3 4 rfl rfl)
theorem dJ19_indexOf_2_76 : decode cJ19_indexOf_2 76 = .ok (.iload 8, 2) := dk_21 8 (dk_at dksJ19_indexOf_2_3 6 rfl rfl)
theorem dJ19_indexOf_2_78 : decode cJ19_indexOf_2 78 = .ok (.iload 9, 2) := dk_21 9 (dk_at dksJ19_indexOf_2_3 8 rfl rfl)
theorem dJ19_indexOf_2_80 : decode cJ19_indexOf_2 80 = .ok (.if_icmp .ge 23, 3) := dk_162 0 23 (dk_at dksJ19_indexOf_2_3 10 rfl rfl)
theorem dJ19_indexOf_2_83 : decode cJ19_indexOf_2 83 = .ok (.aload_n 0, 1) := dk_42 (dk_at dksJ19_indexOf_2_3 13 rfl rfl)
theorem dJ19_indexOf_2_84 : decode cJ19_indexOf_2 84 = .ok (.iload 8, 2) := dk_21 8 (dk_at dksJ19_indexOf_2_3 14 rfl rfl)
theorem dJ19_indexOf_2_86 : decode cJ19_indexOf_2 86 = .ok (.baload, 1) := dk_51 (dk_at dksJ19_indexOf_2_3 16 rfl rfl)
theorem dJ19_indexOf_2_87 : decode cJ19_indexOf_2 87 = .ok (.aload_n 2, 1) := dk_44 (dk_at dksJ19_indexOf_2_3 17 rfl rfl)
theorem dJ19_indexOf_2_88 : decode cJ19_indexOf_2 88 = .ok (.iload 10, 2) := dk_21 10 (dk_at dksJ19_indexOf_2_3 18 rfl rfl)
theorem dJ19_indexOf_2_90 : decode cJ19_indexOf_2 90 = .ok (.baload, 1) := dk_51 (dk_at dksJ19_indexOf_2_3 20 rfl rfl)
theorem dJ19_indexOf_2_91 : decode cJ19_indexOf_2 91 = .ok (.if_icmp .ne 12, 3) := dk_160 0 12 (dk_at dksJ19_indexOf_2_3 21 rfl rfl)
theorem dJ19_indexOf_2_94 : decode cJ19_indexOf_2 94 = .ok (.iinc 8 1, 3) := dk_132 8 1 (dk_at dksJ19_indexOf_2_4 0 rfl rfl)
theorem dJ19_indexOf_2_97 : decode cJ19_indexOf_2 97 = .ok (.iinc 10 1, 3) := dk_132 10 1 (dk_at dksJ19_indexOf_2_4 3 rfl rfl)
theorem dJ19_indexOf_2_100 : decode cJ19_indexOf_2 100 = .ok (.goto (-24), 3) := dk_167 255 232 (dk_at dksJ19_indexOf_2_4 6 rfl rfl)
theorem dJ19_indexOf_2_103 : decode cJ19_indexOf_2 103 = .ok (.iload 8, 2) := dk_21 8 (dk_at dksJ19_indexOf_2_4 9 rfl rfl)
theorem dJ19_indexOf_2_105 : decode cJ19_indexOf_2 105 = .ok (.iload 9, 2) := dk_21 9 (dk_at dksJ19_indexOf_2_4 11 rfl rfl)
theorem dJ19_indexOf_2_107 : decode cJ19_indexOf_2 107 = .ok (.if_icmp .ne 6, 3) := dk_160 0 6 (dk_at dksJ19_indexOf_2_4 13 rfl rfl)
theorem dJ19_indexOf_2_110 : decode cJ19_indexOf_2 110 = .ok (.iload 7, 2) := dk_21 7 (dk_at dksJ19_indexOf_2_4 16 rfl rfl)
theorem dJ19_indexOf_2_112 : decode cJ19_indexOf_2 112 = .ok (.ireturn, 1) := dk_172 (dk_at dksJ19_indexOf_2_4 18 rfl rfl)
theorem dJ19_indexOf_2_113 : decode cJ19_indexOf_2 113 = .ok (.iinc 7 1, 3) := dk_132 7 1 (dk_at dksJ19_indexOf_2_4 19 rfl rfl)
theorem dJ19_indexOf_2_116 : decode cJ19_indexOf_2 116 = .ok (.goto (-102), 3) := dk_167 255 154 (dk_at dksJ19_indexOf_2_5 0 rfl rfl)
theorem dJ19_indexOf_2_119 : decode cJ19_indexOf_2 119 = .ok (.iconst (-1), 1) := dk_2 (dk_at dksJ19_indexOf_2_5 3 rfl rfl)
theorem dJ19_indexOf_2_120 : decode cJ19_indexOf_2 120 = .ok (.ireturn, 1) := dk_172 (dk_at dksJ19_indexOf_2_5 4 rfl rfl)
abbrev cJ8_newBytesFor : ByteArray := prog_52_method_2_code
def dkwJ8_newBytesFor_0 : List UInt8 := [26, 184, 0, 11, 188, 8, 176]
abbrev dktJ8_newBytesFor_0 : List UInt8 := dkwJ8_newBytesFor_0 ++ []
theorem dksJ8_newBytesFor_0 : cJ8_newBytesFor.data.toList.drop 0 = dktJ8_newBytesFor_0 := by decide +kernel
theorem dJ8_newBytesFor_0 : decode cJ8_newBytesFor 0 = .ok (.iload_n 0, 1) := dk_26 (dk_at dksJ8_newBytesFor_0 0 rfl rfl)
theorem dJ8_newBytesFor_1 : decode cJ8_newBytesFor 1 = .ok (.invokestatic 11, 3) := dk_184 0 11 (dk_at dksJ8_newBytesFor_0 1 rfl rfl)
theorem dJ8_newBytesFor_4 : decode cJ8_newBytesFor 4 = .ok (.newarray .byte, 2) := dk_188_8 (dk_at dksJ8_newBytesFor_0 4 rfl rfl)
theorem dJ8_newBytesFor_6 : decode cJ8_newBytesFor 6 = .ok (.areturn, 1) := dk_176 (dk_at dksJ8_newBytesFor_0 6 rfl rfl)
abbrev cJ8_newBytesLength : ByteArray := prog_52_method_3_code
def dkwJ8_newBytesLength_2 : List UInt8 := [182, 0, 32, 182, 0, 37, 183, 0, 41, 191, 26, 4, 120, 172]
abbrev dktJ8_newBytesLength_2 : List UInt8 := dkwJ8_newBytesLength_2 ++ []
def dkwJ8_newBytesLength_1 : List UInt8 := [187, 0, 23, 89, 183, 0, 25, 18, 26, 182, 0, 28, 26, 182, 0, 32, 18, 35, 182, 0, 28, 18, 20]
abbrev dktJ8_newBytesLength_1 : List UInt8 := dkwJ8_newBytesLength_1 ++ dktJ8_newBytesLength_2
def dkwJ8_newBytesLength_0 : List UInt8 := [26, 156, 0, 11, 187, 0, 17, 89, 183, 0, 19, 191, 26, 18, 20, 161, 0, 40, 187, 0, 21, 89]
abbrev dktJ8_newBytesLength_0 : List UInt8 := dkwJ8_newBytesLength_0 ++ dktJ8_newBytesLength_1
theorem dksJ8_newBytesLength_0 : cJ8_newBytesLength.data.toList.drop 0 = dktJ8_newBytesLength_0 := by decide +kernel
theorem dksJ8_newBytesLength_1 : cJ8_newBytesLength.data.toList.drop 22 = dktJ8_newBytesLength_1 := dk_seg dksJ8_newBytesLength_0 22 rfl rfl
theorem dksJ8_newBytesLength_2 : cJ8_newBytesLength.data.toList.drop 45 = dktJ8_newBytesLength_2 := dk_seg dksJ8_newBytesLength_1 23 rfl rfl
theorem dJ8_newBytesLength_0 : decode cJ8_newBytesLength 0 = .ok (.iload_n 0, 1) := dk_26 (dk_at dksJ8_newBytesLength_0 0 rfl rfl)
theorem dJ8_newBytesLength_1 : decode cJ8_newBytesLength 1 = .ok (.ifCond .ge 11, 3) := dk_156 0 11 (dk_at dksJ8_newBytesLength_0 1 rfl rfl)
theorem dJ8_newBytesLength_4 : decode cJ8_newBytesLength 4 = .ok (.new 17, 3) := dk_187 0 17 (dk_at dksJ8_newBytesLength_0 4 rfl rfl)
theorem dJ8_newBytesLength_12 : decode cJ8_newBytesLength 12 = .ok (.iload_n 0, 1) := dk_26 (dk_at dksJ8_newBytesLength_0 12 rfl rfl)
theorem dJ8_newBytesLength_13 : decode cJ8_newBytesLength 13 = .ok (.ldc 20, 2) := dk_18 20 (dk_at dksJ8_newBytesLength_0 13 rfl rfl)
theorem dJ8_newBytesLength_15 : decode cJ8_newBytesLength 15 = .ok (.if_icmp .lt 40, 3) := dk_161 0 40 (dk_at dksJ8_newBytesLength_0 15 rfl rfl)
theorem dJ8_newBytesLength_18 : decode cJ8_newBytesLength 18 = .ok (.new 21, 3) := dk_187 0 21 (dk_at dksJ8_newBytesLength_0 18 rfl rfl)
theorem dJ8_newBytesLength_55 : decode cJ8_newBytesLength 55 = .ok (.iload_n 0, 1) := dk_26 (dk_at dksJ8_newBytesLength_2 10 rfl rfl)
theorem dJ8_newBytesLength_56 : decode cJ8_newBytesLength 56 = .ok (.iconst 1, 1) := dk_4 (dk_at dksJ8_newBytesLength_2 11 rfl rfl)
theorem dJ8_newBytesLength_57 : decode cJ8_newBytesLength 57 = .ok (.ishl, 1) := dk_120 (dk_at dksJ8_newBytesLength_2 12 rfl rfl)
theorem dJ8_newBytesLength_58 : decode cJ8_newBytesLength 58 = .ok (.ireturn, 1) := dk_172 (dk_at dksJ8_newBytesLength_2 13 rfl rfl)
abbrev cJ8_putCharsAt : ByteArray := prog_52_method_81_code
def dkwJ8_putCharsAt_3 : List UInt8 := [21, 6, 172]
abbrev dktJ8_putCharsAt_3 : List UInt8 := dkwJ8_putCharsAt_3 ++ []
def dkwJ8_putCharsAt_2 : List UInt8 := [184, 0, 111, 178, 0, 44, 154, 0, 17, 27, 21, 6, 159, 0, 11, 187, 0, 52, 89, 183, 0, 66, 191]
abbrev dktJ8_putCharsAt_2 : List UInt8 := dkwJ8_putCharsAt_2 ++ dktJ8_putCharsAt_3
def dkwJ8_putCharsAt_1 : List UInt8 := [132, 1, 1, 29, 184, 0, 111, 42, 27, 132, 1, 1, 21, 4, 184, 0, 111, 42, 27, 132, 1, 1, 21, 5]
abbrev dktJ8_putCharsAt_1 : List UInt8 := dkwJ8_putCharsAt_1 ++ dktJ8_putCharsAt_2
def dkwJ8_putCharsAt_0 : List UInt8 := [27, 7, 96, 54, 6, 27, 21, 6, 42, 184, 0, 96, 42, 27, 132, 1, 1, 28, 184, 0, 111, 42, 27]
abbrev dktJ8_putCharsAt_0 : List UInt8 := dkwJ8_putCharsAt_0 ++ dktJ8_putCharsAt_1
theorem dksJ8_putCharsAt_0 : cJ8_putCharsAt.data.toList.drop 0 = dktJ8_putCharsAt_0 := by decide +kernel
theorem dksJ8_putCharsAt_1 : cJ8_putCharsAt.data.toList.drop 23 = dktJ8_putCharsAt_1 := dk_seg dksJ8_putCharsAt_0 23 rfl rfl
theorem dksJ8_putCharsAt_2 : cJ8_putCharsAt.data.toList.drop 47 = dktJ8_putCharsAt_2 := dk_seg dksJ8_putCharsAt_1 24 rfl rfl
theorem dksJ8_putCharsAt_3 : cJ8_putCharsAt.data.toList.drop 70 = dktJ8_putCharsAt_3 := dk_seg dksJ8_putCharsAt_2 23 rfl rfl
theorem dJ8_putCharsAt_0 : decode cJ8_putCharsAt 0 = .ok (.iload_n 1, 1) := dk_27 (dk_at dksJ8_putCharsAt_0 0 rfl rfl)
theorem dJ8_putCharsAt_1 : decode cJ8_putCharsAt 1 = .ok (.iconst 4, 1) := dk_7 (dk_at dksJ8_putCharsAt_0 1 rfl rfl)
theorem dJ8_putCharsAt_2 : decode cJ8_putCharsAt 2 = .ok (.iadd, 1) := dk_96 (dk_at dksJ8_putCharsAt_0 2 rfl rfl)
theorem dJ8_putCharsAt_3 : decode cJ8_putCharsAt 3 = .ok (.istore 6, 2) := dk_54 6 (dk_at dksJ8_putCharsAt_0 3 rfl rfl)
theorem dJ8_putCharsAt_5 : decode cJ8_putCharsAt 5 = .ok (.iload_n 1, 1) := dk_27 (dk_at dksJ8_putCharsAt_0 5 rfl rfl)
theorem dJ8_putCharsAt_6 : decode cJ8_putCharsAt 6 = .ok (.iload 6, 2) := dk_21 6 (dk_at dksJ8_putCharsAt_0 6 rfl rfl)
theorem dJ8_putCharsAt_8 : decode cJ8_putCharsAt 8 = .ok (.aload_n 0, 1) := dk_42 (dk_at dksJ8_putCharsAt_0 8 rfl rfl)
theorem dJ8_putCharsAt_9 : decode cJ8_putCharsAt 9 = .ok (.invokestatic 96, 3) := dk_184 0 96 (dk_at dksJ8_putCharsAt_0 9 rfl rfl)
theorem dJ8_putCharsAt_12 : decode cJ8_putCharsAt 12 = .ok (.aload_n 0, 1) := dk_42 (dk_at dksJ8_putCharsAt_0 12 rfl rfl)
theorem dJ8_putCharsAt_13 : decode cJ8_putCharsAt 13 = .ok (.iload_n 1, 1) := dk_27 (dk_at dksJ8_putCharsAt_0 13 rfl rfl)
theorem dJ8_putCharsAt_14 : decode cJ8_putCharsAt 14 = .ok (.iinc 1 1, 3) := dk_132 1 1 (dk_at dksJ8_putCharsAt_0 14 rfl rfl)
theorem dJ8_putCharsAt_17 : decode cJ8_putCharsAt 17 = .ok (.iload_n 2, 1) := dk_28 (dk_at dksJ8_putCharsAt_0 17 rfl rfl)
theorem dJ8_putCharsAt_18 : decode cJ8_putCharsAt 18 = .ok (.invokestatic 111, 3) := dk_184 0 111 (dk_at dksJ8_putCharsAt_0 18 rfl rfl)
theorem dJ8_putCharsAt_21 : decode cJ8_putCharsAt 21 = .ok (.aload_n 0, 1) := dk_42 (dk_at dksJ8_putCharsAt_0 21 rfl rfl)
theorem dJ8_putCharsAt_22 : decode cJ8_putCharsAt 22 = .ok (.iload_n 1, 1) := dk_27 (dk_at dksJ8_putCharsAt_0 22 rfl rfl)
theorem dJ8_putCharsAt_23 : decode cJ8_putCharsAt 23 = .ok (.iinc 1 1, 3) := dk_132 1 1 (dk_at dksJ8_putCharsAt_1 0 rfl rfl)
theorem dJ8_putCharsAt_26 : decode cJ8_putCharsAt 26 = .ok (.iload_n 3, 1) := dk_29 (dk_at dksJ8_putCharsAt_1 3 rfl rfl)
theorem dJ8_putCharsAt_27 : decode cJ8_putCharsAt 27 = .ok (.invokestatic 111, 3) := dk_184 0 111 (dk_at dksJ8_putCharsAt_1 4 rfl rfl)
theorem dJ8_putCharsAt_30 : decode cJ8_putCharsAt 30 = .ok (.aload_n 0, 1) := dk_42 (dk_at dksJ8_putCharsAt_1 7 rfl rfl)
theorem dJ8_putCharsAt_31 : decode cJ8_putCharsAt 31 = .ok (.iload_n 1, 1) := dk_27 (dk_at dksJ8_putCharsAt_1 8 rfl rfl)
theorem dJ8_putCharsAt_32 : decode cJ8_putCharsAt 32 = .ok (.iinc 1 1, 3) := dk_132 1 1 (dk_at dksJ8_putCharsAt_1 9 rfl rfl)
theorem dJ8_putCharsAt_35 : decode cJ8_putCharsAt 35 = .ok (.iload 4, 2) := dk_21 4 (dk_at dksJ8_putCharsAt_1 12 rfl rfl)
theorem dJ8_putCharsAt_37 : decode cJ8_putCharsAt 37 = .ok (.invokestatic 111, 3) := dk_184 0 111 (dk_at dksJ8_putCharsAt_1 14 rfl rfl)
theorem dJ8_putCharsAt_40 : decode cJ8_putCharsAt 40 = .ok (.aload_n 0, 1) := dk_42 (dk_at dksJ8_putCharsAt_1 17 rfl rfl)
theorem dJ8_putCharsAt_41 : decode cJ8_putCharsAt 41 = .ok (.iload_n 1, 1) := dk_27 (dk_at dksJ8_putCharsAt_1 18 rfl rfl)
theorem dJ8_putCharsAt_42 : decode cJ8_putCharsAt 42 = .ok (.iinc 1 1, 3) := dk_132 1 1 (dk_at dksJ8_putCharsAt_1 19 rfl rfl)
theorem dJ8_putCharsAt_45 : decode cJ8_putCharsAt 45 = .ok (.iload 5, 2) := dk_21 5 (dk_at dksJ8_putCharsAt_1 22 rfl rfl)
theorem dJ8_putCharsAt_47 : decode cJ8_putCharsAt 47 = .ok (.invokestatic 111, 3) := dk_184 0 111 (dk_at dksJ8_putCharsAt_2 0 rfl rfl)
theorem dJ8_putCharsAt_50 : decode cJ8_putCharsAt 50 = .ok (.getstatic 44, 3) := dk_178 0 44 (dk_at dksJ8_putCharsAt_2 3 rfl rfl)
theorem dJ8_putCharsAt_53 : decode cJ8_putCharsAt 53 = .ok (.ifCond .ne 17, 3) := dk_154 0 17 (dk_at dksJ8_putCharsAt_2 6 rfl rfl)
theorem dJ8_putCharsAt_56 : decode cJ8_putCharsAt 56 = .ok (.iload_n 1, 1) := dk_27 (dk_at dksJ8_putCharsAt_2 9 rfl rfl)
theorem dJ8_putCharsAt_57 : decode cJ8_putCharsAt 57 = .ok (.iload 6, 2) := dk_21 6 (dk_at dksJ8_putCharsAt_2 10 rfl rfl)
theorem dJ8_putCharsAt_59 : decode cJ8_putCharsAt 59 = .ok (.if_icmp .eq 11, 3) := dk_159 0 11 (dk_at dksJ8_putCharsAt_2 12 rfl rfl)
theorem dJ8_putCharsAt_62 : decode cJ8_putCharsAt 62 = .ok (.new 52, 3) := dk_187 0 52 (dk_at dksJ8_putCharsAt_2 15 rfl rfl)
theorem dJ8_putCharsAt_70 : decode cJ8_putCharsAt 70 = .ok (.iload 6, 2) := dk_21 6 (dk_at dksJ8_putCharsAt_3 0 rfl rfl)
theorem dJ8_putCharsAt_72 : decode cJ8_putCharsAt 72 = .ok (.ireturn, 1) := dk_172 (dk_at dksJ8_putCharsAt_3 2 rfl rfl)
abbrev cJ8_checkBoundsBeginEnd : ByteArray := prog_52_method_93_code
def dkwJ8_checkBoundsBeginEnd_0 : List UInt8 := [26, 27, 44, 184, 0, 48, 184, 0, 241, 177]
abbrev dktJ8_checkBoundsBeginEnd_0 : List UInt8 := dkwJ8_checkBoundsBeginEnd_0 ++ []
theorem dksJ8_checkBoundsBeginEnd_0 : cJ8_checkBoundsBeginEnd.data.toList.drop 0 = dktJ8_checkBoundsBeginEnd_0 := by decide +kernel
theorem dJ8_checkBoundsBeginEnd_0 : decode cJ8_checkBoundsBeginEnd 0 = .ok (.iload_n 0, 1) := dk_26 (dk_at dksJ8_checkBoundsBeginEnd_0 0 rfl rfl)
theorem dJ8_checkBoundsBeginEnd_1 : decode cJ8_checkBoundsBeginEnd 1 = .ok (.iload_n 1, 1) := dk_27 (dk_at dksJ8_checkBoundsBeginEnd_0 1 rfl rfl)
theorem dJ8_checkBoundsBeginEnd_2 : decode cJ8_checkBoundsBeginEnd 2 = .ok (.aload_n 2, 1) := dk_44 (dk_at dksJ8_checkBoundsBeginEnd_0 2 rfl rfl)
theorem dJ8_checkBoundsBeginEnd_3 : decode cJ8_checkBoundsBeginEnd 3 = .ok (.invokestatic 48, 3) := dk_184 0 48 (dk_at dksJ8_checkBoundsBeginEnd_0 3 rfl rfl)
theorem dJ8_checkBoundsBeginEnd_6 : decode cJ8_checkBoundsBeginEnd 6 = .ok (.invokestatic 241, 3) := dk_184 0 241 (dk_at dksJ8_checkBoundsBeginEnd_0 6 rfl rfl)
theorem dJ8_checkBoundsBeginEnd_9 : decode cJ8_checkBoundsBeginEnd 9 = .ok (.return_, 1) := dk_177 (dk_at dksJ8_checkBoundsBeginEnd_0 9 rfl rfl)
abbrev cJ8_length : ByteArray := prog_52_method_6_code
def dkwJ8_length_0 : List UInt8 := [42, 190, 4, 122, 172]
abbrev dktJ8_length_0 : List UInt8 := dkwJ8_length_0 ++ []
theorem dksJ8_length_0 : cJ8_length.data.toList.drop 0 = dktJ8_length_0 := by decide +kernel
theorem dJ8_length_0 : decode cJ8_length 0 = .ok (.aload_n 0, 1) := dk_42 (dk_at dksJ8_length_0 0 rfl rfl)
theorem dJ8_length_1 : decode cJ8_length 1 = .ok (.arraylength, 1) := dk_190 (dk_at dksJ8_length_0 1 rfl rfl)
theorem dJ8_length_2 : decode cJ8_length 2 = .ok (.iconst 1, 1) := dk_4 (dk_at dksJ8_length_0 2 rfl rfl)
theorem dJ8_length_3 : decode cJ8_length 3 = .ok (.ishr, 1) := dk_122 (dk_at dksJ8_length_0 3 rfl rfl)
theorem dJ8_length_4 : decode cJ8_length 4 = .ok (.ireturn, 1) := dk_172 (dk_at dksJ8_length_0 4 rfl rfl)
abbrev cJ8_putChar : ByteArray := prog_52_method_4_code
def dkwJ8_putChar_2 : List UInt8 := [178, 0, 63, 122, 145, 84, 177]
abbrev dktJ8_putChar_2 : List UInt8 := dkwJ8_putChar_2 ++ []
def dkwJ8_putChar_1 : List UInt8 := [183, 0, 56, 191, 27, 4, 120, 60, 42, 27, 132, 1, 1, 28, 178, 0, 59, 122, 145, 84, 42, 27, 28]
abbrev dktJ8_putChar_1 : List UInt8 := dkwJ8_putChar_1 ++ dktJ8_putChar_2
def dkwJ8_putChar_0 : List UInt8 := [178, 0, 44, 154, 0, 25, 27, 155, 0, 11, 27, 42, 184, 0, 48, 161, 0, 13, 187, 0, 52, 89, 18, 54]
abbrev dktJ8_putChar_0 : List UInt8 := dkwJ8_putChar_0 ++ dktJ8_putChar_1
theorem dksJ8_putChar_0 : cJ8_putChar.data.toList.drop 0 = dktJ8_putChar_0 := by decide +kernel
theorem dksJ8_putChar_1 : cJ8_putChar.data.toList.drop 24 = dktJ8_putChar_1 := dk_seg dksJ8_putChar_0 24 rfl rfl
theorem dksJ8_putChar_2 : cJ8_putChar.data.toList.drop 47 = dktJ8_putChar_2 := dk_seg dksJ8_putChar_1 23 rfl rfl
theorem dJ8_putChar_0 : decode cJ8_putChar 0 = .ok (.getstatic 44, 3) := dk_178 0 44 (dk_at dksJ8_putChar_0 0 rfl rfl)
theorem dJ8_putChar_3 : decode cJ8_putChar 3 = .ok (.ifCond .ne 25, 3) := dk_154 0 25 (dk_at dksJ8_putChar_0 3 rfl rfl)
theorem dJ8_putChar_6 : decode cJ8_putChar 6 = .ok (.iload_n 1, 1) := dk_27 (dk_at dksJ8_putChar_0 6 rfl rfl)
theorem dJ8_putChar_7 : decode cJ8_putChar 7 = .ok (.ifCond .lt 11, 3) := dk_155 0 11 (dk_at dksJ8_putChar_0 7 rfl rfl)
theorem dJ8_putChar_10 : decode cJ8_putChar 10 = .ok (.iload_n 1, 1) := dk_27 (dk_at dksJ8_putChar_0 10 rfl rfl)
theorem dJ8_putChar_11 : decode cJ8_putChar 11 = .ok (.aload_n 0, 1) := dk_42 (dk_at dksJ8_putChar_0 11 rfl rfl)
theorem dJ8_putChar_12 : decode cJ8_putChar 12 = .ok (.invokestatic 48, 3) := dk_184 0 48 (dk_at dksJ8_putChar_0 12 rfl rfl)
theorem dJ8_putChar_15 : decode cJ8_putChar 15 = .ok (.if_icmp .lt 13, 3) := dk_161 0 13 (dk_at dksJ8_putChar_0 15 rfl rfl)
theorem dJ8_putChar_18 : decode cJ8_putChar 18 = .ok (.new 52, 3) := dk_187 0 52 (dk_at dksJ8_putChar_0 18 rfl rfl)
theorem dJ8_putChar_28 : decode cJ8_putChar 28 = .ok (.iload_n 1, 1) := dk_27 (dk_at dksJ8_putChar_1 4 rfl rfl)
theorem dJ8_putChar_29 : decode cJ8_putChar 29 = .ok (.iconst 1, 1) := dk_4 (dk_at dksJ8_putChar_1 5 rfl rfl)
theorem dJ8_putChar_30 : decode cJ8_putChar 30 = .ok (.ishl, 1) := dk_120 (dk_at dksJ8_putChar_1 6 rfl rfl)
theorem dJ8_putChar_31 : decode cJ8_putChar 31 = .ok (.istore_n 1, 1) := dk_60 (dk_at dksJ8_putChar_1 7 rfl rfl)
theorem dJ8_putChar_32 : decode cJ8_putChar 32 = .ok (.aload_n 0, 1) := dk_42 (dk_at dksJ8_putChar_1 8 rfl rfl)
theorem dJ8_putChar_33 : decode cJ8_putChar 33 = .ok (.iload_n 1, 1) := dk_27 (dk_at dksJ8_putChar_1 9 rfl rfl)
theorem dJ8_putChar_34 : decode cJ8_putChar 34 = .ok (.iinc 1 1, 3) := dk_132 1 1 (dk_at dksJ8_putChar_1 10 rfl rfl)
theorem dJ8_putChar_37 : decode cJ8_putChar 37 = .ok (.iload_n 2, 1) := dk_28 (dk_at dksJ8_putChar_1 13 rfl rfl)
theorem dJ8_putChar_38 : decode cJ8_putChar 38 = .ok (.getstatic 59, 3) := dk_178 0 59 (dk_at dksJ8_putChar_1 14 rfl rfl)
theorem dJ8_putChar_41 : decode cJ8_putChar 41 = .ok (.ishr, 1) := dk_122 (dk_at dksJ8_putChar_1 17 rfl rfl)
theorem dJ8_putChar_42 : decode cJ8_putChar 42 = .ok (.i2b, 1) := dk_145 (dk_at dksJ8_putChar_1 18 rfl rfl)
theorem dJ8_putChar_43 : decode cJ8_putChar 43 = .ok (.bastore, 1) := dk_84 (dk_at dksJ8_putChar_1 19 rfl rfl)
theorem dJ8_putChar_44 : decode cJ8_putChar 44 = .ok (.aload_n 0, 1) := dk_42 (dk_at dksJ8_putChar_1 20 rfl rfl)
theorem dJ8_putChar_45 : decode cJ8_putChar 45 = .ok (.iload_n 1, 1) := dk_27 (dk_at dksJ8_putChar_1 21 rfl rfl)
theorem dJ8_putChar_46 : decode cJ8_putChar 46 = .ok (.iload_n 2, 1) := dk_28 (dk_at dksJ8_putChar_1 22 rfl rfl)
theorem dJ8_putChar_47 : decode cJ8_putChar 47 = .ok (.getstatic 63, 3) := dk_178 0 63 (dk_at dksJ8_putChar_2 0 rfl rfl)
theorem dJ8_putChar_50 : decode cJ8_putChar 50 = .ok (.ishr, 1) := dk_122 (dk_at dksJ8_putChar_2 3 rfl rfl)
theorem dJ8_putChar_51 : decode cJ8_putChar 51 = .ok (.i2b, 1) := dk_145 (dk_at dksJ8_putChar_2 4 rfl rfl)
theorem dJ8_putChar_52 : decode cJ8_putChar 52 = .ok (.bastore, 1) := dk_84 (dk_at dksJ8_putChar_2 5 rfl rfl)
theorem dJ8_putChar_53 : decode cJ8_putChar 53 = .ok (.return_, 1) := dk_177 (dk_at dksJ8_putChar_2 6 rfl rfl)
abbrev cJ8_inflate : ByteArray := prog_52_method_86_code
def dkwJ8_inflate_1 : List UInt8 := [132, 1, 1, 51, 17, 0, 255, 126, 184, 0, 111, 132, 5, 1, 167, 255, 228, 177]
abbrev dktJ8_inflate_1 : List UInt8 := dkwJ8_inflate_1 ++ []
def dkwJ8_inflate_0 : List UInt8 := [29, 21, 4, 44, 184, 0, 173, 3, 54, 5, 21, 5, 21, 4, 162, 0, 27, 44, 29, 132, 3, 1, 42, 27]
abbrev dktJ8_inflate_0 : List UInt8 := dkwJ8_inflate_0 ++ dktJ8_inflate_1
theorem dksJ8_inflate_0 : cJ8_inflate.data.toList.drop 0 = dktJ8_inflate_0 := by decide +kernel
theorem dksJ8_inflate_1 : cJ8_inflate.data.toList.drop 24 = dktJ8_inflate_1 := dk_seg dksJ8_inflate_0 24 rfl rfl
theorem dJ8_inflate_0 : decode cJ8_inflate 0 = .ok (.iload_n 3, 1) := dk_29 (dk_at dksJ8_inflate_0 0 rfl rfl)
theorem dJ8_inflate_1 : decode cJ8_inflate 1 = .ok (.iload 4, 2) := dk_21 4 (dk_at dksJ8_inflate_0 1 rfl rfl)
theorem dJ8_inflate_3 : decode cJ8_inflate 3 = .ok (.aload_n 2, 1) := dk_44 (dk_at dksJ8_inflate_0 3 rfl rfl)
theorem dJ8_inflate_4 : decode cJ8_inflate 4 = .ok (.invokestatic 173, 3) := dk_184 0 173 (dk_at dksJ8_inflate_0 4 rfl rfl)
theorem dJ8_inflate_7 : decode cJ8_inflate 7 = .ok (.iconst 0, 1) := dk_3 (dk_at dksJ8_inflate_0 7 rfl rfl)
theorem dJ8_inflate_8 : decode cJ8_inflate 8 = .ok (.istore 5, 2) := dk_54 5 (dk_at dksJ8_inflate_0 8 rfl rfl)
theorem dJ8_inflate_10 : decode cJ8_inflate 10 = .ok (.iload 5, 2) := dk_21 5 (dk_at dksJ8_inflate_0 10 rfl rfl)
theorem dJ8_inflate_12 : decode cJ8_inflate 12 = .ok (.iload 4, 2) := dk_21 4 (dk_at dksJ8_inflate_0 12 rfl rfl)
theorem dJ8_inflate_14 : decode cJ8_inflate 14 = .ok (.if_icmp .ge 27, 3) := dk_162 0 27 (dk_at dksJ8_inflate_0 14 rfl rfl)
theorem dJ8_inflate_17 : decode cJ8_inflate 17 = .ok (.aload_n 2, 1) := dk_44 (dk_at dksJ8_inflate_0 17 rfl rfl)
theorem dJ8_inflate_18 : decode cJ8_inflate 18 = .ok (.iload_n 3, 1) := dk_29 (dk_at dksJ8_inflate_0 18 rfl rfl)
theorem dJ8_inflate_19 : decode cJ8_inflate 19 = .ok (.iinc 3 1, 3) := dk_132 3 1 (dk_at dksJ8_inflate_0 19 rfl rfl)
theorem dJ8_inflate_22 : decode cJ8_inflate 22 = .ok (.aload_n 0, 1) := dk_42 (dk_at dksJ8_inflate_0 22 rfl rfl)
theorem dJ8_inflate_23 : decode cJ8_inflate 23 = .ok (.iload_n 1, 1) := dk_27 (dk_at dksJ8_inflate_0 23 rfl rfl)
theorem dJ8_inflate_24 : decode cJ8_inflate 24 = .ok (.iinc 1 1, 3) := dk_132 1 1 (dk_at dksJ8_inflate_1 0 rfl rfl)
theorem dJ8_inflate_27 : decode cJ8_inflate 27 = .ok (.baload, 1) := dk_51 (dk_at dksJ8_inflate_1 3 rfl rfl)
theorem dJ8_inflate_28 : decode cJ8_inflate 28 = .ok (.sipush 255, 3) := dk_17 0 255 (dk_at dksJ8_inflate_1 4 rfl rfl)
theorem dJ8_inflate_31 : decode cJ8_inflate 31 = .ok (.iand, 1) := dk_126 (dk_at dksJ8_inflate_1 7 rfl rfl)
theorem dJ8_inflate_32 : decode cJ8_inflate 32 = .ok (.invokestatic 111, 3) := dk_184 0 111 (dk_at dksJ8_inflate_1 8 rfl rfl)
theorem dJ8_inflate_35 : decode cJ8_inflate 35 = .ok (.iinc 5 1, 3) := dk_132 5 1 (dk_at dksJ8_inflate_1 11 rfl rfl)
theorem dJ8_inflate_38 : decode cJ8_inflate 38 = .ok (.goto (-28), 3) := dk_167 255 228 (dk_at dksJ8_inflate_1 14 rfl rfl)
theorem dJ8_inflate_41 : decode cJ8_inflate 41 = .ok (.return_, 1) := dk_177 (dk_at dksJ8_inflate_1 17 rfl rfl)
abbrev cJ8_checkBoundsOffCount : ByteArray := prog_52_method_94_code
def dkwJ8_checkBoundsOffCount_0 : List UInt8 := [26, 27, 44, 184, 0, 48, 184, 1, 163, 87, 177]
abbrev dktJ8_checkBoundsOffCount_0 : List UInt8 := dkwJ8_checkBoundsOffCount_0 ++ []
theorem dksJ8_checkBoundsOffCount_0 : cJ8_checkBoundsOffCount.data.toList.drop 0 = dktJ8_checkBoundsOffCount_0 := by decide +kernel
theorem dJ8_checkBoundsOffCount_0 : decode cJ8_checkBoundsOffCount 0 = .ok (.iload_n 0, 1) := dk_26 (dk_at dksJ8_checkBoundsOffCount_0 0 rfl rfl)
theorem dJ8_checkBoundsOffCount_1 : decode cJ8_checkBoundsOffCount 1 = .ok (.iload_n 1, 1) := dk_27 (dk_at dksJ8_checkBoundsOffCount_0 1 rfl rfl)
theorem dJ8_checkBoundsOffCount_2 : decode cJ8_checkBoundsOffCount 2 = .ok (.aload_n 2, 1) := dk_44 (dk_at dksJ8_checkBoundsOffCount_0 2 rfl rfl)
theorem dJ8_checkBoundsOffCount_3 : decode cJ8_checkBoundsOffCount 3 = .ok (.invokestatic 48, 3) := dk_184 0 48 (dk_at dksJ8_checkBoundsOffCount_0 3 rfl rfl)
theorem dJ8_checkBoundsOffCount_6 : decode cJ8_checkBoundsOffCount 6 = .ok (.invokestatic 419, 3) := dk_184 1 163 (dk_at dksJ8_checkBoundsOffCount_0 6 rfl rfl)
theorem dJ8_checkBoundsOffCount_9 : decode cJ8_checkBoundsOffCount 9 = .ok (.pop, 1) := dk_87 (dk_at dksJ8_checkBoundsOffCount_0 9 rfl rfl)
theorem dJ8_checkBoundsOffCount_10 : decode cJ8_checkBoundsOffCount 10 = .ok (.return_, 1) := dk_177 (dk_at dksJ8_checkBoundsOffCount_0 10 rfl rfl)
abbrev cJ8_compress : ByteArray := prog_52_method_17_code
def dkwJ8_compress_2 : List UInt8 := [25, 5, 3, 45, 3, 28, 184, 0, 123, 28, 159, 0, 6, 25, 5, 176, 45, 176]
abbrev dktJ8_compress_2 : List UInt8 := dkwJ8_compress_2 ++ []
def dkwJ8_compress_1 : List UInt8 := [27, 28, 96, 184, 0, 11, 184, 0, 126, 58, 5, 25, 5, 21, 4, 184, 0, 71, 17, 0, 255, 163, 0, 16]
abbrev dktJ8_compress_1 : List UInt8 := dkwJ8_compress_1 ++ dktJ8_compress_2
def dkwJ8_compress_0 : List UInt8 := [28, 188, 8, 78, 42, 27, 45, 3, 28, 184, 0, 123, 54, 4, 21, 4, 28, 159, 0, 47, 42, 27, 4, 120]
abbrev dktJ8_compress_0 : List UInt8 := dkwJ8_compress_0 ++ dktJ8_compress_1
theorem dksJ8_compress_0 : cJ8_compress.data.toList.drop 0 = dktJ8_compress_0 := by decide +kernel
theorem dksJ8_compress_1 : cJ8_compress.data.toList.drop 24 = dktJ8_compress_1 := dk_seg dksJ8_compress_0 24 rfl rfl
theorem dksJ8_compress_2 : cJ8_compress.data.toList.drop 48 = dktJ8_compress_2 := dk_seg dksJ8_compress_1 24 rfl rfl
theorem dJ8_compress_0 : decode cJ8_compress 0 = .ok (.iload_n 2, 1) := dk_28 (dk_at dksJ8_compress_0 0 rfl rfl)
theorem dJ8_compress_1 : decode cJ8_compress 1 = .ok (.newarray .byte, 2) := dk_188_8 (dk_at dksJ8_compress_0 1 rfl rfl)
theorem dJ8_compress_3 : decode cJ8_compress 3 = .ok (.astore_n 3, 1) := dk_78 (dk_at dksJ8_compress_0 3 rfl rfl)
theorem dJ8_compress_4 : decode cJ8_compress 4 = .ok (.aload_n 0, 1) := dk_42 (dk_at dksJ8_compress_0 4 rfl rfl)
theorem dJ8_compress_5 : decode cJ8_compress 5 = .ok (.iload_n 1, 1) := dk_27 (dk_at dksJ8_compress_0 5 rfl rfl)
theorem dJ8_compress_6 : decode cJ8_compress 6 = .ok (.aload_n 3, 1) := dk_45 (dk_at dksJ8_compress_0 6 rfl rfl)
theorem dJ8_compress_7 : decode cJ8_compress 7 = .ok (.iconst 0, 1) := dk_3 (dk_at dksJ8_compress_0 7 rfl rfl)
theorem dJ8_compress_8 : decode cJ8_compress 8 = .ok (.iload_n 2, 1) := dk_28 (dk_at dksJ8_compress_0 8 rfl rfl)
theorem dJ8_compress_9 : decode cJ8_compress 9 = .ok (.invokestatic 123, 3) := dk_184 0 123 (dk_at dksJ8_compress_0 9 rfl rfl)
theorem dJ8_compress_12 : decode cJ8_compress 12 = .ok (.istore 4, 2) := dk_54 4 (dk_at dksJ8_compress_0 12 rfl rfl)
theorem dJ8_compress_14 : decode cJ8_compress 14 = .ok (.iload 4, 2) := dk_21 4 (dk_at dksJ8_compress_0 14 rfl rfl)
theorem dJ8_compress_16 : decode cJ8_compress 16 = .ok (.iload_n 2, 1) := dk_28 (dk_at dksJ8_compress_0 16 rfl rfl)
theorem dJ8_compress_17 : decode cJ8_compress 17 = .ok (.if_icmp .eq 47, 3) := dk_159 0 47 (dk_at dksJ8_compress_0 17 rfl rfl)
theorem dJ8_compress_20 : decode cJ8_compress 20 = .ok (.aload_n 0, 1) := dk_42 (dk_at dksJ8_compress_0 20 rfl rfl)
theorem dJ8_compress_21 : decode cJ8_compress 21 = .ok (.iload_n 1, 1) := dk_27 (dk_at dksJ8_compress_0 21 rfl rfl)
theorem dJ8_compress_22 : decode cJ8_compress 22 = .ok (.iconst 1, 1) := dk_4 (dk_at dksJ8_compress_0 22 rfl rfl)
theorem dJ8_compress_23 : decode cJ8_compress 23 = .ok (.ishl, 1) := dk_120 (dk_at dksJ8_compress_0 23 rfl rfl)
theorem dJ8_compress_24 : decode cJ8_compress 24 = .ok (.iload_n 1, 1) := dk_27 (dk_at dksJ8_compress_1 0 rfl rfl)
theorem dJ8_compress_25 : decode cJ8_compress 25 = .ok (.iload_n 2, 1) := dk_28 (dk_at dksJ8_compress_1 1 rfl rfl)
theorem dJ8_compress_26 : decode cJ8_compress 26 = .ok (.iadd, 1) := dk_96 (dk_at dksJ8_compress_1 2 rfl rfl)
theorem dJ8_compress_27 : decode cJ8_compress 27 = .ok (.invokestatic 11, 3) := dk_184 0 11 (dk_at dksJ8_compress_1 3 rfl rfl)
theorem dJ8_compress_30 : decode cJ8_compress 30 = .ok (.invokestatic 126, 3) := dk_184 0 126 (dk_at dksJ8_compress_1 6 rfl rfl)
theorem dJ8_compress_33 : decode cJ8_compress 33 = .ok (.astore 5, 2) := dk_58 5 (dk_at dksJ8_compress_1 9 rfl rfl)
theorem dJ8_compress_35 : decode cJ8_compress 35 = .ok (.aload 5, 2) := dk_25 5 (dk_at dksJ8_compress_1 11 rfl rfl)
theorem dJ8_compress_37 : decode cJ8_compress 37 = .ok (.iload 4, 2) := dk_21 4 (dk_at dksJ8_compress_1 13 rfl rfl)
theorem dJ8_compress_39 : decode cJ8_compress 39 = .ok (.invokestatic 71, 3) := dk_184 0 71 (dk_at dksJ8_compress_1 15 rfl rfl)
theorem dJ8_compress_42 : decode cJ8_compress 42 = .ok (.sipush 255, 3) := dk_17 0 255 (dk_at dksJ8_compress_1 18 rfl rfl)
theorem dJ8_compress_45 : decode cJ8_compress 45 = .ok (.if_icmp .gt 16, 3) := dk_163 0 16 (dk_at dksJ8_compress_1 21 rfl rfl)
theorem dJ8_compress_48 : decode cJ8_compress 48 = .ok (.aload 5, 2) := dk_25 5 (dk_at dksJ8_compress_2 0 rfl rfl)
theorem dJ8_compress_50 : decode cJ8_compress 50 = .ok (.iconst 0, 1) := dk_3 (dk_at dksJ8_compress_2 2 rfl rfl)
theorem dJ8_compress_51 : decode cJ8_compress 51 = .ok (.aload_n 3, 1) := dk_45 (dk_at dksJ8_compress_2 3 rfl rfl)
theorem dJ8_compress_52 : decode cJ8_compress 52 = .ok (.iconst 0, 1) := dk_3 (dk_at dksJ8_compress_2 4 rfl rfl)
theorem dJ8_compress_53 : decode cJ8_compress 53 = .ok (.iload_n 2, 1) := dk_28 (dk_at dksJ8_compress_2 5 rfl rfl)
theorem dJ8_compress_54 : decode cJ8_compress 54 = .ok (.invokestatic 123, 3) := dk_184 0 123 (dk_at dksJ8_compress_2 6 rfl rfl)
theorem dJ8_compress_57 : decode cJ8_compress 57 = .ok (.iload_n 2, 1) := dk_28 (dk_at dksJ8_compress_2 9 rfl rfl)
theorem dJ8_compress_58 : decode cJ8_compress 58 = .ok (.if_icmp .eq 6, 3) := dk_159 0 6 (dk_at dksJ8_compress_2 10 rfl rfl)
theorem dJ8_compress_61 : decode cJ8_compress 61 = .ok (.aload 5, 2) := dk_25 5 (dk_at dksJ8_compress_2 13 rfl rfl)
theorem dJ8_compress_63 : decode cJ8_compress 63 = .ok (.areturn, 1) := dk_176 (dk_at dksJ8_compress_2 15 rfl rfl)
theorem dJ8_compress_64 : decode cJ8_compress 64 = .ok (.aload_n 3, 1) := dk_45 (dk_at dksJ8_compress_2 16 rfl rfl)
theorem dJ8_compress_65 : decode cJ8_compress 65 = .ok (.areturn, 1) := dk_176 (dk_at dksJ8_compress_2 17 rfl rfl)
abbrev cJ8_compress_2 : ByteArray := prog_52_method_22_code
def dkwJ8_compress_2_2 : List UInt8 := [132, 5, 1, 167, 255, 216, 21, 4, 172]
abbrev dktJ8_compress_2_2 : List UInt8 := dkwJ8_compress_2_2 ++ []
def dkwJ8_compress_2_1 : List UInt8 := [21, 6, 17, 0, 255, 164, 0, 6, 21, 5, 172, 44, 29, 21, 6, 145, 84, 132, 1, 1, 132, 3, 1]
abbrev dktJ8_compress_2_1 : List UInt8 := dkwJ8_compress_2_1 ++ dktJ8_compress_2_2
def dkwJ8_compress_2_0 : List UInt8 := [27, 21, 4, 42, 184, 0, 173, 3, 54, 5, 21, 5, 21, 4, 162, 0, 39, 42, 27, 184, 0, 71, 54, 6]
abbrev dktJ8_compress_2_0 : List UInt8 := dkwJ8_compress_2_0 ++ dktJ8_compress_2_1
theorem dksJ8_compress_2_0 : cJ8_compress_2.data.toList.drop 0 = dktJ8_compress_2_0 := by decide +kernel
theorem dksJ8_compress_2_1 : cJ8_compress_2.data.toList.drop 24 = dktJ8_compress_2_1 := dk_seg dksJ8_compress_2_0 24 rfl rfl
theorem dksJ8_compress_2_2 : cJ8_compress_2.data.toList.drop 47 = dktJ8_compress_2_2 := dk_seg dksJ8_compress_2_1 23 rfl rfl
theorem dJ8_compress_2_0 : decode cJ8_compress_2 0 = .ok (.iload_n 1, 1) := dk_27 (dk_at dksJ8_compress_2_0 0 rfl rfl)
theorem dJ8_compress_2_1 : decode cJ8_compress_2 1 = .ok (.iload 4, 2) := dk_21 4 (dk_at dksJ8_compress_2_0 1 rfl rfl)
theorem dJ8_compress_2_3 : decode cJ8_compress_2 3 = .ok (.aload_n 0, 1) := dk_42 (dk_at dksJ8_compress_2_0 3 rfl rfl)
theorem dJ8_compress_2_4 : decode cJ8_compress_2 4 = .ok (.invokestatic 173, 3) := dk_184 0 173 (dk_at dksJ8_compress_2_0 4 rfl rfl)
theorem dJ8_compress_2_7 : decode cJ8_compress_2 7 = .ok (.iconst 0, 1) := dk_3 (dk_at dksJ8_compress_2_0 7 rfl rfl)
theorem dJ8_compress_2_8 : decode cJ8_compress_2 8 = .ok (.istore 5, 2) := dk_54 5 (dk_at dksJ8_compress_2_0 8 rfl rfl)
theorem dJ8_compress_2_10 : decode cJ8_compress_2 10 = .ok (.iload 5, 2) := dk_21 5 (dk_at dksJ8_compress_2_0 10 rfl rfl)
theorem dJ8_compress_2_12 : decode cJ8_compress_2 12 = .ok (.iload 4, 2) := dk_21 4 (dk_at dksJ8_compress_2_0 12 rfl rfl)
theorem dJ8_compress_2_14 : decode cJ8_compress_2 14 = .ok (.if_icmp .ge 39, 3) := dk_162 0 39 (dk_at dksJ8_compress_2_0 14 rfl rfl)
theorem dJ8_compress_2_17 : decode cJ8_compress_2 17 = .ok (.aload_n 0, 1) := dk_42 (dk_at dksJ8_compress_2_0 17 rfl rfl)
theorem dJ8_compress_2_18 : decode cJ8_compress_2 18 = .ok (.iload_n 1, 1) := dk_27 (dk_at dksJ8_compress_2_0 18 rfl rfl)
theorem dJ8_compress_2_19 : decode cJ8_compress_2 19 = .ok (.invokestatic 71, 3) := dk_184 0 71 (dk_at dksJ8_compress_2_0 19 rfl rfl)
theorem dJ8_compress_2_22 : decode cJ8_compress_2 22 = .ok (.istore 6, 2) := dk_54 6 (dk_at dksJ8_compress_2_0 22 rfl rfl)
theorem dJ8_compress_2_24 : decode cJ8_compress_2 24 = .ok (.iload 6, 2) := dk_21 6 (dk_at dksJ8_compress_2_1 0 rfl rfl)
theorem dJ8_compress_2_26 : decode cJ8_compress_2 26 = .ok (.sipush 255, 3) := dk_17 0 255 (dk_at dksJ8_compress_2_1 2 rfl rfl)
theorem dJ8_compress_2_29 : decode cJ8_compress_2 29 = .ok (.if_icmp .le 6, 3) := dk_164 0 6 (dk_at dksJ8_compress_2_1 5 rfl rfl)
theorem dJ8_compress_2_32 : decode cJ8_compress_2 32 = .ok (.iload 5, 2) := dk_21 5 (dk_at dksJ8_compress_2_1 8 rfl rfl)
theorem dJ8_compress_2_34 : decode cJ8_compress_2 34 = .ok (.ireturn, 1) := dk_172 (dk_at dksJ8_compress_2_1 10 rfl rfl)
theorem dJ8_compress_2_35 : decode cJ8_compress_2 35 = .ok (.aload_n 2, 1) := dk_44 (dk_at dksJ8_compress_2_1 11 rfl rfl)
theorem dJ8_compress_2_36 : decode cJ8_compress_2 36 = .ok (.iload_n 3, 1) := dk_29 (dk_at dksJ8_compress_2_1 12 rfl rfl)
theorem dJ8_compress_2_37 : decode cJ8_compress_2 37 = .ok (.iload 6, 2) := dk_21 6 (dk_at dksJ8_compress_2_1 13 rfl rfl)
theorem dJ8_compress_2_39 : decode cJ8_compress_2 39 = .ok (.i2b, 1) := dk_145 (dk_at dksJ8_compress_2_1 15 rfl rfl)
theorem dJ8_compress_2_40 : decode cJ8_compress_2 40 = .ok (.bastore, 1) := dk_84 (dk_at dksJ8_compress_2_1 16 rfl rfl)
theorem dJ8_compress_2_41 : decode cJ8_compress_2 41 = .ok (.iinc 1 1, 3) := dk_132 1 1 (dk_at dksJ8_compress_2_1 17 rfl rfl)
theorem dJ8_compress_2_44 : decode cJ8_compress_2 44 = .ok (.iinc 3 1, 3) := dk_132 3 1 (dk_at dksJ8_compress_2_1 20 rfl rfl)
theorem dJ8_compress_2_47 : decode cJ8_compress_2 47 = .ok (.iinc 5 1, 3) := dk_132 5 1 (dk_at dksJ8_compress_2_2 0 rfl rfl)
theorem dJ8_compress_2_50 : decode cJ8_compress_2 50 = .ok (.goto (-40), 3) := dk_167 255 216 (dk_at dksJ8_compress_2_2 3 rfl rfl)
theorem dJ8_compress_2_53 : decode cJ8_compress_2 53 = .ok (.iload 4, 2) := dk_21 4 (dk_at dksJ8_compress_2_2 6 rfl rfl)
theorem dJ8_compress_2_55 : decode cJ8_compress_2 55 = .ok (.ireturn, 1) := dk_172 (dk_at dksJ8_compress_2_2 8 rfl rfl)
abbrev cJ8_getChar : ByteArray := prog_52_method_5_code
def dkwJ8_getChar_2 : List UInt8 := [51, 17, 0, 255, 126, 178, 0, 63, 120, 128, 146, 172]
abbrev dktJ8_getChar_2 : List UInt8 := dkwJ8_getChar_2 ++ []
def dkwJ8_getChar_1 : List UInt8 := [183, 0, 56, 191, 27, 4, 120, 60, 42, 27, 132, 1, 1, 51, 17, 0, 255, 126, 178, 0, 59, 120, 42, 27]
abbrev dktJ8_getChar_1 : List UInt8 := dkwJ8_getChar_1 ++ dktJ8_getChar_2
def dkwJ8_getChar_0 : List UInt8 := [178, 0, 44, 154, 0, 25, 27, 155, 0, 11, 27, 42, 184, 0, 48, 161, 0, 13, 187, 0, 52, 89, 18, 54]
abbrev dktJ8_getChar_0 : List UInt8 := dkwJ8_getChar_0 ++ dktJ8_getChar_1
theorem dksJ8_getChar_0 : cJ8_getChar.data.toList.drop 0 = dktJ8_getChar_0 := by decide +kernel
theorem dksJ8_getChar_1 : cJ8_getChar.data.toList.drop 24 = dktJ8_getChar_1 := dk_seg dksJ8_getChar_0 24 rfl rfl
theorem dksJ8_getChar_2 : cJ8_getChar.data.toList.drop 48 = dktJ8_getChar_2 := dk_seg dksJ8_getChar_1 24 rfl rfl
theorem dJ8_getChar_0 : decode cJ8_getChar 0 = .ok (.getstatic 44, 3) := dk_178 0 44 (dk_at dksJ8_getChar_0 0 rfl rfl)
theorem dJ8_getChar_3 : decode cJ8_getChar 3 = .ok (.ifCond .ne 25, 3) := dk_154 0 25 (dk_at dksJ8_getChar_0 3 rfl rfl)
theorem dJ8_getChar_6 : decode cJ8_getChar 6 = .ok (.iload_n 1, 1) := dk_27 (dk_at dksJ8_getChar_0 6 rfl rfl)
theorem dJ8_getChar_7 : decode cJ8_getChar 7 = .ok (.ifCond .lt 11, 3) := dk_155 0 11 (dk_at dksJ8_getChar_0 7 rfl rfl)
theorem dJ8_getChar_10 : decode cJ8_getChar 10 = .ok (.iload_n 1, 1) := dk_27 (dk_at dksJ8_getChar_0 10 rfl rfl)
theorem dJ8_getChar_11 : decode cJ8_getChar 11 = .ok (.aload_n 0, 1) := dk_42 (dk_at dksJ8_getChar_0 11 rfl rfl)
theorem dJ8_getChar_12 : decode cJ8_getChar 12 = .ok (.invokestatic 48, 3) := dk_184 0 48 (dk_at dksJ8_getChar_0 12 rfl rfl)
theorem dJ8_getChar_15 : decode cJ8_getChar 15 = .ok (.if_icmp .lt 13, 3) := dk_161 0 13 (dk_at dksJ8_getChar_0 15 rfl rfl)
theorem dJ8_getChar_18 : decode cJ8_getChar 18 = .ok (.new 52, 3) := dk_187 0 52 (dk_at dksJ8_getChar_0 18 rfl rfl)
theorem dJ8_getChar_28 : decode cJ8_getChar 28 = .ok (.iload_n 1, 1) := dk_27 (dk_at dksJ8_getChar_1 4 rfl rfl)
theorem dJ8_getChar_29 : decode cJ8_getChar 29 = .ok (.iconst 1, 1) := dk_4 (dk_at dksJ8_getChar_1 5 rfl rfl)
theorem dJ8_getChar_30 : decode cJ8_getChar 30 = .ok (.ishl, 1) := dk_120 (dk_at dksJ8_getChar_1 6 rfl rfl)
theorem dJ8_getChar_31 : decode cJ8_getChar 31 = .ok (.istore_n 1, 1) := dk_60 (dk_at dksJ8_getChar_1 7 rfl rfl)
theorem dJ8_getChar_32 : decode cJ8_getChar 32 = .ok (.aload_n 0, 1) := dk_42 (dk_at dksJ8_getChar_1 8 rfl rfl)
theorem dJ8_getChar_33 : decode cJ8_getChar 33 = .ok (.iload_n 1, 1) := dk_27 (dk_at dksJ8_getChar_1 9 rfl rfl)
theorem dJ8_getChar_34 : decode cJ8_getChar 34 = .ok (.iinc 1 1, 3) := dk_132 1 1 (dk_at dksJ8_getChar_1 10 rfl rfl)
theorem dJ8_getChar_37 : decode cJ8_getChar 37 = .ok (.baload, 1) := dk_51 (dk_at dksJ8_getChar_1 13 rfl rfl)
theorem dJ8_getChar_38 : decode cJ8_getChar 38 = .ok (.sipush 255, 3) := dk_17 0 255 (dk_at dksJ8_getChar_1 14 rfl rfl)
theorem dJ8_getChar_41 : decode cJ8_getChar 41 = .ok (.iand, 1) := dk_126 (dk_at dksJ8_getChar_1 17 rfl rfl)
theorem dJ8_getChar_42 : decode cJ8_getChar 42 = .ok (.getstatic 59, 3) := dk_178 0 59 (dk_at dksJ8_getChar_1 18 rfl rfl)
theorem dJ8_getChar_45 : decode cJ8_getChar 45 = .ok (.ishl, 1) := dk_120 (dk_at dksJ8_getChar_1 21 rfl rfl)
theorem dJ8_getChar_46 : decode cJ8_getChar 46 = .ok (.aload_n 0, 1) := dk_42 (dk_at dksJ8_getChar_1 22 rfl rfl)
theorem dJ8_getChar_47 : decode cJ8_getChar 47 = .ok (.iload_n 1, 1) := dk_27 (dk_at dksJ8_getChar_1 23 rfl rfl)
theorem dJ8_getChar_48 : decode cJ8_getChar 48 = .ok (.baload, 1) := dk_51 (dk_at dksJ8_getChar_2 0 rfl rfl)
theorem dJ8_getChar_49 : decode cJ8_getChar 49 = .ok (.sipush 255, 3) := dk_17 0 255 (dk_at dksJ8_getChar_2 1 rfl rfl)
theorem dJ8_getChar_52 : decode cJ8_getChar 52 = .ok (.iand, 1) := dk_126 (dk_at dksJ8_getChar_2 4 rfl rfl)
theorem dJ8_getChar_53 : decode cJ8_getChar 53 = .ok (.getstatic 63, 3) := dk_178 0 63 (dk_at dksJ8_getChar_2 5 rfl rfl)
theorem dJ8_getChar_56 : decode cJ8_getChar 56 = .ok (.ishl, 1) := dk_120 (dk_at dksJ8_getChar_2 8 rfl rfl)
theorem dJ8_getChar_57 : decode cJ8_getChar 57 = .ok (.ior, 1) := dk_128 (dk_at dksJ8_getChar_2 9 rfl rfl)
theorem dJ8_getChar_58 : decode cJ8_getChar 58 = .ok (.i2c, 1) := dk_146 (dk_at dksJ8_getChar_2 10 rfl rfl)
theorem dJ8_getChar_59 : decode cJ8_getChar 59 = .ok (.ireturn, 1) := dk_172 (dk_at dksJ8_getChar_2 11 rfl rfl)
abbrev cJ8_coderFromArrayLen : ByteArray := prog_52_method_15_code
def dkwJ8_coderFromArrayLen_0 : List UInt8 := [27, 42, 190, 100, 16, 31, 124, 145, 172]
abbrev dktJ8_coderFromArrayLen_0 : List UInt8 := dkwJ8_coderFromArrayLen_0 ++ []
theorem dksJ8_coderFromArrayLen_0 : cJ8_coderFromArrayLen.data.toList.drop 0 = dktJ8_coderFromArrayLen_0 := by decide +kernel
theorem dJ8_coderFromArrayLen_0 : decode cJ8_coderFromArrayLen 0 = .ok (.iload_n 1, 1) := dk_27 (dk_at dksJ8_coderFromArrayLen_0 0 rfl rfl)
theorem dJ8_coderFromArrayLen_1 : decode cJ8_coderFromArrayLen 1 = .ok (.aload_n 0, 1) := dk_42 (dk_at dksJ8_coderFromArrayLen_0 1 rfl rfl)
theorem dJ8_coderFromArrayLen_2 : decode cJ8_coderFromArrayLen 2 = .ok (.arraylength, 1) := dk_190 (dk_at dksJ8_coderFromArrayLen_0 2 rfl rfl)
theorem dJ8_coderFromArrayLen_3 : decode cJ8_coderFromArrayLen 3 = .ok (.isub, 1) := dk_100 (dk_at dksJ8_coderFromArrayLen_0 3 rfl rfl)
theorem dJ8_coderFromArrayLen_4 : decode cJ8_coderFromArrayLen 4 = .ok (.bipush 31, 2) := dk_16 31 (dk_at dksJ8_coderFromArrayLen_0 4 rfl rfl)
theorem dJ8_coderFromArrayLen_6 : decode cJ8_coderFromArrayLen 6 = .ok (.iushr, 1) := dk_124 (dk_at dksJ8_coderFromArrayLen_0 6 rfl rfl)
theorem dJ8_coderFromArrayLen_7 : decode cJ8_coderFromArrayLen 7 = .ok (.i2b, 1) := dk_145 (dk_at dksJ8_coderFromArrayLen_0 7 rfl rfl)
theorem dJ8_coderFromArrayLen_8 : decode cJ8_coderFromArrayLen 8 = .ok (.ireturn, 1) := dk_172 (dk_at dksJ8_coderFromArrayLen_0 8 rfl rfl)
abbrev cJ8_hashCode : ByteArray := prog_52_method_39_code
def dkwJ8_hashCode_2 : List UInt8 := [3, 167, 0, 22, 42, 3, 184, 0, 71, 167, 0, 14, 42, 3, 42, 190, 4, 122, 3, 8, 184, 0, 220, 172]
abbrev dktJ8_hashCode_2 : List UInt8 := dkwJ8_hashCode_2 ++ []
def dkwJ8_hashCode_1 : List UInt8 := [171, 0, 0, 0, 0, 38, 0, 0, 0, 2, 0, 0, 0, 0, 0, 0, 0, 26, 0, 0, 0, 2, 0, 0, 0, 30]
abbrev dktJ8_hashCode_1 : List UInt8 := dkwJ8_hashCode_1 ++ dktJ8_hashCode_2
def dkwJ8_hashCode_0 : List UInt8 := [42, 190]
abbrev dktJ8_hashCode_0 : List UInt8 := dkwJ8_hashCode_0 ++ dktJ8_hashCode_1
theorem dksJ8_hashCode_0 : cJ8_hashCode.data.toList.drop 0 = dktJ8_hashCode_0 := by decide +kernel
theorem dksJ8_hashCode_1 : cJ8_hashCode.data.toList.drop 2 = dktJ8_hashCode_1 := dk_seg dksJ8_hashCode_0 2 rfl rfl
theorem dksJ8_hashCode_2 : cJ8_hashCode.data.toList.drop 28 = dktJ8_hashCode_2 := dk_seg dksJ8_hashCode_1 26 rfl rfl
theorem dJ8_hashCode_0 : decode cJ8_hashCode 0 = .ok (.aload_n 0, 1) := dk_42 (dk_at dksJ8_hashCode_0 0 rfl rfl)
theorem dJ8_hashCode_1 : decode cJ8_hashCode 1 = .ok (.arraylength, 1) := dk_190 (dk_at dksJ8_hashCode_0 1 rfl rfl)
theorem dJ8_hashCode_2 : decode cJ8_hashCode 2 = .ok (.lookupswitch 38 #[(0, 26), (2, 30)], 26) := by decide +kernel
theorem dJ8_hashCode_28 : decode cJ8_hashCode 28 = .ok (.iconst 0, 1) := dk_3 (dk_at dksJ8_hashCode_2 0 rfl rfl)
theorem dJ8_hashCode_29 : decode cJ8_hashCode 29 = .ok (.goto 22, 3) := dk_167 0 22 (dk_at dksJ8_hashCode_2 1 rfl rfl)
theorem dJ8_hashCode_32 : decode cJ8_hashCode 32 = .ok (.aload_n 0, 1) := dk_42 (dk_at dksJ8_hashCode_2 4 rfl rfl)
theorem dJ8_hashCode_33 : decode cJ8_hashCode 33 = .ok (.iconst 0, 1) := dk_3 (dk_at dksJ8_hashCode_2 5 rfl rfl)
theorem dJ8_hashCode_34 : decode cJ8_hashCode 34 = .ok (.invokestatic 71, 3) := dk_184 0 71 (dk_at dksJ8_hashCode_2 6 rfl rfl)
theorem dJ8_hashCode_37 : decode cJ8_hashCode 37 = .ok (.goto 14, 3) := dk_167 0 14 (dk_at dksJ8_hashCode_2 9 rfl rfl)
theorem dJ8_hashCode_40 : decode cJ8_hashCode 40 = .ok (.aload_n 0, 1) := dk_42 (dk_at dksJ8_hashCode_2 12 rfl rfl)
theorem dJ8_hashCode_41 : decode cJ8_hashCode 41 = .ok (.iconst 0, 1) := dk_3 (dk_at dksJ8_hashCode_2 13 rfl rfl)
theorem dJ8_hashCode_42 : decode cJ8_hashCode 42 = .ok (.aload_n 0, 1) := dk_42 (dk_at dksJ8_hashCode_2 14 rfl rfl)
theorem dJ8_hashCode_43 : decode cJ8_hashCode 43 = .ok (.arraylength, 1) := dk_190 (dk_at dksJ8_hashCode_2 15 rfl rfl)
theorem dJ8_hashCode_44 : decode cJ8_hashCode 44 = .ok (.iconst 1, 1) := dk_4 (dk_at dksJ8_hashCode_2 16 rfl rfl)
theorem dJ8_hashCode_45 : decode cJ8_hashCode 45 = .ok (.ishr, 1) := dk_122 (dk_at dksJ8_hashCode_2 17 rfl rfl)
theorem dJ8_hashCode_46 : decode cJ8_hashCode 46 = .ok (.iconst 0, 1) := dk_3 (dk_at dksJ8_hashCode_2 18 rfl rfl)
theorem dJ8_hashCode_47 : decode cJ8_hashCode 47 = .ok (.iconst 5, 1) := dk_8 (dk_at dksJ8_hashCode_2 19 rfl rfl)
theorem dJ8_hashCode_48 : decode cJ8_hashCode 48 = .ok (.invokestatic 220, 3) := dk_184 0 220 (dk_at dksJ8_hashCode_2 20 rfl rfl)
theorem dJ8_hashCode_51 : decode cJ8_hashCode 51 = .ok (.ireturn, 1) := dk_172 (dk_at dksJ8_hashCode_2 23 rfl rfl)
abbrev cJ8_putCharSB : ByteArray := prog_52_method_71_code
def dkwJ8_putCharSB_0 : List UInt8 := [27, 42, 184, 0, 67, 42, 27, 28, 184, 0, 111, 177]
abbrev dktJ8_putCharSB_0 : List UInt8 := dkwJ8_putCharSB_0 ++ []
theorem dksJ8_putCharSB_0 : cJ8_putCharSB.data.toList.drop 0 = dktJ8_putCharSB_0 := by decide +kernel
theorem dJ8_putCharSB_0 : decode cJ8_putCharSB 0 = .ok (.iload_n 1, 1) := dk_27 (dk_at dksJ8_putCharSB_0 0 rfl rfl)
theorem dJ8_putCharSB_1 : decode cJ8_putCharSB 1 = .ok (.aload_n 0, 1) := dk_42 (dk_at dksJ8_putCharSB_0 1 rfl rfl)
theorem dJ8_putCharSB_2 : decode cJ8_putCharSB 2 = .ok (.invokestatic 67, 3) := dk_184 0 67 (dk_at dksJ8_putCharSB_0 2 rfl rfl)
theorem dJ8_putCharSB_5 : decode cJ8_putCharSB 5 = .ok (.aload_n 0, 1) := dk_42 (dk_at dksJ8_putCharSB_0 5 rfl rfl)
theorem dJ8_putCharSB_6 : decode cJ8_putCharSB 6 = .ok (.iload_n 1, 1) := dk_27 (dk_at dksJ8_putCharSB_0 6 rfl rfl)
theorem dJ8_putCharSB_7 : decode cJ8_putCharSB 7 = .ok (.iload_n 2, 1) := dk_28 (dk_at dksJ8_putCharSB_0 7 rfl rfl)
theorem dJ8_putCharSB_8 : decode cJ8_putCharSB 8 = .ok (.invokestatic 111, 3) := dk_184 0 111 (dk_at dksJ8_putCharSB_0 8 rfl rfl)
theorem dJ8_putCharSB_11 : decode cJ8_putCharSB 11 = .ok (.return_, 1) := dk_177 (dk_at dksJ8_putCharSB_0 11 rfl rfl)
abbrev cJ8_checkIndex : ByteArray := prog_52_method_91_code
def dkwJ8_checkIndex_0 : List UInt8 := [26, 43, 184, 0, 48, 184, 1, 158, 177]
abbrev dktJ8_checkIndex_0 : List UInt8 := dkwJ8_checkIndex_0 ++ []
theorem dksJ8_checkIndex_0 : cJ8_checkIndex.data.toList.drop 0 = dktJ8_checkIndex_0 := by decide +kernel
theorem dJ8_checkIndex_0 : decode cJ8_checkIndex 0 = .ok (.iload_n 0, 1) := dk_26 (dk_at dksJ8_checkIndex_0 0 rfl rfl)
theorem dJ8_checkIndex_1 : decode cJ8_checkIndex 1 = .ok (.aload_n 1, 1) := dk_43 (dk_at dksJ8_checkIndex_0 1 rfl rfl)
theorem dJ8_checkIndex_2 : decode cJ8_checkIndex 2 = .ok (.invokestatic 48, 3) := dk_184 0 48 (dk_at dksJ8_checkIndex_0 2 rfl rfl)
theorem dJ8_checkIndex_5 : decode cJ8_checkIndex 5 = .ok (.invokestatic 414, 3) := dk_184 1 158 (dk_at dksJ8_checkIndex_0 5 rfl rfl)
theorem dJ8_checkIndex_8 : decode cJ8_checkIndex 8 = .ok (.return_, 1) := dk_177 (dk_at dksJ8_checkIndex_0 8 rfl rfl)
abbrev cJ8_fillNull : ByteArray := prog_52_method_70_code
def dkwJ8_fillNull_0 : List UInt8 := [42, 27, 4, 120, 28, 4, 120, 3, 184, 1, 124, 177]
abbrev dktJ8_fillNull_0 : List UInt8 := dkwJ8_fillNull_0 ++ []
theorem dksJ8_fillNull_0 : cJ8_fillNull.data.toList.drop 0 = dktJ8_fillNull_0 := by decide +kernel
theorem dJ8_fillNull_0 : decode cJ8_fillNull 0 = .ok (.aload_n 0, 1) := dk_42 (dk_at dksJ8_fillNull_0 0 rfl rfl)
theorem dJ8_fillNull_1 : decode cJ8_fillNull 1 = .ok (.iload_n 1, 1) := dk_27 (dk_at dksJ8_fillNull_0 1 rfl rfl)
theorem dJ8_fillNull_2 : decode cJ8_fillNull 2 = .ok (.iconst 1, 1) := dk_4 (dk_at dksJ8_fillNull_0 2 rfl rfl)
theorem dJ8_fillNull_3 : decode cJ8_fillNull 3 = .ok (.ishl, 1) := dk_120 (dk_at dksJ8_fillNull_0 3 rfl rfl)
theorem dJ8_fillNull_4 : decode cJ8_fillNull 4 = .ok (.iload_n 2, 1) := dk_28 (dk_at dksJ8_fillNull_0 4 rfl rfl)
theorem dJ8_fillNull_5 : decode cJ8_fillNull 5 = .ok (.iconst 1, 1) := dk_4 (dk_at dksJ8_fillNull_0 5 rfl rfl)
theorem dJ8_fillNull_6 : decode cJ8_fillNull 6 = .ok (.ishl, 1) := dk_120 (dk_at dksJ8_fillNull_0 6 rfl rfl)
theorem dJ8_fillNull_7 : decode cJ8_fillNull 7 = .ok (.iconst 0, 1) := dk_3 (dk_at dksJ8_fillNull_0 7 rfl rfl)
theorem dJ8_fillNull_8 : decode cJ8_fillNull 8 = .ok (.invokestatic 380, 3) := dk_184 1 124 (dk_at dksJ8_fillNull_0 8 rfl rfl)
theorem dJ8_fillNull_11 : decode cJ8_fillNull 11 = .ok (.return_, 1) := dk_177 (dk_at dksJ8_fillNull_0 11 rfl rfl)
abbrev cJ8_charAt : ByteArray := prog_52_method_83_code
def dkwJ8_charAt_0 : List UInt8 := [27, 42, 184, 0, 67, 42, 27, 184, 0, 71, 172]
abbrev dktJ8_charAt_0 : List UInt8 := dkwJ8_charAt_0 ++ []
theorem dksJ8_charAt_0 : cJ8_charAt.data.toList.drop 0 = dktJ8_charAt_0 := by decide +kernel
theorem dJ8_charAt_0 : decode cJ8_charAt 0 = .ok (.iload_n 1, 1) := dk_27 (dk_at dksJ8_charAt_0 0 rfl rfl)
theorem dJ8_charAt_1 : decode cJ8_charAt 1 = .ok (.aload_n 0, 1) := dk_42 (dk_at dksJ8_charAt_0 1 rfl rfl)
theorem dJ8_charAt_2 : decode cJ8_charAt 2 = .ok (.invokestatic 67, 3) := dk_184 0 67 (dk_at dksJ8_charAt_0 2 rfl rfl)
theorem dJ8_charAt_5 : decode cJ8_charAt 5 = .ok (.aload_n 0, 1) := dk_42 (dk_at dksJ8_charAt_0 5 rfl rfl)
theorem dJ8_charAt_6 : decode cJ8_charAt 6 = .ok (.iload_n 1, 1) := dk_27 (dk_at dksJ8_charAt_0 6 rfl rfl)
theorem dJ8_charAt_7 : decode cJ8_charAt 7 = .ok (.invokestatic 71, 3) := dk_184 0 71 (dk_at dksJ8_charAt_0 7 rfl rfl)
theorem dJ8_charAt_10 : decode cJ8_charAt 10 = .ok (.ireturn, 1) := dk_172 (dk_at dksJ8_charAt_0 10 rfl rfl)
abbrev cJ8_indexOf : ByteArray := prog_52_method_41_code
def dkwJ8_indexOf_1 : List UInt8 := [184, 0, 48, 3, 184, 0, 235, 172]
abbrev dktJ8_indexOf_1 : List UInt8 := dkwJ8_indexOf_1 ++ []
def dkwJ8_indexOf_0 : List UInt8 := [43, 190, 154, 0, 5, 3, 172, 42, 190, 43, 190, 162, 0, 5, 2, 172, 42, 42, 184, 0, 48, 43, 43]
abbrev dktJ8_indexOf_0 : List UInt8 := dkwJ8_indexOf_0 ++ dktJ8_indexOf_1
theorem dksJ8_indexOf_0 : cJ8_indexOf.data.toList.drop 0 = dktJ8_indexOf_0 := by decide +kernel
theorem dksJ8_indexOf_1 : cJ8_indexOf.data.toList.drop 23 = dktJ8_indexOf_1 := dk_seg dksJ8_indexOf_0 23 rfl rfl
theorem dJ8_indexOf_0 : decode cJ8_indexOf 0 = .ok (.aload_n 1, 1) := dk_43 (dk_at dksJ8_indexOf_0 0 rfl rfl)
theorem dJ8_indexOf_1 : decode cJ8_indexOf 1 = .ok (.arraylength, 1) := dk_190 (dk_at dksJ8_indexOf_0 1 rfl rfl)
theorem dJ8_indexOf_2 : decode cJ8_indexOf 2 = .ok (.ifCond .ne 5, 3) := dk_154 0 5 (dk_at dksJ8_indexOf_0 2 rfl rfl)
theorem dJ8_indexOf_5 : decode cJ8_indexOf 5 = .ok (.iconst 0, 1) := dk_3 (dk_at dksJ8_indexOf_0 5 rfl rfl)
theorem dJ8_indexOf_6 : decode cJ8_indexOf 6 = .ok (.ireturn, 1) := dk_172 (dk_at dksJ8_indexOf_0 6 rfl rfl)
theorem dJ8_indexOf_7 : decode cJ8_indexOf 7 = .ok (.aload_n 0, 1) := dk_42 (dk_at dksJ8_indexOf_0 7 rfl rfl)
theorem dJ8_indexOf_8 : decode cJ8_indexOf 8 = .ok (.arraylength, 1) := dk_190 (dk_at dksJ8_indexOf_0 8 rfl rfl)
theorem dJ8_indexOf_9 : decode cJ8_indexOf 9 = .ok (.aload_n 1, 1) := dk_43 (dk_at dksJ8_indexOf_0 9 rfl rfl)
theorem dJ8_indexOf_10 : decode cJ8_indexOf 10 = .ok (.arraylength, 1) := dk_190 (dk_at dksJ8_indexOf_0 10 rfl rfl)
theorem dJ8_indexOf_11 : decode cJ8_indexOf 11 = .ok (.if_icmp .ge 5, 3) := dk_162 0 5 (dk_at dksJ8_indexOf_0 11 rfl rfl)
theorem dJ8_indexOf_14 : decode cJ8_indexOf 14 = .ok (.iconst (-1), 1) := dk_2 (dk_at dksJ8_indexOf_0 14 rfl rfl)
theorem dJ8_indexOf_15 : decode cJ8_indexOf 15 = .ok (.ireturn, 1) := dk_172 (dk_at dksJ8_indexOf_0 15 rfl rfl)
theorem dJ8_indexOf_16 : decode cJ8_indexOf 16 = .ok (.aload_n 0, 1) := dk_42 (dk_at dksJ8_indexOf_0 16 rfl rfl)
theorem dJ8_indexOf_17 : decode cJ8_indexOf 17 = .ok (.aload_n 0, 1) := dk_42 (dk_at dksJ8_indexOf_0 17 rfl rfl)
theorem dJ8_indexOf_18 : decode cJ8_indexOf 18 = .ok (.invokestatic 48, 3) := dk_184 0 48 (dk_at dksJ8_indexOf_0 18 rfl rfl)
theorem dJ8_indexOf_21 : decode cJ8_indexOf 21 = .ok (.aload_n 1, 1) := dk_43 (dk_at dksJ8_indexOf_0 21 rfl rfl)
theorem dJ8_indexOf_22 : decode cJ8_indexOf 22 = .ok (.aload_n 1, 1) := dk_43 (dk_at dksJ8_indexOf_0 22 rfl rfl)
theorem dJ8_indexOf_23 : decode cJ8_indexOf 23 = .ok (.invokestatic 48, 3) := dk_184 0 48 (dk_at dksJ8_indexOf_1 0 rfl rfl)
theorem dJ8_indexOf_26 : decode cJ8_indexOf 26 = .ok (.iconst 0, 1) := dk_3 (dk_at dksJ8_indexOf_1 3 rfl rfl)
theorem dJ8_indexOf_27 : decode cJ8_indexOf 27 = .ok (.invokestatic 235, 3) := dk_184 0 235 (dk_at dksJ8_indexOf_1 4 rfl rfl)
theorem dJ8_indexOf_30 : decode cJ8_indexOf 30 = .ok (.ireturn, 1) := dk_172 (dk_at dksJ8_indexOf_1 7 rfl rfl)
abbrev cJ8_indexOfUnsafe : ByteArray := prog_52_method_43_code
def dkwJ8_indexOfUnsafe_9 : List UInt8 := [167, 255, 146, 2, 172]
abbrev dktJ8_indexOfUnsafe_9 : List UInt8 := dkwJ8_indexOfUnsafe_9 ++ []
def dkwJ8_indexOfUnsafe_8 : List UInt8 := [132, 8, 1, 132, 10, 1, 167, 255, 228, 21, 8, 21, 9, 160, 0, 6, 21, 7, 172, 132, 7, 1]
abbrev dktJ8_indexOfUnsafe_8 : List UInt8 := dkwJ8_indexOfUnsafe_8 ++ dktJ8_indexOfUnsafe_9
def dkwJ8_indexOfUnsafe_7 : List UInt8 := [21, 8, 21, 9, 162, 0, 27, 42, 21, 8, 184, 0, 71, 44, 21, 10, 184, 0, 71, 160, 0, 12]
abbrev dktJ8_indexOfUnsafe_7 : List UInt8 := dkwJ8_indexOfUnsafe_7 ++ dktJ8_indexOfUnsafe_8
def dkwJ8_indexOfUnsafe_6 : List UInt8 := [21, 7, 21, 6, 163, 0, 61, 21, 7, 4, 96, 54, 8, 21, 8, 29, 96, 4, 100, 54, 9, 4, 54, 10]
abbrev dktJ8_indexOfUnsafe_6 : List UInt8 := dkwJ8_indexOfUnsafe_6 ++ dktJ8_indexOfUnsafe_7
def dkwJ8_indexOfUnsafe_5 : List UInt8 := [132, 7, 1, 21, 7, 21, 6, 163, 0, 17, 42, 21, 7, 184, 0, 71, 21, 5, 159, 0, 6, 167, 255, 235]
abbrev dktJ8_indexOfUnsafe_5 : List UInt8 := dkwJ8_indexOfUnsafe_5 ++ dktJ8_indexOfUnsafe_6
def dkwJ8_indexOfUnsafe_4 : List UInt8 := [21, 4, 54, 7, 21, 7, 21, 6, 163, 0, 109, 42, 21, 7, 184, 0, 71, 21, 5, 159, 0, 27]
abbrev dktJ8_indexOfUnsafe_4 : List UInt8 := dkwJ8_indexOfUnsafe_4 ++ dktJ8_indexOfUnsafe_5
def dkwJ8_indexOfUnsafe_3 : List UInt8 := [162, 0, 11, 187, 0, 52, 89, 183, 0, 66, 191, 44, 3, 184, 0, 71, 54, 5, 27, 29, 100, 54, 6]
abbrev dktJ8_indexOfUnsafe_3 : List UInt8 := dkwJ8_indexOfUnsafe_3 ++ dktJ8_indexOfUnsafe_4
def dkwJ8_indexOfUnsafe_2 : List UInt8 := [184, 0, 48, 164, 0, 11, 187, 0, 52, 89, 183, 0, 66, 191, 178, 0, 44, 154, 0, 16, 27, 29]
abbrev dktJ8_indexOfUnsafe_2 : List UInt8 := dkwJ8_indexOfUnsafe_2 ++ dktJ8_indexOfUnsafe_3
def dkwJ8_indexOfUnsafe_1 : List UInt8 := [154, 0, 15, 29, 157, 0, 11, 187, 0, 52, 89, 183, 0, 66, 191, 178, 0, 44, 154, 0, 19, 29, 44]
abbrev dktJ8_indexOfUnsafe_1 : List UInt8 := dkwJ8_indexOfUnsafe_1 ++ dktJ8_indexOfUnsafe_2
def dkwJ8_indexOfUnsafe_0 : List UInt8 := [178, 0, 44, 154, 0, 16, 21, 4, 156, 0, 11, 187, 0, 52, 89, 183, 0, 66, 191, 178, 0, 44]
abbrev dktJ8_indexOfUnsafe_0 : List UInt8 := dkwJ8_indexOfUnsafe_0 ++ dktJ8_indexOfUnsafe_1
theorem dksJ8_indexOfUnsafe_0 : cJ8_indexOfUnsafe.data.toList.drop 0 = dktJ8_indexOfUnsafe_0 := by decide +kernel
theorem dksJ8_indexOfUnsafe_1 : cJ8_indexOfUnsafe.data.toList.drop 22 = dktJ8_indexOfUnsafe_1 := dk_seg dksJ8_indexOfUnsafe_0 22 rfl rfl
theorem dksJ8_indexOfUnsafe_2 : cJ8_indexOfUnsafe.data.toList.drop 45 = dktJ8_indexOfUnsafe_2 := dk_seg dksJ8_indexOfUnsafe_1 23 rfl rfl
theorem dksJ8_indexOfUnsafe_3 : cJ8_indexOfUnsafe.data.toList.drop 67 = dktJ8_indexOfUnsafe_3 := dk_seg dksJ8_indexOfUnsafe_2 22 rfl rfl
theorem dksJ8_indexOfUnsafe_4 : cJ8_indexOfUnsafe.data.toList.drop 90 = dktJ8_indexOfUnsafe_4 := dk_seg dksJ8_indexOfUnsafe_3 23 rfl rfl
theorem dksJ8_indexOfUnsafe_5 : cJ8_indexOfUnsafe.data.toList.drop 112 = dktJ8_indexOfUnsafe_5 := dk_seg dksJ8_indexOfUnsafe_4 22 rfl rfl
theorem dksJ8_indexOfUnsafe_6 : cJ8_indexOfUnsafe.data.toList.drop 136 = dktJ8_indexOfUnsafe_6 := dk_seg dksJ8_indexOfUnsafe_5 24 rfl rfl
theorem dksJ8_indexOfUnsafe_7 : cJ8_indexOfUnsafe.data.toList.drop 160 = dktJ8_indexOfUnsafe_7 := dk_seg dksJ8_indexOfUnsafe_6 24 rfl rfl
theorem dksJ8_indexOfUnsafe_8 : cJ8_indexOfUnsafe.data.toList.drop 182 = dktJ8_indexOfUnsafe_8 := dk_seg dksJ8_indexOfUnsafe_7 22 rfl rfl
theorem dksJ8_indexOfUnsafe_9 : cJ8_indexOfUnsafe.data.toList.drop 204 = dktJ8_indexOfUnsafe_9 := dk_seg dksJ8_indexOfUnsafe_8 22 rfl rfl
theorem dJ8_indexOfUnsafe_0 : decode cJ8_indexOfUnsafe 0 = .ok (.getstatic 44, 3) := dk_178 0 44 (dk_at dksJ8_indexOfUnsafe_0 0 rfl rfl)
theorem dJ8_indexOfUnsafe_3 : decode cJ8_indexOfUnsafe 3 = .ok (.ifCond .ne 16, 3) := dk_154 0 16 (dk_at dksJ8_indexOfUnsafe_0 3 rfl rfl)
theorem dJ8_indexOfUnsafe_6 : decode cJ8_indexOfUnsafe 6 = .ok (.iload 4, 2) := dk_21 4 (dk_at dksJ8_indexOfUnsafe_0 6 rfl rfl)
theorem dJ8_indexOfUnsafe_8 : decode cJ8_indexOfUnsafe 8 = .ok (.ifCond .ge 11, 3) := dk_156 0 11 (dk_at dksJ8_indexOfUnsafe_0 8 rfl rfl)
theorem dJ8_indexOfUnsafe_11 : decode cJ8_indexOfUnsafe 11 = .ok (.new 52, 3) := dk_187 0 52 (dk_at dksJ8_indexOfUnsafe_0 11 rfl rfl)
theorem dJ8_indexOfUnsafe_19 : decode cJ8_indexOfUnsafe 19 = .ok (.getstatic 44, 3) := dk_178 0 44 (dk_at dksJ8_indexOfUnsafe_0 19 rfl rfl)
theorem dJ8_indexOfUnsafe_22 : decode cJ8_indexOfUnsafe 22 = .ok (.ifCond .ne 15, 3) := dk_154 0 15 (dk_at dksJ8_indexOfUnsafe_1 0 rfl rfl)
theorem dJ8_indexOfUnsafe_25 : decode cJ8_indexOfUnsafe 25 = .ok (.iload_n 3, 1) := dk_29 (dk_at dksJ8_indexOfUnsafe_1 3 rfl rfl)
theorem dJ8_indexOfUnsafe_26 : decode cJ8_indexOfUnsafe 26 = .ok (.ifCond .gt 11, 3) := dk_157 0 11 (dk_at dksJ8_indexOfUnsafe_1 4 rfl rfl)
theorem dJ8_indexOfUnsafe_29 : decode cJ8_indexOfUnsafe 29 = .ok (.new 52, 3) := dk_187 0 52 (dk_at dksJ8_indexOfUnsafe_1 7 rfl rfl)
theorem dJ8_indexOfUnsafe_37 : decode cJ8_indexOfUnsafe 37 = .ok (.getstatic 44, 3) := dk_178 0 44 (dk_at dksJ8_indexOfUnsafe_1 15 rfl rfl)
theorem dJ8_indexOfUnsafe_40 : decode cJ8_indexOfUnsafe 40 = .ok (.ifCond .ne 19, 3) := dk_154 0 19 (dk_at dksJ8_indexOfUnsafe_1 18 rfl rfl)
theorem dJ8_indexOfUnsafe_43 : decode cJ8_indexOfUnsafe 43 = .ok (.iload_n 3, 1) := dk_29 (dk_at dksJ8_indexOfUnsafe_1 21 rfl rfl)
theorem dJ8_indexOfUnsafe_44 : decode cJ8_indexOfUnsafe 44 = .ok (.aload_n 2, 1) := dk_44 (dk_at dksJ8_indexOfUnsafe_1 22 rfl rfl)
theorem dJ8_indexOfUnsafe_45 : decode cJ8_indexOfUnsafe 45 = .ok (.invokestatic 48, 3) := dk_184 0 48 (dk_at dksJ8_indexOfUnsafe_2 0 rfl rfl)
theorem dJ8_indexOfUnsafe_48 : decode cJ8_indexOfUnsafe 48 = .ok (.if_icmp .le 11, 3) := dk_164 0 11 (dk_at dksJ8_indexOfUnsafe_2 3 rfl rfl)
theorem dJ8_indexOfUnsafe_51 : decode cJ8_indexOfUnsafe 51 = .ok (.new 52, 3) := dk_187 0 52 (dk_at dksJ8_indexOfUnsafe_2 6 rfl rfl)
theorem dJ8_indexOfUnsafe_59 : decode cJ8_indexOfUnsafe 59 = .ok (.getstatic 44, 3) := dk_178 0 44 (dk_at dksJ8_indexOfUnsafe_2 14 rfl rfl)
theorem dJ8_indexOfUnsafe_62 : decode cJ8_indexOfUnsafe 62 = .ok (.ifCond .ne 16, 3) := dk_154 0 16 (dk_at dksJ8_indexOfUnsafe_2 17 rfl rfl)
theorem dJ8_indexOfUnsafe_65 : decode cJ8_indexOfUnsafe 65 = .ok (.iload_n 1, 1) := dk_27 (dk_at dksJ8_indexOfUnsafe_2 20 rfl rfl)
theorem dJ8_indexOfUnsafe_66 : decode cJ8_indexOfUnsafe 66 = .ok (.iload_n 3, 1) := dk_29 (dk_at dksJ8_indexOfUnsafe_2 21 rfl rfl)
theorem dJ8_indexOfUnsafe_67 : decode cJ8_indexOfUnsafe 67 = .ok (.if_icmp .ge 11, 3) := dk_162 0 11 (dk_at dksJ8_indexOfUnsafe_3 0 rfl rfl)
theorem dJ8_indexOfUnsafe_70 : decode cJ8_indexOfUnsafe 70 = .ok (.new 52, 3) := dk_187 0 52 (dk_at dksJ8_indexOfUnsafe_3 3 rfl rfl)
theorem dJ8_indexOfUnsafe_78 : decode cJ8_indexOfUnsafe 78 = .ok (.aload_n 2, 1) := dk_44 (dk_at dksJ8_indexOfUnsafe_3 11 rfl rfl)
theorem dJ8_indexOfUnsafe_79 : decode cJ8_indexOfUnsafe 79 = .ok (.iconst 0, 1) := dk_3 (dk_at dksJ8_indexOfUnsafe_3 12 rfl rfl)
theorem dJ8_indexOfUnsafe_80 : decode cJ8_indexOfUnsafe 80 = .ok (.invokestatic 71, 3) := dk_184 0 71 (dk_at dksJ8_indexOfUnsafe_3 13 rfl rfl)
theorem dJ8_indexOfUnsafe_83 : decode cJ8_indexOfUnsafe 83 = .ok (.istore 5, 2) := dk_54 5 (dk_at dksJ8_indexOfUnsafe_3 16 rfl rfl)
theorem dJ8_indexOfUnsafe_85 : decode cJ8_indexOfUnsafe 85 = .ok (.iload_n 1, 1) := dk_27 (dk_at dksJ8_indexOfUnsafe_3 18 rfl rfl)
theorem dJ8_indexOfUnsafe_86 : decode cJ8_indexOfUnsafe 86 = .ok (.iload_n 3, 1) := dk_29 (dk_at dksJ8_indexOfUnsafe_3 19 rfl rfl)
theorem dJ8_indexOfUnsafe_87 : decode cJ8_indexOfUnsafe 87 = .ok (.isub, 1) := dk_100 (dk_at dksJ8_indexOfUnsafe_3 20 rfl rfl)
theorem dJ8_indexOfUnsafe_88 : decode cJ8_indexOfUnsafe 88 = .ok (.istore 6, 2) := dk_54 6 (dk_at dksJ8_indexOfUnsafe_3 21 rfl rfl)
theorem dJ8_indexOfUnsafe_90 : decode cJ8_indexOfUnsafe 90 = .ok (.iload 4, 2) := dk_21 4 (dk_at dksJ8_indexOfUnsafe_4 0 rfl rfl)
theorem dJ8_indexOfUnsafe_92 : decode cJ8_indexOfUnsafe 92 = .ok (.istore 7, 2) := dk_54 7 (dk_at dksJ8_indexOfUnsafe_4 2 rfl rfl)
theorem dJ8_indexOfUnsafe_94 : decode cJ8_indexOfUnsafe 94 = .ok (.iload 7, 2) := dk_21 7 (dk_at dksJ8_indexOfUnsafe_4 4 rfl rfl)
theorem dJ8_indexOfUnsafe_96 : decode cJ8_indexOfUnsafe 96 = .ok (.iload 6, 2) := dk_21 6 (dk_at dksJ8_indexOfUnsafe_4 6 rfl rfl)
theorem dJ8_indexOfUnsafe_98 : decode cJ8_indexOfUnsafe 98 = .ok (.if_icmp .gt 109, 3) := dk_163 0 109 (dk_at dksJ8_indexOfUnsafe_4 8 rfl rfl)
theorem dJ8_indexOfUnsafe_101 : decode cJ8_indexOfUnsafe 101 = .ok (.aload_n 0, 1) := dk_42 (dk_at dksJ8_indexOfUnsafe_4 11 rfl rfl)
theorem dJ8_indexOfUnsafe_102 : decode cJ8_indexOfUnsafe 102 = .ok (.iload 7, 2) := dk_21 7 (dk_at dksJ8_indexOfUnsafe_4 12 rfl rfl)
theorem dJ8_indexOfUnsafe_104 : decode cJ8_indexOfUnsafe 104 = .ok (.invokestatic 71, 3) := dk_184 0 71 (dk_at dksJ8_indexOfUnsafe_4 14 rfl rfl)
theorem dJ8_indexOfUnsafe_107 : decode cJ8_indexOfUnsafe 107 = .ok (.iload 5, 2) := dk_21 5 (dk_at dksJ8_indexOfUnsafe_4 17 rfl rfl)
theorem dJ8_indexOfUnsafe_109 : decode cJ8_indexOfUnsafe 109 = .ok (.if_icmp .eq 27, 3) := dk_159 0 27 (dk_at dksJ8_indexOfUnsafe_4 19 rfl rfl)
theorem dJ8_indexOfUnsafe_112 : decode cJ8_indexOfUnsafe 112 = .ok (.iinc 7 1, 3) := dk_132 7 1 (dk_at dksJ8_indexOfUnsafe_5 0 rfl rfl)
theorem dJ8_indexOfUnsafe_115 : decode cJ8_indexOfUnsafe 115 = .ok (.iload 7, 2) := dk_21 7 (dk_at dksJ8_indexOfUnsafe_5 3 rfl rfl)
theorem dJ8_indexOfUnsafe_117 : decode cJ8_indexOfUnsafe 117 = .ok (.iload 6, 2) := dk_21 6 (dk_at dksJ8_indexOfUnsafe_5 5 rfl rfl)
theorem dJ8_indexOfUnsafe_119 : decode cJ8_indexOfUnsafe 119 = .ok (.if_icmp .gt 17, 3) := dk_163 0 17 (dk_at dksJ8_indexOfUnsafe_5 7 rfl rfl)
theorem dJ8_indexOfUnsafe_122 : decode cJ8_indexOfUnsafe 122 = .ok (.aload_n 0, 1) := dk_42 (dk_at dksJ8_indexOfUnsafe_5 10 rfl rfl)
theorem dJ8_indexOfUnsafe_123 : decode cJ8_indexOfUnsafe 123 = .ok (.iload 7, 2) := dk_21 7 (dk_at dksJ8_indexOfUnsafe_5 11 rfl rfl)
theorem dJ8_indexOfUnsafe_125 : decode cJ8_indexOfUnsafe 125 = .ok (.invokestatic 71, 3) := dk_184 0 71 (dk_at dksJ8_indexOfUnsafe_5 13 rfl rfl)
theorem dJ8_indexOfUnsafe_128 : decode cJ8_indexOfUnsafe 128 = .ok (.iload 5, 2) := dk_21 5 (dk_at dksJ8_indexOfUnsafe_5 16 rfl rfl)
theorem dJ8_indexOfUnsafe_130 : decode cJ8_indexOfUnsafe 130 = .ok (.if_icmp .eq 6, 3) := dk_159 0 6 (dk_at dksJ8_indexOfUnsafe_5 18 rfl rfl)
theorem dJ8_indexOfUnsafe_133 : decode cJ8_indexOfUnsafe 133 = .ok (.goto (-21), 3) := dk_167 255 235 (dk_at dksJ8_indexOfUnsafe_5 21 rfl rfl)
theorem dJ8_indexOfUnsafe_136 : decode cJ8_indexOfUnsafe 136 = .ok (.iload 7, 2) := dk_21 7 (dk_at dksJ8_indexOfUnsafe_6 0 rfl rfl)
theorem dJ8_indexOfUnsafe_138 : decode cJ8_indexOfUnsafe 138 = .ok (.iload 6, 2) := dk_21 6 (dk_at dksJ8_indexOfUnsafe_6 2 rfl rfl)
theorem dJ8_indexOfUnsafe_140 : decode cJ8_indexOfUnsafe 140 = .ok (.if_icmp .gt 61, 3) := dk_163 0 61 (dk_at dksJ8_indexOfUnsafe_6 4 rfl rfl)
theorem dJ8_indexOfUnsafe_143 : decode cJ8_indexOfUnsafe 143 = .ok (.iload 7, 2) := dk_21 7 (dk_at dksJ8_indexOfUnsafe_6 7 rfl rfl)
theorem dJ8_indexOfUnsafe_145 : decode cJ8_indexOfUnsafe 145 = .ok (.iconst 1, 1) := dk_4 (dk_at dksJ8_indexOfUnsafe_6 9 rfl rfl)
theorem dJ8_indexOfUnsafe_146 : decode cJ8_indexOfUnsafe 146 = .ok (.iadd, 1) := dk_96 (dk_at dksJ8_indexOfUnsafe_6 10 rfl rfl)
theorem dJ8_indexOfUnsafe_147 : decode cJ8_indexOfUnsafe 147 = .ok (.istore 8, 2) := dk_54 8 (dk_at dksJ8_indexOfUnsafe_6 11 rfl rfl)
theorem dJ8_indexOfUnsafe_149 : decode cJ8_indexOfUnsafe 149 = .ok (.iload 8, 2) := dk_21 8 (dk_at dksJ8_indexOfUnsafe_6 13 rfl rfl)
theorem dJ8_indexOfUnsafe_151 : decode cJ8_indexOfUnsafe 151 = .ok (.iload_n 3, 1) := dk_29 (dk_at dksJ8_indexOfUnsafe_6 15 rfl rfl)
theorem dJ8_indexOfUnsafe_152 : decode cJ8_indexOfUnsafe 152 = .ok (.iadd, 1) := dk_96 (dk_at dksJ8_indexOfUnsafe_6 16 rfl rfl)
theorem dJ8_indexOfUnsafe_153 : decode cJ8_indexOfUnsafe 153 = .ok (.iconst 1, 1) := dk_4 (dk_at dksJ8_indexOfUnsafe_6 17 rfl rfl)
theorem dJ8_indexOfUnsafe_154 : decode cJ8_indexOfUnsafe 154 = .ok (.isub, 1) := dk_100 (dk_at dksJ8_indexOfUnsafe_6 18 rfl rfl)
theorem dJ8_indexOfUnsafe_155 : decode cJ8_indexOfUnsafe 155 = .ok (.istore 9, 2) := dk_54 9 (dk_at dksJ8_indexOfUnsafe_6 19 rfl rfl)
theorem dJ8_indexOfUnsafe_157 : decode cJ8_indexOfUnsafe 157 = .ok (.iconst 1, 1) := dk_4 (dk_at dksJ8_indexOfUnsafe_6 21 rfl rfl)
theorem dJ8_indexOfUnsafe_158 : decode cJ8_indexOfUnsafe 158 = .ok (.istore 10, 2) := dk_54 10 (dk_at dksJ8_indexOfUnsafe_6 22 rfl rfl)
theorem dJ8_indexOfUnsafe_160 : decode cJ8_indexOfUnsafe 160 = .ok (.iload 8, 2) := dk_21 8 (dk_at dksJ8_indexOfUnsafe_7 0 rfl rfl)
theorem dJ8_indexOfUnsafe_162 : decode cJ8_indexOfUnsafe 162 = .ok (.iload 9, 2) := dk_21 9 (dk_at dksJ8_indexOfUnsafe_7 2 rfl rfl)
theorem dJ8_indexOfUnsafe_164 : decode cJ8_indexOfUnsafe 164 = .ok (.if_icmp .ge 27, 3) := dk_162 0 27 (dk_at dksJ8_indexOfUnsafe_7 4 rfl rfl)
theorem dJ8_indexOfUnsafe_167 : decode cJ8_indexOfUnsafe 167 = .ok (.aload_n 0, 1) := dk_42 (dk_at dksJ8_indexOfUnsafe_7 7 rfl rfl)
theorem dJ8_indexOfUnsafe_168 : decode cJ8_indexOfUnsafe 168 = .ok (.iload 8, 2) := dk_21 8 (dk_at dksJ8_indexOfUnsafe_7 8 rfl rfl)
theorem dJ8_indexOfUnsafe_170 : decode cJ8_indexOfUnsafe 170 = .ok (.invokestatic 71, 3) := dk_184 0 71 (dk_at dksJ8_indexOfUnsafe_7 10 rfl rfl)
theorem dJ8_indexOfUnsafe_173 : decode cJ8_indexOfUnsafe 173 = .ok (.aload_n 2, 1) := dk_44 (dk_at dksJ8_indexOfUnsafe_7 13 rfl rfl)
theorem dJ8_indexOfUnsafe_174 : decode cJ8_indexOfUnsafe 174 = .ok (.iload 10, 2) := dk_21 10 (dk_at dksJ8_indexOfUnsafe_7 14 rfl rfl)
theorem dJ8_indexOfUnsafe_176 : decode cJ8_indexOfUnsafe 176 = .ok (.invokestatic 71, 3) := dk_184 0 71 (dk_at dksJ8_indexOfUnsafe_7 16 rfl rfl)
theorem dJ8_indexOfUnsafe_179 : decode cJ8_indexOfUnsafe 179 = .ok (.if_icmp .ne 12, 3) := dk_160 0 12 (dk_at dksJ8_indexOfUnsafe_7 19 rfl rfl)
theorem dJ8_indexOfUnsafe_182 : decode cJ8_indexOfUnsafe 182 = .ok (.iinc 8 1, 3) := dk_132 8 1 (dk_at dksJ8_indexOfUnsafe_8 0 rfl rfl)
theorem dJ8_indexOfUnsafe_185 : decode cJ8_indexOfUnsafe 185 = .ok (.iinc 10 1, 3) := dk_132 10 1 (dk_at dksJ8_indexOfUnsafe_8 3 rfl rfl)
theorem dJ8_indexOfUnsafe_188 : decode cJ8_indexOfUnsafe 188 = .ok (.goto (-28), 3) := dk_167 255 228 (dk_at dksJ8_indexOfUnsafe_8 6 rfl rfl)
theorem dJ8_indexOfUnsafe_191 : decode cJ8_indexOfUnsafe 191 = .ok (.iload 8, 2) := dk_21 8 (dk_at dksJ8_indexOfUnsafe_8 9 rfl rfl)
theorem dJ8_indexOfUnsafe_193 : decode cJ8_indexOfUnsafe 193 = .ok (.iload 9, 2) := dk_21 9 (dk_at dksJ8_indexOfUnsafe_8 11 rfl rfl)
theorem dJ8_indexOfUnsafe_195 : decode cJ8_indexOfUnsafe 195 = .ok (.if_icmp .ne 6, 3) := dk_160 0 6 (dk_at dksJ8_indexOfUnsafe_8 13 rfl rfl)
theorem dJ8_indexOfUnsafe_198 : decode cJ8_indexOfUnsafe 198 = .ok (.iload 7, 2) := dk_21 7 (dk_at dksJ8_indexOfUnsafe_8 16 rfl rfl)
theorem dJ8_indexOfUnsafe_200 : decode cJ8_indexOfUnsafe 200 = .ok (.ireturn, 1) := dk_172 (dk_at dksJ8_indexOfUnsafe_8 18 rfl rfl)
theorem dJ8_indexOfUnsafe_201 : decode cJ8_indexOfUnsafe 201 = .ok (.iinc 7 1, 3) := dk_132 7 1 (dk_at dksJ8_indexOfUnsafe_8 19 rfl rfl)
theorem dJ8_indexOfUnsafe_204 : decode cJ8_indexOfUnsafe 204 = .ok (.goto (-110), 3) := dk_167 255 146 (dk_at dksJ8_indexOfUnsafe_9 0 rfl rfl)
theorem dJ8_indexOfUnsafe_207 : decode cJ8_indexOfUnsafe 207 = .ok (.iconst (-1), 1) := dk_2 (dk_at dksJ8_indexOfUnsafe_9 3 rfl rfl)
theorem dJ8_indexOfUnsafe_208 : decode cJ8_indexOfUnsafe 208 = .ok (.ireturn, 1) := dk_172 (dk_at dksJ8_indexOfUnsafe_9 4 rfl rfl)
abbrev cJ7_checkBoundsBeginEnd : ByteArray := prog_48_method_158_code
def dkwJ7_checkBoundsBeginEnd_0 : List UInt8 := [26, 27, 28, 178, 4, 29, 184, 4, 38, 87, 177]
abbrev dktJ7_checkBoundsBeginEnd_0 : List UInt8 := dkwJ7_checkBoundsBeginEnd_0 ++ []
theorem dksJ7_checkBoundsBeginEnd_0 : cJ7_checkBoundsBeginEnd.data.toList.drop 0 = dktJ7_checkBoundsBeginEnd_0 := by decide +kernel
theorem dJ7_checkBoundsBeginEnd_0 : decode cJ7_checkBoundsBeginEnd 0 = .ok (.iload_n 0, 1) := dk_26 (dk_at dksJ7_checkBoundsBeginEnd_0 0 rfl rfl)
theorem dJ7_checkBoundsBeginEnd_1 : decode cJ7_checkBoundsBeginEnd 1 = .ok (.iload_n 1, 1) := dk_27 (dk_at dksJ7_checkBoundsBeginEnd_0 1 rfl rfl)
theorem dJ7_checkBoundsBeginEnd_2 : decode cJ7_checkBoundsBeginEnd 2 = .ok (.iload_n 2, 1) := dk_28 (dk_at dksJ7_checkBoundsBeginEnd_0 2 rfl rfl)
theorem dJ7_checkBoundsBeginEnd_3 : decode cJ7_checkBoundsBeginEnd 3 = .ok (.getstatic 1053, 3) := dk_178 4 29 (dk_at dksJ7_checkBoundsBeginEnd_0 3 rfl rfl)
theorem dJ7_checkBoundsBeginEnd_6 : decode cJ7_checkBoundsBeginEnd 6 = .ok (.invokestatic 1062, 3) := dk_184 4 38 (dk_at dksJ7_checkBoundsBeginEnd_0 6 rfl rfl)
theorem dJ7_checkBoundsBeginEnd_9 : decode cJ7_checkBoundsBeginEnd 9 = .ok (.pop, 1) := dk_87 (dk_at dksJ7_checkBoundsBeginEnd_0 9 rfl rfl)
theorem dJ7_checkBoundsBeginEnd_10 : decode cJ7_checkBoundsBeginEnd 10 = .ok (.return_, 1) := dk_177 (dk_at dksJ7_checkBoundsBeginEnd_0 10 rfl rfl)
abbrev cJ7_length : ByteArray := prog_48_method_54_code
def dkwJ7_length_0 : List UInt8 := [42, 180, 0, 9, 190, 42, 182, 1, 79, 122, 172]
abbrev dktJ7_length_0 : List UInt8 := dkwJ7_length_0 ++ []
theorem dksJ7_length_0 : cJ7_length.data.toList.drop 0 = dktJ7_length_0 := by decide +kernel
theorem dJ7_length_0 : decode cJ7_length 0 = .ok (.aload_n 0, 1) := dk_42 (dk_at dksJ7_length_0 0 rfl rfl)
theorem dJ7_length_1 : decode cJ7_length 1 = .ok (.getfield 9, 3) := dk_180 0 9 (dk_at dksJ7_length_0 1 rfl rfl)
theorem dJ7_length_4 : decode cJ7_length 4 = .ok (.arraylength, 1) := dk_190 (dk_at dksJ7_length_0 4 rfl rfl)
theorem dJ7_length_5 : decode cJ7_length 5 = .ok (.aload_n 0, 1) := dk_42 (dk_at dksJ7_length_0 5 rfl rfl)
theorem dJ7_length_6 : decode cJ7_length 6 = .ok (.invokevirtual 335, 3) := dk_182 1 79 (dk_at dksJ7_length_0 6 rfl rfl)
theorem dJ7_length_9 : decode cJ7_length 9 = .ok (.ishr, 1) := dk_122 (dk_at dksJ7_length_0 9 rfl rfl)
theorem dJ7_length_10 : decode cJ7_length 10 = .ok (.ireturn, 1) := dk_172 (dk_at dksJ7_length_0 10 rfl rfl)
abbrev cJ7_coder : ByteArray := prog_48_method_152_code
def dkwJ7_coder_0 : List UInt8 := [178, 0, 38, 153, 0, 10, 42, 180, 0, 15, 167, 0, 4, 4, 172]
abbrev dktJ7_coder_0 : List UInt8 := dkwJ7_coder_0 ++ []
theorem dksJ7_coder_0 : cJ7_coder.data.toList.drop 0 = dktJ7_coder_0 := by decide +kernel
theorem dJ7_coder_0 : decode cJ7_coder 0 = .ok (.getstatic 38, 3) := dk_178 0 38 (dk_at dksJ7_coder_0 0 rfl rfl)
theorem dJ7_coder_3 : decode cJ7_coder 3 = .ok (.ifCond .eq 10, 3) := dk_153 0 10 (dk_at dksJ7_coder_0 3 rfl rfl)
theorem dJ7_coder_6 : decode cJ7_coder 6 = .ok (.aload_n 0, 1) := dk_42 (dk_at dksJ7_coder_0 6 rfl rfl)
theorem dJ7_coder_7 : decode cJ7_coder 7 = .ok (.getfield 15, 3) := dk_180 0 15 (dk_at dksJ7_coder_0 7 rfl rfl)
theorem dJ7_coder_10 : decode cJ7_coder 10 = .ok (.goto 4, 3) := dk_167 0 4 (dk_at dksJ7_coder_0 10 rfl rfl)
theorem dJ7_coder_13 : decode cJ7_coder 13 = .ok (.iconst 1, 1) := dk_4 (dk_at dksJ7_coder_0 13 rfl rfl)
theorem dJ7_coder_14 : decode cJ7_coder 14 = .ok (.ireturn, 1) := dk_172 (dk_at dksJ7_coder_0 14 rfl rfl)
abbrev cJ7_checkBoundsOffCount : ByteArray := prog_48_method_157_code
def dkwJ7_checkBoundsOffCount_0 : List UInt8 := [26, 27, 28, 178, 4, 29, 184, 4, 41, 172]
abbrev dktJ7_checkBoundsOffCount_0 : List UInt8 := dkwJ7_checkBoundsOffCount_0 ++ []
theorem dksJ7_checkBoundsOffCount_0 : cJ7_checkBoundsOffCount.data.toList.drop 0 = dktJ7_checkBoundsOffCount_0 := by decide +kernel
theorem dJ7_checkBoundsOffCount_0 : decode cJ7_checkBoundsOffCount 0 = .ok (.iload_n 0, 1) := dk_26 (dk_at dksJ7_checkBoundsOffCount_0 0 rfl rfl)
theorem dJ7_checkBoundsOffCount_1 : decode cJ7_checkBoundsOffCount 1 = .ok (.iload_n 1, 1) := dk_27 (dk_at dksJ7_checkBoundsOffCount_0 1 rfl rfl)
theorem dJ7_checkBoundsOffCount_2 : decode cJ7_checkBoundsOffCount 2 = .ok (.iload_n 2, 1) := dk_28 (dk_at dksJ7_checkBoundsOffCount_0 2 rfl rfl)
theorem dJ7_checkBoundsOffCount_3 : decode cJ7_checkBoundsOffCount 3 = .ok (.getstatic 1053, 3) := dk_178 4 29 (dk_at dksJ7_checkBoundsOffCount_0 3 rfl rfl)
theorem dJ7_checkBoundsOffCount_6 : decode cJ7_checkBoundsOffCount 6 = .ok (.invokestatic 1065, 3) := dk_184 4 41 (dk_at dksJ7_checkBoundsOffCount_0 6 rfl rfl)
theorem dJ7_checkBoundsOffCount_9 : decode cJ7_checkBoundsOffCount 9 = .ok (.ireturn, 1) := dk_172 (dk_at dksJ7_checkBoundsOffCount_0 9 rfl rfl)
abbrev cJ7_getBytes : ByteArray := prog_48_method_147_code
def dkwJ7_getBytes_1 : List UInt8 := [184, 0, 212, 167, 0, 18, 42, 180, 0, 9, 3, 43, 28, 42, 180, 0, 9, 190, 184, 0, 106, 177]
abbrev dktJ7_getBytes_1 : List UInt8 := dkwJ7_getBytes_1 ++ []
def dkwJ7_getBytes_0 : List UInt8 := [42, 182, 1, 79, 29, 160, 0, 23, 42, 180, 0, 9, 3, 43, 28, 29, 120, 42, 180, 0, 9, 190]
abbrev dktJ7_getBytes_0 : List UInt8 := dkwJ7_getBytes_0 ++ dktJ7_getBytes_1
theorem dksJ7_getBytes_0 : cJ7_getBytes.data.toList.drop 0 = dktJ7_getBytes_0 := by decide +kernel
theorem dksJ7_getBytes_1 : cJ7_getBytes.data.toList.drop 22 = dktJ7_getBytes_1 := dk_seg dksJ7_getBytes_0 22 rfl rfl
theorem dJ7_getBytes_0 : decode cJ7_getBytes 0 = .ok (.aload_n 0, 1) := dk_42 (dk_at dksJ7_getBytes_0 0 rfl rfl)
theorem dJ7_getBytes_1 : decode cJ7_getBytes 1 = .ok (.invokevirtual 335, 3) := dk_182 1 79 (dk_at dksJ7_getBytes_0 1 rfl rfl)
theorem dJ7_getBytes_4 : decode cJ7_getBytes 4 = .ok (.iload_n 3, 1) := dk_29 (dk_at dksJ7_getBytes_0 4 rfl rfl)
theorem dJ7_getBytes_5 : decode cJ7_getBytes 5 = .ok (.if_icmp .ne 23, 3) := dk_160 0 23 (dk_at dksJ7_getBytes_0 5 rfl rfl)
theorem dJ7_getBytes_8 : decode cJ7_getBytes 8 = .ok (.aload_n 0, 1) := dk_42 (dk_at dksJ7_getBytes_0 8 rfl rfl)
theorem dJ7_getBytes_9 : decode cJ7_getBytes 9 = .ok (.getfield 9, 3) := dk_180 0 9 (dk_at dksJ7_getBytes_0 9 rfl rfl)
theorem dJ7_getBytes_12 : decode cJ7_getBytes 12 = .ok (.iconst 0, 1) := dk_3 (dk_at dksJ7_getBytes_0 12 rfl rfl)
theorem dJ7_getBytes_13 : decode cJ7_getBytes 13 = .ok (.aload_n 1, 1) := dk_43 (dk_at dksJ7_getBytes_0 13 rfl rfl)
theorem dJ7_getBytes_14 : decode cJ7_getBytes 14 = .ok (.iload_n 2, 1) := dk_28 (dk_at dksJ7_getBytes_0 14 rfl rfl)
theorem dJ7_getBytes_15 : decode cJ7_getBytes 15 = .ok (.iload_n 3, 1) := dk_29 (dk_at dksJ7_getBytes_0 15 rfl rfl)
theorem dJ7_getBytes_16 : decode cJ7_getBytes 16 = .ok (.ishl, 1) := dk_120 (dk_at dksJ7_getBytes_0 16 rfl rfl)
theorem dJ7_getBytes_17 : decode cJ7_getBytes 17 = .ok (.aload_n 0, 1) := dk_42 (dk_at dksJ7_getBytes_0 17 rfl rfl)
theorem dJ7_getBytes_18 : decode cJ7_getBytes 18 = .ok (.getfield 9, 3) := dk_180 0 9 (dk_at dksJ7_getBytes_0 18 rfl rfl)
theorem dJ7_getBytes_21 : decode cJ7_getBytes 21 = .ok (.arraylength, 1) := dk_190 (dk_at dksJ7_getBytes_0 21 rfl rfl)
theorem dJ7_getBytes_22 : decode cJ7_getBytes 22 = .ok (.invokestatic 212, 3) := dk_184 0 212 (dk_at dksJ7_getBytes_1 0 rfl rfl)
theorem dJ7_getBytes_25 : decode cJ7_getBytes 25 = .ok (.goto 18, 3) := dk_167 0 18 (dk_at dksJ7_getBytes_1 3 rfl rfl)
theorem dJ7_getBytes_28 : decode cJ7_getBytes 28 = .ok (.aload_n 0, 1) := dk_42 (dk_at dksJ7_getBytes_1 6 rfl rfl)
theorem dJ7_getBytes_29 : decode cJ7_getBytes 29 = .ok (.getfield 9, 3) := dk_180 0 9 (dk_at dksJ7_getBytes_1 7 rfl rfl)
theorem dJ7_getBytes_32 : decode cJ7_getBytes 32 = .ok (.iconst 0, 1) := dk_3 (dk_at dksJ7_getBytes_1 10 rfl rfl)
theorem dJ7_getBytes_33 : decode cJ7_getBytes 33 = .ok (.aload_n 1, 1) := dk_43 (dk_at dksJ7_getBytes_1 11 rfl rfl)
theorem dJ7_getBytes_34 : decode cJ7_getBytes 34 = .ok (.iload_n 2, 1) := dk_28 (dk_at dksJ7_getBytes_1 12 rfl rfl)
theorem dJ7_getBytes_35 : decode cJ7_getBytes 35 = .ok (.aload_n 0, 1) := dk_42 (dk_at dksJ7_getBytes_1 13 rfl rfl)
theorem dJ7_getBytes_36 : decode cJ7_getBytes 36 = .ok (.getfield 9, 3) := dk_180 0 9 (dk_at dksJ7_getBytes_1 14 rfl rfl)
theorem dJ7_getBytes_39 : decode cJ7_getBytes 39 = .ok (.arraylength, 1) := dk_190 (dk_at dksJ7_getBytes_1 17 rfl rfl)
theorem dJ7_getBytes_40 : decode cJ7_getBytes 40 = .ok (.invokestatic 106, 3) := dk_184 0 106 (dk_at dksJ7_getBytes_1 18 rfl rfl)
theorem dJ7_getBytes_43 : decode cJ7_getBytes 43 = .ok (.return_, 1) := dk_177 (dk_at dksJ7_getBytes_1 21 rfl rfl)
abbrev cJ7_init : ByteArray := prog_48_method_53_code
def dkwJ7_init_0 : List UInt8 := [42, 43, 1, 183, 1, 233, 177]
abbrev dktJ7_init_0 : List UInt8 := dkwJ7_init_0 ++ []
theorem dksJ7_init_0 : cJ7_init.data.toList.drop 0 = dktJ7_init_0 := by decide +kernel
theorem dJ7_init_0 : decode cJ7_init 0 = .ok (.aload_n 0, 1) := dk_42 (dk_at dksJ7_init_0 0 rfl rfl)
theorem dJ7_init_1 : decode cJ7_init 1 = .ok (.aload_n 1, 1) := dk_43 (dk_at dksJ7_init_0 1 rfl rfl)
theorem dJ7_init_2 : decode cJ7_init 2 = .ok (.aconst_null, 1) := dk_1 (dk_at dksJ7_init_0 2 rfl rfl)
theorem dJ7_init_3 : decode cJ7_init 3 = .ok (.invokespecial 489, 3) := dk_183 1 233 (dk_at dksJ7_init_0 3 rfl rfl)
theorem dJ7_init_6 : decode cJ7_init 6 = .ok (.return_, 1) := dk_177 (dk_at dksJ7_init_0 6 rfl rfl)
abbrev cJ7_init_2 : ByteArray := prog_48_method_150_code
def dkwJ7_init_2_4 : List UInt8 := [181, 0, 9, 177]
abbrev dktJ7_init_2_4 : List UInt8 := dkwJ7_init_2_4 ++ []
def dkwJ7_init_2_3 : List UInt8 := [184, 0, 47, 181, 0, 15, 177, 42, 4, 181, 0, 15, 42, 45, 3, 21, 4, 4, 120, 184, 0, 54]
abbrev dktJ7_init_2_3 : List UInt8 := dkwJ7_init_2_3 ++ dktJ7_init_2_4
def dkwJ7_init_2_2 : List UInt8 := [180, 4, 24, 153, 0, 28, 42, 45, 3, 21, 4, 184, 4, 27, 181, 0, 9, 42, 42, 180, 0, 9, 21, 4]
abbrev dktJ7_init_2_2 : List UInt8 := dkwJ7_init_2_2 ++ dktJ7_init_2_3
def dkwJ7_init_2_1 : List UInt8 := [181, 0, 15, 42, 45, 3, 21, 4, 184, 0, 54, 181, 0, 9, 167, 0, 59, 178, 0, 38, 153, 0, 35, 43]
abbrev dktJ7_init_2_1 : List UInt8 := dkwJ7_init_2_1 ++ dktJ7_init_2_2
def dkwJ7_init_2_0 : List UInt8 := [42, 183, 0, 1, 43, 182, 2, 40, 78, 43, 182, 2, 37, 54, 4, 43, 182, 4, 23, 153, 0, 22, 42, 3]
abbrev dktJ7_init_2_0 : List UInt8 := dkwJ7_init_2_0 ++ dktJ7_init_2_1
theorem dksJ7_init_2_0 : cJ7_init_2.data.toList.drop 0 = dktJ7_init_2_0 := by decide +kernel
theorem dksJ7_init_2_1 : cJ7_init_2.data.toList.drop 24 = dktJ7_init_2_1 := dk_seg dksJ7_init_2_0 24 rfl rfl
theorem dksJ7_init_2_2 : cJ7_init_2.data.toList.drop 48 = dktJ7_init_2_2 := dk_seg dksJ7_init_2_1 24 rfl rfl
theorem dksJ7_init_2_3 : cJ7_init_2.data.toList.drop 72 = dktJ7_init_2_3 := dk_seg dksJ7_init_2_2 24 rfl rfl
theorem dksJ7_init_2_4 : cJ7_init_2.data.toList.drop 94 = dktJ7_init_2_4 := dk_seg dksJ7_init_2_3 22 rfl rfl
theorem dJ7_init_2_0 : decode cJ7_init_2 0 = .ok (.aload_n 0, 1) := dk_42 (dk_at dksJ7_init_2_0 0 rfl rfl)
theorem dJ7_init_2_1 : decode cJ7_init_2 1 = .ok (.invokespecial 1, 3) := dk_183 0 1 (dk_at dksJ7_init_2_0 1 rfl rfl)
theorem dJ7_init_2_4 : decode cJ7_init_2 4 = .ok (.aload_n 1, 1) := dk_43 (dk_at dksJ7_init_2_0 4 rfl rfl)
theorem dJ7_init_2_5 : decode cJ7_init_2 5 = .ok (.invokevirtual 552, 3) := dk_182 2 40 (dk_at dksJ7_init_2_0 5 rfl rfl)
theorem dJ7_init_2_8 : decode cJ7_init_2 8 = .ok (.astore_n 3, 1) := dk_78 (dk_at dksJ7_init_2_0 8 rfl rfl)
theorem dJ7_init_2_9 : decode cJ7_init_2 9 = .ok (.aload_n 1, 1) := dk_43 (dk_at dksJ7_init_2_0 9 rfl rfl)
theorem dJ7_init_2_10 : decode cJ7_init_2 10 = .ok (.invokevirtual 549, 3) := dk_182 2 37 (dk_at dksJ7_init_2_0 10 rfl rfl)
theorem dJ7_init_2_13 : decode cJ7_init_2 13 = .ok (.istore 4, 2) := dk_54 4 (dk_at dksJ7_init_2_0 13 rfl rfl)
theorem dJ7_init_2_15 : decode cJ7_init_2 15 = .ok (.aload_n 1, 1) := dk_43 (dk_at dksJ7_init_2_0 15 rfl rfl)
theorem dJ7_init_2_16 : decode cJ7_init_2 16 = .ok (.invokevirtual 1047, 3) := dk_182 4 23 (dk_at dksJ7_init_2_0 16 rfl rfl)
theorem dJ7_init_2_19 : decode cJ7_init_2 19 = .ok (.ifCond .eq 22, 3) := dk_153 0 22 (dk_at dksJ7_init_2_0 19 rfl rfl)
theorem dJ7_init_2_22 : decode cJ7_init_2 22 = .ok (.aload_n 0, 1) := dk_42 (dk_at dksJ7_init_2_0 22 rfl rfl)
theorem dJ7_init_2_23 : decode cJ7_init_2 23 = .ok (.iconst 0, 1) := dk_3 (dk_at dksJ7_init_2_0 23 rfl rfl)
theorem dJ7_init_2_24 : decode cJ7_init_2 24 = .ok (.putfield 15, 3) := dk_181 0 15 (dk_at dksJ7_init_2_1 0 rfl rfl)
theorem dJ7_init_2_27 : decode cJ7_init_2 27 = .ok (.aload_n 0, 1) := dk_42 (dk_at dksJ7_init_2_1 3 rfl rfl)
theorem dJ7_init_2_28 : decode cJ7_init_2 28 = .ok (.aload_n 3, 1) := dk_45 (dk_at dksJ7_init_2_1 4 rfl rfl)
theorem dJ7_init_2_29 : decode cJ7_init_2 29 = .ok (.iconst 0, 1) := dk_3 (dk_at dksJ7_init_2_1 5 rfl rfl)
theorem dJ7_init_2_30 : decode cJ7_init_2 30 = .ok (.iload 4, 2) := dk_21 4 (dk_at dksJ7_init_2_1 6 rfl rfl)
theorem dJ7_init_2_32 : decode cJ7_init_2 32 = .ok (.invokestatic 54, 3) := dk_184 0 54 (dk_at dksJ7_init_2_1 8 rfl rfl)
theorem dJ7_init_2_35 : decode cJ7_init_2 35 = .ok (.putfield 9, 3) := dk_181 0 9 (dk_at dksJ7_init_2_1 11 rfl rfl)
theorem dJ7_init_2_38 : decode cJ7_init_2 38 = .ok (.goto 59, 3) := dk_167 0 59 (dk_at dksJ7_init_2_1 14 rfl rfl)
theorem dJ7_init_2_41 : decode cJ7_init_2 41 = .ok (.getstatic 38, 3) := dk_178 0 38 (dk_at dksJ7_init_2_1 17 rfl rfl)
theorem dJ7_init_2_44 : decode cJ7_init_2 44 = .ok (.ifCond .eq 35, 3) := dk_153 0 35 (dk_at dksJ7_init_2_1 20 rfl rfl)
theorem dJ7_init_2_47 : decode cJ7_init_2 47 = .ok (.aload_n 1, 1) := dk_43 (dk_at dksJ7_init_2_1 23 rfl rfl)
theorem dJ7_init_2_48 : decode cJ7_init_2 48 = .ok (.getfield 1048, 3) := dk_180 4 24 (dk_at dksJ7_init_2_2 0 rfl rfl)
theorem dJ7_init_2_51 : decode cJ7_init_2 51 = .ok (.ifCond .eq 28, 3) := dk_153 0 28 (dk_at dksJ7_init_2_2 3 rfl rfl)
theorem dJ7_init_2_54 : decode cJ7_init_2 54 = .ok (.aload_n 0, 1) := dk_42 (dk_at dksJ7_init_2_2 6 rfl rfl)
theorem dJ7_init_2_55 : decode cJ7_init_2 55 = .ok (.aload_n 3, 1) := dk_45 (dk_at dksJ7_init_2_2 7 rfl rfl)
theorem dJ7_init_2_56 : decode cJ7_init_2 56 = .ok (.iconst 0, 1) := dk_3 (dk_at dksJ7_init_2_2 8 rfl rfl)
theorem dJ7_init_2_57 : decode cJ7_init_2 57 = .ok (.iload 4, 2) := dk_21 4 (dk_at dksJ7_init_2_2 9 rfl rfl)
theorem dJ7_init_2_59 : decode cJ7_init_2 59 = .ok (.invokestatic 1051, 3) := dk_184 4 27 (dk_at dksJ7_init_2_2 11 rfl rfl)
theorem dJ7_init_2_62 : decode cJ7_init_2 62 = .ok (.putfield 9, 3) := dk_181 0 9 (dk_at dksJ7_init_2_2 14 rfl rfl)
theorem dJ7_init_2_65 : decode cJ7_init_2 65 = .ok (.aload_n 0, 1) := dk_42 (dk_at dksJ7_init_2_2 17 rfl rfl)
theorem dJ7_init_2_66 : decode cJ7_init_2 66 = .ok (.aload_n 0, 1) := dk_42 (dk_at dksJ7_init_2_2 18 rfl rfl)
theorem dJ7_init_2_67 : decode cJ7_init_2 67 = .ok (.getfield 9, 3) := dk_180 0 9 (dk_at dksJ7_init_2_2 19 rfl rfl)
theorem dJ7_init_2_70 : decode cJ7_init_2 70 = .ok (.iload 4, 2) := dk_21 4 (dk_at dksJ7_init_2_2 22 rfl rfl)
theorem dJ7_init_2_72 : decode cJ7_init_2 72 = .ok (.invokestatic 47, 3) := dk_184 0 47 (dk_at dksJ7_init_2_3 0 rfl rfl)
theorem dJ7_init_2_75 : decode cJ7_init_2 75 = .ok (.putfield 15, 3) := dk_181 0 15 (dk_at dksJ7_init_2_3 3 rfl rfl)
theorem dJ7_init_2_78 : decode cJ7_init_2 78 = .ok (.return_, 1) := dk_177 (dk_at dksJ7_init_2_3 6 rfl rfl)
theorem dJ7_init_2_79 : decode cJ7_init_2 79 = .ok (.aload_n 0, 1) := dk_42 (dk_at dksJ7_init_2_3 7 rfl rfl)
theorem dJ7_init_2_80 : decode cJ7_init_2 80 = .ok (.iconst 1, 1) := dk_4 (dk_at dksJ7_init_2_3 8 rfl rfl)
theorem dJ7_init_2_81 : decode cJ7_init_2 81 = .ok (.putfield 15, 3) := dk_181 0 15 (dk_at dksJ7_init_2_3 9 rfl rfl)
theorem dJ7_init_2_84 : decode cJ7_init_2 84 = .ok (.aload_n 0, 1) := dk_42 (dk_at dksJ7_init_2_3 12 rfl rfl)
theorem dJ7_init_2_85 : decode cJ7_init_2 85 = .ok (.aload_n 3, 1) := dk_45 (dk_at dksJ7_init_2_3 13 rfl rfl)
theorem dJ7_init_2_86 : decode cJ7_init_2 86 = .ok (.iconst 0, 1) := dk_3 (dk_at dksJ7_init_2_3 14 rfl rfl)
theorem dJ7_init_2_87 : decode cJ7_init_2 87 = .ok (.iload 4, 2) := dk_21 4 (dk_at dksJ7_init_2_3 15 rfl rfl)
theorem dJ7_init_2_89 : decode cJ7_init_2 89 = .ok (.iconst 1, 1) := dk_4 (dk_at dksJ7_init_2_3 17 rfl rfl)
theorem dJ7_init_2_90 : decode cJ7_init_2 90 = .ok (.ishl, 1) := dk_120 (dk_at dksJ7_init_2_3 18 rfl rfl)
theorem dJ7_init_2_91 : decode cJ7_init_2 91 = .ok (.invokestatic 54, 3) := dk_184 0 54 (dk_at dksJ7_init_2_3 19 rfl rfl)
theorem dJ7_init_2_94 : decode cJ7_init_2 94 = .ok (.putfield 9, 3) := dk_181 0 9 (dk_at dksJ7_init_2_4 0 rfl rfl)
theorem dJ7_init_2_97 : decode cJ7_init_2 97 = .ok (.return_, 1) := dk_177 (dk_at dksJ7_init_2_4 3 rfl rfl)
abbrev cJ7_hashCode : ByteArray := prog_48_method_78_code
def dkwJ7_hashCode_2 : List UInt8 := [181, 0, 23, 167, 0, 8, 42, 27, 181, 0, 19, 27, 172]
abbrev dktJ7_hashCode_2 : List UInt8 := dkwJ7_hashCode_2 ++ []
def dkwJ7_hashCode_1 : List UInt8 := [180, 0, 9, 184, 2, 116, 167, 0, 10, 42, 180, 0, 9, 184, 2, 120, 60, 27, 154, 0, 11, 42, 4]
abbrev dktJ7_hashCode_1 : List UInt8 := dkwJ7_hashCode_1 ++ dktJ7_hashCode_2
def dkwJ7_hashCode_0 : List UInt8 := [42, 180, 0, 19, 60, 27, 154, 0, 52, 42, 180, 0, 23, 154, 0, 45, 42, 182, 1, 236, 153, 0, 13, 42]
abbrev dktJ7_hashCode_0 : List UInt8 := dkwJ7_hashCode_0 ++ dktJ7_hashCode_1
theorem dksJ7_hashCode_0 : cJ7_hashCode.data.toList.drop 0 = dktJ7_hashCode_0 := by decide +kernel
theorem dksJ7_hashCode_1 : cJ7_hashCode.data.toList.drop 24 = dktJ7_hashCode_1 := dk_seg dksJ7_hashCode_0 24 rfl rfl
theorem dksJ7_hashCode_2 : cJ7_hashCode.data.toList.drop 47 = dktJ7_hashCode_2 := dk_seg dksJ7_hashCode_1 23 rfl rfl
theorem dJ7_hashCode_0 : decode cJ7_hashCode 0 = .ok (.aload_n 0, 1) := dk_42 (dk_at dksJ7_hashCode_0 0 rfl rfl)
theorem dJ7_hashCode_1 : decode cJ7_hashCode 1 = .ok (.getfield 19, 3) := dk_180 0 19 (dk_at dksJ7_hashCode_0 1 rfl rfl)
theorem dJ7_hashCode_4 : decode cJ7_hashCode 4 = .ok (.istore_n 1, 1) := dk_60 (dk_at dksJ7_hashCode_0 4 rfl rfl)
theorem dJ7_hashCode_5 : decode cJ7_hashCode 5 = .ok (.iload_n 1, 1) := dk_27 (dk_at dksJ7_hashCode_0 5 rfl rfl)
theorem dJ7_hashCode_6 : decode cJ7_hashCode 6 = .ok (.ifCond .ne 52, 3) := dk_154 0 52 (dk_at dksJ7_hashCode_0 6 rfl rfl)
theorem dJ7_hashCode_9 : decode cJ7_hashCode 9 = .ok (.aload_n 0, 1) := dk_42 (dk_at dksJ7_hashCode_0 9 rfl rfl)
theorem dJ7_hashCode_10 : decode cJ7_hashCode 10 = .ok (.getfield 23, 3) := dk_180 0 23 (dk_at dksJ7_hashCode_0 10 rfl rfl)
theorem dJ7_hashCode_13 : decode cJ7_hashCode 13 = .ok (.ifCond .ne 45, 3) := dk_154 0 45 (dk_at dksJ7_hashCode_0 13 rfl rfl)
theorem dJ7_hashCode_16 : decode cJ7_hashCode 16 = .ok (.aload_n 0, 1) := dk_42 (dk_at dksJ7_hashCode_0 16 rfl rfl)
theorem dJ7_hashCode_17 : decode cJ7_hashCode 17 = .ok (.invokevirtual 492, 3) := dk_182 1 236 (dk_at dksJ7_hashCode_0 17 rfl rfl)
theorem dJ7_hashCode_20 : decode cJ7_hashCode 20 = .ok (.ifCond .eq 13, 3) := dk_153 0 13 (dk_at dksJ7_hashCode_0 20 rfl rfl)
theorem dJ7_hashCode_23 : decode cJ7_hashCode 23 = .ok (.aload_n 0, 1) := dk_42 (dk_at dksJ7_hashCode_0 23 rfl rfl)
theorem dJ7_hashCode_24 : decode cJ7_hashCode 24 = .ok (.getfield 9, 3) := dk_180 0 9 (dk_at dksJ7_hashCode_1 0 rfl rfl)
theorem dJ7_hashCode_27 : decode cJ7_hashCode 27 = .ok (.invokestatic 628, 3) := dk_184 2 116 (dk_at dksJ7_hashCode_1 3 rfl rfl)
theorem dJ7_hashCode_30 : decode cJ7_hashCode 30 = .ok (.goto 10, 3) := dk_167 0 10 (dk_at dksJ7_hashCode_1 6 rfl rfl)
theorem dJ7_hashCode_33 : decode cJ7_hashCode 33 = .ok (.aload_n 0, 1) := dk_42 (dk_at dksJ7_hashCode_1 9 rfl rfl)
theorem dJ7_hashCode_34 : decode cJ7_hashCode 34 = .ok (.getfield 9, 3) := dk_180 0 9 (dk_at dksJ7_hashCode_1 10 rfl rfl)
theorem dJ7_hashCode_37 : decode cJ7_hashCode 37 = .ok (.invokestatic 632, 3) := dk_184 2 120 (dk_at dksJ7_hashCode_1 13 rfl rfl)
theorem dJ7_hashCode_40 : decode cJ7_hashCode 40 = .ok (.istore_n 1, 1) := dk_60 (dk_at dksJ7_hashCode_1 16 rfl rfl)
theorem dJ7_hashCode_41 : decode cJ7_hashCode 41 = .ok (.iload_n 1, 1) := dk_27 (dk_at dksJ7_hashCode_1 17 rfl rfl)
theorem dJ7_hashCode_42 : decode cJ7_hashCode 42 = .ok (.ifCond .ne 11, 3) := dk_154 0 11 (dk_at dksJ7_hashCode_1 18 rfl rfl)
theorem dJ7_hashCode_45 : decode cJ7_hashCode 45 = .ok (.aload_n 0, 1) := dk_42 (dk_at dksJ7_hashCode_1 21 rfl rfl)
theorem dJ7_hashCode_46 : decode cJ7_hashCode 46 = .ok (.iconst 1, 1) := dk_4 (dk_at dksJ7_hashCode_1 22 rfl rfl)
theorem dJ7_hashCode_47 : decode cJ7_hashCode 47 = .ok (.putfield 23, 3) := dk_181 0 23 (dk_at dksJ7_hashCode_2 0 rfl rfl)
theorem dJ7_hashCode_50 : decode cJ7_hashCode 50 = .ok (.goto 8, 3) := dk_167 0 8 (dk_at dksJ7_hashCode_2 3 rfl rfl)
theorem dJ7_hashCode_53 : decode cJ7_hashCode 53 = .ok (.aload_n 0, 1) := dk_42 (dk_at dksJ7_hashCode_2 6 rfl rfl)
theorem dJ7_hashCode_54 : decode cJ7_hashCode 54 = .ok (.iload_n 1, 1) := dk_27 (dk_at dksJ7_hashCode_2 7 rfl rfl)
theorem dJ7_hashCode_55 : decode cJ7_hashCode 55 = .ok (.putfield 19, 3) := dk_181 0 19 (dk_at dksJ7_hashCode_2 8 rfl rfl)
theorem dJ7_hashCode_58 : decode cJ7_hashCode 58 = .ok (.iload_n 1, 1) := dk_27 (dk_at dksJ7_hashCode_2 11 rfl rfl)
theorem dJ7_hashCode_59 : decode cJ7_hashCode 59 = .ok (.ireturn, 1) := dk_172 (dk_at dksJ7_hashCode_2 12 rfl rfl)
abbrev cJ7_equals : ByteArray := prog_48_method_66_code
def dkwJ7_equals_2 : List UInt8 := [184, 2, 29, 153, 0, 7, 4, 167, 0, 4, 3, 172]
abbrev dktJ7_equals_2 : List UInt8 := dkwJ7_equals_2 ++ []
def dkwJ7_equals_1 : List UInt8 := [153, 0, 14, 42, 180, 0, 15, 44, 180, 0, 15, 160, 0, 21, 42, 180, 0, 9, 44, 180, 0, 9]
abbrev dktJ7_equals_1 : List UInt8 := dkwJ7_equals_1 ++ dktJ7_equals_2
def dkwJ7_equals_0 : List UInt8 := [42, 43, 166, 0, 5, 4, 172, 43, 193, 0, 10, 153, 0, 43, 43, 192, 0, 10, 77, 178, 0, 38]
abbrev dktJ7_equals_0 : List UInt8 := dkwJ7_equals_0 ++ dktJ7_equals_1
theorem dksJ7_equals_0 : cJ7_equals.data.toList.drop 0 = dktJ7_equals_0 := by decide +kernel
theorem dksJ7_equals_1 : cJ7_equals.data.toList.drop 22 = dktJ7_equals_1 := dk_seg dksJ7_equals_0 22 rfl rfl
theorem dksJ7_equals_2 : cJ7_equals.data.toList.drop 44 = dktJ7_equals_2 := dk_seg dksJ7_equals_1 22 rfl rfl
theorem dJ7_equals_0 : decode cJ7_equals 0 = .ok (.aload_n 0, 1) := dk_42 (dk_at dksJ7_equals_0 0 rfl rfl)
theorem dJ7_equals_1 : decode cJ7_equals 1 = .ok (.aload_n 1, 1) := dk_43 (dk_at dksJ7_equals_0 1 rfl rfl)
theorem dJ7_equals_2 : decode cJ7_equals 2 = .ok (.if_acmp .ne 5, 3) := dk_166 0 5 (dk_at dksJ7_equals_0 2 rfl rfl)
theorem dJ7_equals_5 : decode cJ7_equals 5 = .ok (.iconst 1, 1) := dk_4 (dk_at dksJ7_equals_0 5 rfl rfl)
theorem dJ7_equals_6 : decode cJ7_equals 6 = .ok (.ireturn, 1) := dk_172 (dk_at dksJ7_equals_0 6 rfl rfl)
theorem dJ7_equals_7 : decode cJ7_equals 7 = .ok (.aload_n 1, 1) := dk_43 (dk_at dksJ7_equals_0 7 rfl rfl)
theorem dJ7_equals_8 : decode cJ7_equals 8 = .ok (.instanceof 10, 3) := dk_193 0 10 (dk_at dksJ7_equals_0 8 rfl rfl)
theorem dJ7_equals_11 : decode cJ7_equals 11 = .ok (.ifCond .eq 43, 3) := dk_153 0 43 (dk_at dksJ7_equals_0 11 rfl rfl)
theorem dJ7_equals_14 : decode cJ7_equals 14 = .ok (.aload_n 1, 1) := dk_43 (dk_at dksJ7_equals_0 14 rfl rfl)
theorem dJ7_equals_15 : decode cJ7_equals 15 = .ok (.checkcast 10, 3) := dk_192 0 10 (dk_at dksJ7_equals_0 15 rfl rfl)
theorem dJ7_equals_18 : decode cJ7_equals 18 = .ok (.astore_n 2, 1) := dk_77 (dk_at dksJ7_equals_0 18 rfl rfl)
theorem dJ7_equals_19 : decode cJ7_equals 19 = .ok (.getstatic 38, 3) := dk_178 0 38 (dk_at dksJ7_equals_0 19 rfl rfl)
theorem dJ7_equals_22 : decode cJ7_equals 22 = .ok (.ifCond .eq 14, 3) := dk_153 0 14 (dk_at dksJ7_equals_1 0 rfl rfl)
theorem dJ7_equals_25 : decode cJ7_equals 25 = .ok (.aload_n 0, 1) := dk_42 (dk_at dksJ7_equals_1 3 rfl rfl)
theorem dJ7_equals_26 : decode cJ7_equals 26 = .ok (.getfield 15, 3) := dk_180 0 15 (dk_at dksJ7_equals_1 4 rfl rfl)
theorem dJ7_equals_29 : decode cJ7_equals 29 = .ok (.aload_n 2, 1) := dk_44 (dk_at dksJ7_equals_1 7 rfl rfl)
theorem dJ7_equals_30 : decode cJ7_equals 30 = .ok (.getfield 15, 3) := dk_180 0 15 (dk_at dksJ7_equals_1 8 rfl rfl)
theorem dJ7_equals_33 : decode cJ7_equals 33 = .ok (.if_icmp .ne 21, 3) := dk_160 0 21 (dk_at dksJ7_equals_1 11 rfl rfl)
theorem dJ7_equals_36 : decode cJ7_equals 36 = .ok (.aload_n 0, 1) := dk_42 (dk_at dksJ7_equals_1 14 rfl rfl)
theorem dJ7_equals_37 : decode cJ7_equals 37 = .ok (.getfield 9, 3) := dk_180 0 9 (dk_at dksJ7_equals_1 15 rfl rfl)
theorem dJ7_equals_40 : decode cJ7_equals 40 = .ok (.aload_n 2, 1) := dk_44 (dk_at dksJ7_equals_1 18 rfl rfl)
theorem dJ7_equals_41 : decode cJ7_equals 41 = .ok (.getfield 9, 3) := dk_180 0 9 (dk_at dksJ7_equals_1 19 rfl rfl)
theorem dJ7_equals_44 : decode cJ7_equals 44 = .ok (.invokestatic 541, 3) := dk_184 2 29 (dk_at dksJ7_equals_2 0 rfl rfl)
theorem dJ7_equals_47 : decode cJ7_equals 47 = .ok (.ifCond .eq 7, 3) := dk_153 0 7 (dk_at dksJ7_equals_2 3 rfl rfl)
theorem dJ7_equals_50 : decode cJ7_equals 50 = .ok (.iconst 1, 1) := dk_4 (dk_at dksJ7_equals_2 6 rfl rfl)
theorem dJ7_equals_51 : decode cJ7_equals 51 = .ok (.goto 4, 3) := dk_167 0 4 (dk_at dksJ7_equals_2 7 rfl rfl)
theorem dJ7_equals_54 : decode cJ7_equals 54 = .ok (.iconst 0, 1) := dk_3 (dk_at dksJ7_equals_2 10 rfl rfl)
theorem dJ7_equals_55 : decode cJ7_equals 55 = .ok (.ireturn, 1) := dk_172 (dk_at dksJ7_equals_2 11 rfl rfl)
abbrev cJ7_checkIndex : ByteArray := prog_48_method_155_code
def dkwJ7_checkIndex_0 : List UInt8 := [26, 27, 178, 4, 29, 184, 4, 35, 87, 177]
abbrev dktJ7_checkIndex_0 : List UInt8 := dkwJ7_checkIndex_0 ++ []
theorem dksJ7_checkIndex_0 : cJ7_checkIndex.data.toList.drop 0 = dktJ7_checkIndex_0 := by decide +kernel
theorem dJ7_checkIndex_0 : decode cJ7_checkIndex 0 = .ok (.iload_n 0, 1) := dk_26 (dk_at dksJ7_checkIndex_0 0 rfl rfl)
theorem dJ7_checkIndex_1 : decode cJ7_checkIndex 1 = .ok (.iload_n 1, 1) := dk_27 (dk_at dksJ7_checkIndex_0 1 rfl rfl)
theorem dJ7_checkIndex_2 : decode cJ7_checkIndex 2 = .ok (.getstatic 1053, 3) := dk_178 4 29 (dk_at dksJ7_checkIndex_0 2 rfl rfl)
theorem dJ7_checkIndex_5 : decode cJ7_checkIndex 5 = .ok (.invokestatic 1059, 3) := dk_184 4 35 (dk_at dksJ7_checkIndex_0 5 rfl rfl)
theorem dJ7_checkIndex_8 : decode cJ7_checkIndex 8 = .ok (.pop, 1) := dk_87 (dk_at dksJ7_checkIndex_0 8 rfl rfl)
theorem dJ7_checkIndex_9 : decode cJ7_checkIndex 9 = .ok (.return_, 1) := dk_177 (dk_at dksJ7_checkIndex_0 9 rfl rfl)
abbrev cJ7_charAt : ByteArray := prog_48_method_56_code
def dkwJ7_charAt_1 : List UInt8 := [172]
abbrev dktJ7_charAt_1 : List UInt8 := dkwJ7_charAt_1 ++ []
def dkwJ7_charAt_0 : List UInt8 := [42, 182, 1, 236, 153, 0, 12, 42, 180, 0, 9, 27, 184, 1, 239, 172, 42, 180, 0, 9, 27, 184, 1, 242]
abbrev dktJ7_charAt_0 : List UInt8 := dkwJ7_charAt_0 ++ dktJ7_charAt_1
theorem dksJ7_charAt_0 : cJ7_charAt.data.toList.drop 0 = dktJ7_charAt_0 := by decide +kernel
theorem dksJ7_charAt_1 : cJ7_charAt.data.toList.drop 24 = dktJ7_charAt_1 := dk_seg dksJ7_charAt_0 24 rfl rfl
theorem dJ7_charAt_0 : decode cJ7_charAt 0 = .ok (.aload_n 0, 1) := dk_42 (dk_at dksJ7_charAt_0 0 rfl rfl)
theorem dJ7_charAt_1 : decode cJ7_charAt 1 = .ok (.invokevirtual 492, 3) := dk_182 1 236 (dk_at dksJ7_charAt_0 1 rfl rfl)
theorem dJ7_charAt_4 : decode cJ7_charAt 4 = .ok (.ifCond .eq 12, 3) := dk_153 0 12 (dk_at dksJ7_charAt_0 4 rfl rfl)
theorem dJ7_charAt_7 : decode cJ7_charAt 7 = .ok (.aload_n 0, 1) := dk_42 (dk_at dksJ7_charAt_0 7 rfl rfl)
theorem dJ7_charAt_8 : decode cJ7_charAt 8 = .ok (.getfield 9, 3) := dk_180 0 9 (dk_at dksJ7_charAt_0 8 rfl rfl)
theorem dJ7_charAt_11 : decode cJ7_charAt 11 = .ok (.iload_n 1, 1) := dk_27 (dk_at dksJ7_charAt_0 11 rfl rfl)
theorem dJ7_charAt_12 : decode cJ7_charAt 12 = .ok (.invokestatic 495, 3) := dk_184 1 239 (dk_at dksJ7_charAt_0 12 rfl rfl)
theorem dJ7_charAt_15 : decode cJ7_charAt 15 = .ok (.ireturn, 1) := dk_172 (dk_at dksJ7_charAt_0 15 rfl rfl)
theorem dJ7_charAt_16 : decode cJ7_charAt 16 = .ok (.aload_n 0, 1) := dk_42 (dk_at dksJ7_charAt_0 16 rfl rfl)
theorem dJ7_charAt_17 : decode cJ7_charAt 17 = .ok (.getfield 9, 3) := dk_180 0 9 (dk_at dksJ7_charAt_0 17 rfl rfl)
theorem dJ7_charAt_20 : decode cJ7_charAt 20 = .ok (.iload_n 1, 1) := dk_27 (dk_at dksJ7_charAt_0 20 rfl rfl)
theorem dJ7_charAt_21 : decode cJ7_charAt 21 = .ok (.invokestatic 498, 3) := dk_184 1 242 (dk_at dksJ7_charAt_0 21 rfl rfl)
theorem dJ7_charAt_24 : decode cJ7_charAt 24 = .ok (.ireturn, 1) := dk_172 (dk_at dksJ7_charAt_1 0 rfl rfl)
abbrev cJ7_valueOf : ByteArray := prog_48_method_133_code
def dkwJ7_valueOf_0 : List UInt8 := [42, 199, 0, 9, 19, 3, 237, 167, 0, 7, 42, 182, 3, 239, 176]
abbrev dktJ7_valueOf_0 : List UInt8 := dkwJ7_valueOf_0 ++ []
theorem dksJ7_valueOf_0 : cJ7_valueOf.data.toList.drop 0 = dktJ7_valueOf_0 := by decide +kernel
theorem dJ7_valueOf_0 : decode cJ7_valueOf 0 = .ok (.aload_n 0, 1) := dk_42 (dk_at dksJ7_valueOf_0 0 rfl rfl)
theorem dJ7_valueOf_1 : decode cJ7_valueOf 1 = .ok (.ifnonnull 9, 3) := dk_199 0 9 (dk_at dksJ7_valueOf_0 1 rfl rfl)
theorem dJ7_valueOf_4 : decode cJ7_valueOf 4 = .ok (.ldc_w 1005, 3) := dk_19 3 237 (dk_at dksJ7_valueOf_0 4 rfl rfl)
theorem dJ7_valueOf_10 : decode cJ7_valueOf 10 = .ok (.aload_n 0, 1) := dk_42 (dk_at dksJ7_valueOf_0 10 rfl rfl)
theorem dJ7_valueOf_11 : decode cJ7_valueOf 11 = .ok (.invokevirtual 1007, 3) := dk_182 3 239 (dk_at dksJ7_valueOf_0 11 rfl rfl)
theorem dJ7_valueOf_14 : decode cJ7_valueOf 14 = .ok (.areturn, 1) := dk_176 (dk_at dksJ7_valueOf_0 14 rfl rfl)
abbrev cJ27_isEmpty : ByteArray := prog_63_method_3_code
def dkwJ27_isEmpty_0 : List UInt8 := [42, 182, 0, 19, 154, 0, 7, 4, 167, 0, 4, 3, 172]
abbrev dktJ27_isEmpty_0 : List UInt8 := dkwJ27_isEmpty_0 ++ []
theorem dksJ27_isEmpty_0 : cJ27_isEmpty.data.toList.drop 0 = dktJ27_isEmpty_0 := by decide +kernel
theorem dJ27_isEmpty_0 : decode cJ27_isEmpty 0 = .ok (.aload_n 0, 1) := dk_42 (dk_at dksJ27_isEmpty_0 0 rfl rfl)
theorem dJ27_isEmpty_1 : decode cJ27_isEmpty 1 = .ok (.invokevirtual 19, 3) := dk_182 0 19 (dk_at dksJ27_isEmpty_0 1 rfl rfl)
theorem dJ27_isEmpty_4 : decode cJ27_isEmpty 4 = .ok (.ifCond .ne 7, 3) := dk_154 0 7 (dk_at dksJ27_isEmpty_0 4 rfl rfl)
theorem dJ27_isEmpty_7 : decode cJ27_isEmpty 7 = .ok (.iconst 1, 1) := dk_4 (dk_at dksJ27_isEmpty_0 7 rfl rfl)
theorem dJ27_isEmpty_8 : decode cJ27_isEmpty 8 = .ok (.goto 4, 3) := dk_167 0 4 (dk_at dksJ27_isEmpty_0 8 rfl rfl)
theorem dJ27_isEmpty_11 : decode cJ27_isEmpty 11 = .ok (.iconst 0, 1) := dk_3 (dk_at dksJ27_isEmpty_0 11 rfl rfl)
theorem dJ27_isEmpty_12 : decode cJ27_isEmpty 12 = .ok (.ireturn, 1) := dk_172 (dk_at dksJ27_isEmpty_0 12 rfl rfl)
abbrev cJ44_init : ByteArray := prog_46_method_1_code
theorem dJ44_init_0 : decode cJ44_init 0 = .ok (.aload_n 0, 1) := by decide +kernel
theorem dJ44_init_1 : decode cJ44_init 1 = .ok (.invokespecial 1, 3) := by decide +kernel
theorem dJ44_init_4 : decode cJ44_init 4 = .ok (.return_, 1) := by decide +kernel
abbrev cJ4_listIterator : ByteArray := prog_74_method_49_code
def dkwJ4_listIterator_0 : List UInt8 := [42, 27, 182, 0, 76, 187, 0, 150, 89, 42, 27, 183, 0, 152, 176]
abbrev dktJ4_listIterator_0 : List UInt8 := dkwJ4_listIterator_0 ++ []
theorem dksJ4_listIterator_0 : cJ4_listIterator.data.toList.drop 0 = dktJ4_listIterator_0 := by decide +kernel
theorem dJ4_listIterator_0 : decode cJ4_listIterator 0 = .ok (.aload_n 0, 1) := dk_42 (dk_at dksJ4_listIterator_0 0 rfl rfl)
theorem dJ4_listIterator_1 : decode cJ4_listIterator 1 = .ok (.iload_n 1, 1) := dk_27 (dk_at dksJ4_listIterator_0 1 rfl rfl)
theorem dJ4_listIterator_2 : decode cJ4_listIterator 2 = .ok (.invokevirtual 76, 3) := dk_182 0 76 (dk_at dksJ4_listIterator_0 2 rfl rfl)
theorem dJ4_listIterator_5 : decode cJ4_listIterator 5 = .ok (.new 150, 3) := dk_187 0 150 (dk_at dksJ4_listIterator_0 5 rfl rfl)
theorem dJ4_listIterator_8 : decode cJ4_listIterator 8 = .ok (.dup, 1) := dk_89 (dk_at dksJ4_listIterator_0 8 rfl rfl)
theorem dJ4_listIterator_9 : decode cJ4_listIterator 9 = .ok (.aload_n 0, 1) := dk_42 (dk_at dksJ4_listIterator_0 9 rfl rfl)
theorem dJ4_listIterator_10 : decode cJ4_listIterator 10 = .ok (.iload_n 1, 1) := dk_27 (dk_at dksJ4_listIterator_0 10 rfl rfl)
theorem dJ4_listIterator_11 : decode cJ4_listIterator 11 = .ok (.invokespecial 152, 3) := dk_183 0 152 (dk_at dksJ4_listIterator_0 11 rfl rfl)
theorem dJ4_listIterator_14 : decode cJ4_listIterator 14 = .ok (.areturn, 1) := dk_176 (dk_at dksJ4_listIterator_0 14 rfl rfl)
abbrev cJ4_add : ByteArray := prog_74_method_17_code
def dkwJ4_add_0 : List UInt8 := [42, 43, 182, 0, 57, 4, 172]
abbrev dktJ4_add_0 : List UInt8 := dkwJ4_add_0 ++ []
theorem dksJ4_add_0 : cJ4_add.data.toList.drop 0 = dktJ4_add_0 := by decide +kernel
theorem dJ4_add_0 : decode cJ4_add 0 = .ok (.aload_n 0, 1) := dk_42 (dk_at dksJ4_add_0 0 rfl rfl)
theorem dJ4_add_1 : decode cJ4_add 1 = .ok (.aload_n 1, 1) := dk_43 (dk_at dksJ4_add_0 1 rfl rfl)
theorem dJ4_add_2 : decode cJ4_add 2 = .ok (.invokevirtual 57, 3) := dk_182 0 57 (dk_at dksJ4_add_0 2 rfl rfl)
theorem dJ4_add_5 : decode cJ4_add 5 = .ok (.iconst 1, 1) := dk_4 (dk_at dksJ4_add_0 5 rfl rfl)
theorem dJ4_add_6 : decode cJ4_add 6 = .ok (.ireturn, 1) := dk_172 (dk_at dksJ4_add_0 6 rfl rfl)
abbrev cJ4_clear : ByteArray := prog_74_method_21_code
def dkwJ4_clear_2 : List UInt8 := [181, 0, 7, 42, 89, 180, 0, 33, 4, 96, 181, 0, 33, 177]
abbrev dktJ4_clear_2 : List UInt8 := dkwJ4_clear_2 ++ []
def dkwJ4_clear_1 : List UInt8 := [43, 1, 181, 0, 30, 44, 76, 167, 255, 230, 42, 42, 1, 90, 181, 0, 27, 181, 0, 18, 42, 3]
abbrev dktJ4_clear_1 : List UInt8 := dkwJ4_clear_1 ++ dktJ4_clear_2
def dkwJ4_clear_0 : List UInt8 := [42, 180, 0, 18, 76, 43, 198, 0, 28, 43, 180, 0, 36, 77, 43, 1, 181, 0, 39, 43, 1, 181, 0, 36]
abbrev dktJ4_clear_0 : List UInt8 := dkwJ4_clear_0 ++ dktJ4_clear_1
theorem dksJ4_clear_0 : cJ4_clear.data.toList.drop 0 = dktJ4_clear_0 := by decide +kernel
theorem dksJ4_clear_1 : cJ4_clear.data.toList.drop 24 = dktJ4_clear_1 := dk_seg dksJ4_clear_0 24 rfl rfl
theorem dksJ4_clear_2 : cJ4_clear.data.toList.drop 46 = dktJ4_clear_2 := dk_seg dksJ4_clear_1 22 rfl rfl
theorem dJ4_clear_0 : decode cJ4_clear 0 = .ok (.aload_n 0, 1) := dk_42 (dk_at dksJ4_clear_0 0 rfl rfl)
theorem dJ4_clear_1 : decode cJ4_clear 1 = .ok (.getfield 18, 3) := dk_180 0 18 (dk_at dksJ4_clear_0 1 rfl rfl)
theorem dJ4_clear_4 : decode cJ4_clear 4 = .ok (.astore_n 1, 1) := dk_76 (dk_at dksJ4_clear_0 4 rfl rfl)
theorem dJ4_clear_5 : decode cJ4_clear 5 = .ok (.aload_n 1, 1) := dk_43 (dk_at dksJ4_clear_0 5 rfl rfl)
theorem dJ4_clear_6 : decode cJ4_clear 6 = .ok (.ifnull 28, 3) := dk_198 0 28 (dk_at dksJ4_clear_0 6 rfl rfl)
theorem dJ4_clear_9 : decode cJ4_clear 9 = .ok (.aload_n 1, 1) := dk_43 (dk_at dksJ4_clear_0 9 rfl rfl)
theorem dJ4_clear_10 : decode cJ4_clear 10 = .ok (.getfield 36, 3) := dk_180 0 36 (dk_at dksJ4_clear_0 10 rfl rfl)
theorem dJ4_clear_13 : decode cJ4_clear 13 = .ok (.astore_n 2, 1) := dk_77 (dk_at dksJ4_clear_0 13 rfl rfl)
theorem dJ4_clear_14 : decode cJ4_clear 14 = .ok (.aload_n 1, 1) := dk_43 (dk_at dksJ4_clear_0 14 rfl rfl)
theorem dJ4_clear_15 : decode cJ4_clear 15 = .ok (.aconst_null, 1) := dk_1 (dk_at dksJ4_clear_0 15 rfl rfl)
theorem dJ4_clear_16 : decode cJ4_clear 16 = .ok (.putfield 39, 3) := dk_181 0 39 (dk_at dksJ4_clear_0 16 rfl rfl)
theorem dJ4_clear_19 : decode cJ4_clear 19 = .ok (.aload_n 1, 1) := dk_43 (dk_at dksJ4_clear_0 19 rfl rfl)
theorem dJ4_clear_20 : decode cJ4_clear 20 = .ok (.aconst_null, 1) := dk_1 (dk_at dksJ4_clear_0 20 rfl rfl)
theorem dJ4_clear_21 : decode cJ4_clear 21 = .ok (.putfield 36, 3) := dk_181 0 36 (dk_at dksJ4_clear_0 21 rfl rfl)
theorem dJ4_clear_24 : decode cJ4_clear 24 = .ok (.aload_n 1, 1) := dk_43 (dk_at dksJ4_clear_1 0 rfl rfl)
theorem dJ4_clear_25 : decode cJ4_clear 25 = .ok (.aconst_null, 1) := dk_1 (dk_at dksJ4_clear_1 1 rfl rfl)
theorem dJ4_clear_26 : decode cJ4_clear 26 = .ok (.putfield 30, 3) := dk_181 0 30 (dk_at dksJ4_clear_1 2 rfl rfl)
theorem dJ4_clear_29 : decode cJ4_clear 29 = .ok (.aload_n 2, 1) := dk_44 (dk_at dksJ4_clear_1 5 rfl rfl)
theorem dJ4_clear_30 : decode cJ4_clear 30 = .ok (.astore_n 1, 1) := dk_76 (dk_at dksJ4_clear_1 6 rfl rfl)
theorem dJ4_clear_31 : decode cJ4_clear 31 = .ok (.goto (-26), 3) := dk_167 255 230 (dk_at dksJ4_clear_1 7 rfl rfl)
theorem dJ4_clear_34 : decode cJ4_clear 34 = .ok (.aload_n 0, 1) := dk_42 (dk_at dksJ4_clear_1 10 rfl rfl)
theorem dJ4_clear_35 : decode cJ4_clear 35 = .ok (.aload_n 0, 1) := dk_42 (dk_at dksJ4_clear_1 11 rfl rfl)
theorem dJ4_clear_36 : decode cJ4_clear 36 = .ok (.aconst_null, 1) := dk_1 (dk_at dksJ4_clear_1 12 rfl rfl)
theorem dJ4_clear_37 : decode cJ4_clear 37 = .ok (.dup_x1, 1) := dk_90 (dk_at dksJ4_clear_1 13 rfl rfl)
theorem dJ4_clear_38 : decode cJ4_clear 38 = .ok (.putfield 27, 3) := dk_181 0 27 (dk_at dksJ4_clear_1 14 rfl rfl)
theorem dJ4_clear_41 : decode cJ4_clear 41 = .ok (.putfield 18, 3) := dk_181 0 18 (dk_at dksJ4_clear_1 17 rfl rfl)
theorem dJ4_clear_44 : decode cJ4_clear 44 = .ok (.aload_n 0, 1) := dk_42 (dk_at dksJ4_clear_1 20 rfl rfl)
theorem dJ4_clear_45 : decode cJ4_clear 45 = .ok (.iconst 0, 1) := dk_3 (dk_at dksJ4_clear_1 21 rfl rfl)
theorem dJ4_clear_46 : decode cJ4_clear 46 = .ok (.putfield 7, 3) := dk_181 0 7 (dk_at dksJ4_clear_2 0 rfl rfl)
theorem dJ4_clear_49 : decode cJ4_clear 49 = .ok (.aload_n 0, 1) := dk_42 (dk_at dksJ4_clear_2 3 rfl rfl)
theorem dJ4_clear_50 : decode cJ4_clear 50 = .ok (.dup, 1) := dk_89 (dk_at dksJ4_clear_2 4 rfl rfl)
theorem dJ4_clear_51 : decode cJ4_clear 51 = .ok (.getfield 33, 3) := dk_180 0 33 (dk_at dksJ4_clear_2 5 rfl rfl)
theorem dJ4_clear_54 : decode cJ4_clear 54 = .ok (.iconst 1, 1) := dk_4 (dk_at dksJ4_clear_2 8 rfl rfl)
theorem dJ4_clear_55 : decode cJ4_clear 55 = .ok (.iadd, 1) := dk_96 (dk_at dksJ4_clear_2 9 rfl rfl)
theorem dJ4_clear_56 : decode cJ4_clear 56 = .ok (.putfield 33, 3) := dk_181 0 33 (dk_at dksJ4_clear_2 10 rfl rfl)
theorem dJ4_clear_59 : decode cJ4_clear 59 = .ok (.return_, 1) := dk_177 (dk_at dksJ4_clear_2 13 rfl rfl)
abbrev cJ4_add_2 : ByteArray := prog_74_method_24_code
def dkwJ4_add_2_1 : List UInt8 := [27, 182, 0, 86, 182, 0, 93, 177]
abbrev dktJ4_add_2_1 : List UInt8 := dkwJ4_add_2_1 ++ []
def dkwJ4_add_2_0 : List UInt8 := [42, 27, 182, 0, 76, 27, 42, 180, 0, 7, 160, 0, 11, 42, 44, 182, 0, 57, 167, 0, 13, 42, 44, 42]
abbrev dktJ4_add_2_0 : List UInt8 := dkwJ4_add_2_0 ++ dktJ4_add_2_1
theorem dksJ4_add_2_0 : cJ4_add_2.data.toList.drop 0 = dktJ4_add_2_0 := by decide +kernel
theorem dksJ4_add_2_1 : cJ4_add_2.data.toList.drop 24 = dktJ4_add_2_1 := dk_seg dksJ4_add_2_0 24 rfl rfl
theorem dJ4_add_2_0 : decode cJ4_add_2 0 = .ok (.aload_n 0, 1) := dk_42 (dk_at dksJ4_add_2_0 0 rfl rfl)
theorem dJ4_add_2_1 : decode cJ4_add_2 1 = .ok (.iload_n 1, 1) := dk_27 (dk_at dksJ4_add_2_0 1 rfl rfl)
theorem dJ4_add_2_2 : decode cJ4_add_2 2 = .ok (.invokevirtual 76, 3) := dk_182 0 76 (dk_at dksJ4_add_2_0 2 rfl rfl)
theorem dJ4_add_2_5 : decode cJ4_add_2 5 = .ok (.iload_n 1, 1) := dk_27 (dk_at dksJ4_add_2_0 5 rfl rfl)
theorem dJ4_add_2_6 : decode cJ4_add_2 6 = .ok (.aload_n 0, 1) := dk_42 (dk_at dksJ4_add_2_0 6 rfl rfl)
theorem dJ4_add_2_7 : decode cJ4_add_2 7 = .ok (.getfield 7, 3) := dk_180 0 7 (dk_at dksJ4_add_2_0 7 rfl rfl)
theorem dJ4_add_2_10 : decode cJ4_add_2 10 = .ok (.if_icmp .ne 11, 3) := dk_160 0 11 (dk_at dksJ4_add_2_0 10 rfl rfl)
theorem dJ4_add_2_13 : decode cJ4_add_2 13 = .ok (.aload_n 0, 1) := dk_42 (dk_at dksJ4_add_2_0 13 rfl rfl)
theorem dJ4_add_2_14 : decode cJ4_add_2 14 = .ok (.aload_n 2, 1) := dk_44 (dk_at dksJ4_add_2_0 14 rfl rfl)
theorem dJ4_add_2_15 : decode cJ4_add_2 15 = .ok (.invokevirtual 57, 3) := dk_182 0 57 (dk_at dksJ4_add_2_0 15 rfl rfl)
theorem dJ4_add_2_18 : decode cJ4_add_2 18 = .ok (.goto 13, 3) := dk_167 0 13 (dk_at dksJ4_add_2_0 18 rfl rfl)
theorem dJ4_add_2_21 : decode cJ4_add_2 21 = .ok (.aload_n 0, 1) := dk_42 (dk_at dksJ4_add_2_0 21 rfl rfl)
theorem dJ4_add_2_22 : decode cJ4_add_2 22 = .ok (.aload_n 2, 1) := dk_44 (dk_at dksJ4_add_2_0 22 rfl rfl)
theorem dJ4_add_2_23 : decode cJ4_add_2 23 = .ok (.aload_n 0, 1) := dk_42 (dk_at dksJ4_add_2_0 23 rfl rfl)
theorem dJ4_add_2_24 : decode cJ4_add_2 24 = .ok (.iload_n 1, 1) := dk_27 (dk_at dksJ4_add_2_1 0 rfl rfl)
theorem dJ4_add_2_25 : decode cJ4_add_2 25 = .ok (.invokevirtual 86, 3) := dk_182 0 86 (dk_at dksJ4_add_2_1 1 rfl rfl)
theorem dJ4_add_2_28 : decode cJ4_add_2 28 = .ok (.invokevirtual 93, 3) := dk_182 0 93 (dk_at dksJ4_add_2_1 4 rfl rfl)
theorem dJ4_add_2_31 : decode cJ4_add_2 31 = .ok (.return_, 1) := dk_177 (dk_at dksJ4_add_2_1 7 rfl rfl)
abbrev cJ4_linkBefore : ByteArray := prog_74_method_5_code
def dkwJ4_linkBefore_2 : List UInt8 := [96, 181, 0, 7, 42, 89, 180, 0, 33, 4, 96, 181, 0, 33, 177]
abbrev dktJ4_linkBefore_2 : List UInt8 := dkwJ4_linkBefore_2 ++ []
def dkwJ4_linkBefore_1 : List UInt8 := [199, 0, 12, 42, 25, 4, 181, 0, 18, 167, 0, 9, 45, 25, 4, 181, 0, 36, 42, 89, 180, 0, 7, 4]
abbrev dktJ4_linkBefore_1 : List UInt8 := dkwJ4_linkBefore_1 ++ dktJ4_linkBefore_2
def dkwJ4_linkBefore_0 : List UInt8 := [44, 180, 0, 30, 78, 187, 0, 22, 89, 45, 43, 44, 183, 0, 24, 58, 4, 44, 25, 4, 181, 0, 30, 45]
abbrev dktJ4_linkBefore_0 : List UInt8 := dkwJ4_linkBefore_0 ++ dktJ4_linkBefore_1
theorem dksJ4_linkBefore_0 : cJ4_linkBefore.data.toList.drop 0 = dktJ4_linkBefore_0 := by decide +kernel
theorem dksJ4_linkBefore_1 : cJ4_linkBefore.data.toList.drop 24 = dktJ4_linkBefore_1 := dk_seg dksJ4_linkBefore_0 24 rfl rfl
theorem dksJ4_linkBefore_2 : cJ4_linkBefore.data.toList.drop 48 = dktJ4_linkBefore_2 := dk_seg dksJ4_linkBefore_1 24 rfl rfl
theorem dJ4_linkBefore_0 : decode cJ4_linkBefore 0 = .ok (.aload_n 2, 1) := dk_44 (dk_at dksJ4_linkBefore_0 0 rfl rfl)
theorem dJ4_linkBefore_1 : decode cJ4_linkBefore 1 = .ok (.getfield 30, 3) := dk_180 0 30 (dk_at dksJ4_linkBefore_0 1 rfl rfl)
theorem dJ4_linkBefore_4 : decode cJ4_linkBefore 4 = .ok (.astore_n 3, 1) := dk_78 (dk_at dksJ4_linkBefore_0 4 rfl rfl)
theorem dJ4_linkBefore_5 : decode cJ4_linkBefore 5 = .ok (.new 22, 3) := dk_187 0 22 (dk_at dksJ4_linkBefore_0 5 rfl rfl)
theorem dJ4_linkBefore_8 : decode cJ4_linkBefore 8 = .ok (.dup, 1) := dk_89 (dk_at dksJ4_linkBefore_0 8 rfl rfl)
theorem dJ4_linkBefore_9 : decode cJ4_linkBefore 9 = .ok (.aload_n 3, 1) := dk_45 (dk_at dksJ4_linkBefore_0 9 rfl rfl)
theorem dJ4_linkBefore_10 : decode cJ4_linkBefore 10 = .ok (.aload_n 1, 1) := dk_43 (dk_at dksJ4_linkBefore_0 10 rfl rfl)
theorem dJ4_linkBefore_11 : decode cJ4_linkBefore 11 = .ok (.aload_n 2, 1) := dk_44 (dk_at dksJ4_linkBefore_0 11 rfl rfl)
theorem dJ4_linkBefore_12 : decode cJ4_linkBefore 12 = .ok (.invokespecial 24, 3) := dk_183 0 24 (dk_at dksJ4_linkBefore_0 12 rfl rfl)
theorem dJ4_linkBefore_15 : decode cJ4_linkBefore 15 = .ok (.astore 4, 2) := dk_58 4 (dk_at dksJ4_linkBefore_0 15 rfl rfl)
theorem dJ4_linkBefore_17 : decode cJ4_linkBefore 17 = .ok (.aload_n 2, 1) := dk_44 (dk_at dksJ4_linkBefore_0 17 rfl rfl)
theorem dJ4_linkBefore_18 : decode cJ4_linkBefore 18 = .ok (.aload 4, 2) := dk_25 4 (dk_at dksJ4_linkBefore_0 18 rfl rfl)
theorem dJ4_linkBefore_20 : decode cJ4_linkBefore 20 = .ok (.putfield 30, 3) := dk_181 0 30 (dk_at dksJ4_linkBefore_0 20 rfl rfl)
theorem dJ4_linkBefore_23 : decode cJ4_linkBefore 23 = .ok (.aload_n 3, 1) := dk_45 (dk_at dksJ4_linkBefore_0 23 rfl rfl)
theorem dJ4_linkBefore_24 : decode cJ4_linkBefore 24 = .ok (.ifnonnull 12, 3) := dk_199 0 12 (dk_at dksJ4_linkBefore_1 0 rfl rfl)
theorem dJ4_linkBefore_27 : decode cJ4_linkBefore 27 = .ok (.aload_n 0, 1) := dk_42 (dk_at dksJ4_linkBefore_1 3 rfl rfl)
theorem dJ4_linkBefore_28 : decode cJ4_linkBefore 28 = .ok (.aload 4, 2) := dk_25 4 (dk_at dksJ4_linkBefore_1 4 rfl rfl)
theorem dJ4_linkBefore_30 : decode cJ4_linkBefore 30 = .ok (.putfield 18, 3) := dk_181 0 18 (dk_at dksJ4_linkBefore_1 6 rfl rfl)
theorem dJ4_linkBefore_33 : decode cJ4_linkBefore 33 = .ok (.goto 9, 3) := dk_167 0 9 (dk_at dksJ4_linkBefore_1 9 rfl rfl)
theorem dJ4_linkBefore_36 : decode cJ4_linkBefore 36 = .ok (.aload_n 3, 1) := dk_45 (dk_at dksJ4_linkBefore_1 12 rfl rfl)
theorem dJ4_linkBefore_37 : decode cJ4_linkBefore 37 = .ok (.aload 4, 2) := dk_25 4 (dk_at dksJ4_linkBefore_1 13 rfl rfl)
theorem dJ4_linkBefore_39 : decode cJ4_linkBefore 39 = .ok (.putfield 36, 3) := dk_181 0 36 (dk_at dksJ4_linkBefore_1 15 rfl rfl)
theorem dJ4_linkBefore_42 : decode cJ4_linkBefore 42 = .ok (.aload_n 0, 1) := dk_42 (dk_at dksJ4_linkBefore_1 18 rfl rfl)
theorem dJ4_linkBefore_43 : decode cJ4_linkBefore 43 = .ok (.dup, 1) := dk_89 (dk_at dksJ4_linkBefore_1 19 rfl rfl)
theorem dJ4_linkBefore_44 : decode cJ4_linkBefore 44 = .ok (.getfield 7, 3) := dk_180 0 7 (dk_at dksJ4_linkBefore_1 20 rfl rfl)
theorem dJ4_linkBefore_47 : decode cJ4_linkBefore 47 = .ok (.iconst 1, 1) := dk_4 (dk_at dksJ4_linkBefore_1 23 rfl rfl)
theorem dJ4_linkBefore_48 : decode cJ4_linkBefore 48 = .ok (.iadd, 1) := dk_96 (dk_at dksJ4_linkBefore_2 0 rfl rfl)
theorem dJ4_linkBefore_49 : decode cJ4_linkBefore 49 = .ok (.putfield 7, 3) := dk_181 0 7 (dk_at dksJ4_linkBefore_2 1 rfl rfl)
theorem dJ4_linkBefore_52 : decode cJ4_linkBefore 52 = .ok (.aload_n 0, 1) := dk_42 (dk_at dksJ4_linkBefore_2 4 rfl rfl)
theorem dJ4_linkBefore_53 : decode cJ4_linkBefore 53 = .ok (.dup, 1) := dk_89 (dk_at dksJ4_linkBefore_2 5 rfl rfl)
theorem dJ4_linkBefore_54 : decode cJ4_linkBefore 54 = .ok (.getfield 33, 3) := dk_180 0 33 (dk_at dksJ4_linkBefore_2 6 rfl rfl)
theorem dJ4_linkBefore_57 : decode cJ4_linkBefore 57 = .ok (.iconst 1, 1) := dk_4 (dk_at dksJ4_linkBefore_2 9 rfl rfl)
theorem dJ4_linkBefore_58 : decode cJ4_linkBefore 58 = .ok (.iadd, 1) := dk_96 (dk_at dksJ4_linkBefore_2 10 rfl rfl)
theorem dJ4_linkBefore_59 : decode cJ4_linkBefore 59 = .ok (.putfield 33, 3) := dk_181 0 33 (dk_at dksJ4_linkBefore_2 11 rfl rfl)
theorem dJ4_linkBefore_62 : decode cJ4_linkBefore 62 = .ok (.return_, 1) := dk_177 (dk_at dksJ4_linkBefore_2 14 rfl rfl)
abbrev cJ24_init : ByteArray := prog_75_method_1_code
def dkwJ24_init_1 : List UInt8 := [180, 0, 22, 160, 0, 7, 1, 167, 0, 8, 43, 28, 182, 0, 25, 181, 0, 29, 42, 28, 181, 0, 33, 177]
abbrev dktJ24_init_1 : List UInt8 := dkwJ24_init_1 ++ []
def dkwJ24_init_0 : List UInt8 := [42, 43, 181, 0, 1, 42, 183, 0, 7, 42, 42, 180, 0, 1, 180, 0, 13, 181, 0, 19, 42, 28, 43]
abbrev dktJ24_init_0 : List UInt8 := dkwJ24_init_0 ++ dktJ24_init_1
theorem dksJ24_init_0 : cJ24_init.data.toList.drop 0 = dktJ24_init_0 := by decide +kernel
theorem dksJ24_init_1 : cJ24_init.data.toList.drop 23 = dktJ24_init_1 := dk_seg dksJ24_init_0 23 rfl rfl
theorem dJ24_init_0 : decode cJ24_init 0 = .ok (.aload_n 0, 1) := dk_42 (dk_at dksJ24_init_0 0 rfl rfl)
theorem dJ24_init_1 : decode cJ24_init 1 = .ok (.aload_n 1, 1) := dk_43 (dk_at dksJ24_init_0 1 rfl rfl)
theorem dJ24_init_2 : decode cJ24_init 2 = .ok (.putfield 1, 3) := dk_181 0 1 (dk_at dksJ24_init_0 2 rfl rfl)
theorem dJ24_init_5 : decode cJ24_init 5 = .ok (.aload_n 0, 1) := dk_42 (dk_at dksJ24_init_0 5 rfl rfl)
theorem dJ24_init_6 : decode cJ24_init 6 = .ok (.invokespecial 7, 3) := dk_183 0 7 (dk_at dksJ24_init_0 6 rfl rfl)
theorem dJ24_init_9 : decode cJ24_init 9 = .ok (.aload_n 0, 1) := dk_42 (dk_at dksJ24_init_0 9 rfl rfl)
theorem dJ24_init_10 : decode cJ24_init 10 = .ok (.aload_n 0, 1) := dk_42 (dk_at dksJ24_init_0 10 rfl rfl)
theorem dJ24_init_11 : decode cJ24_init 11 = .ok (.getfield 1, 3) := dk_180 0 1 (dk_at dksJ24_init_0 11 rfl rfl)
theorem dJ24_init_14 : decode cJ24_init 14 = .ok (.getfield 13, 3) := dk_180 0 13 (dk_at dksJ24_init_0 14 rfl rfl)
theorem dJ24_init_17 : decode cJ24_init 17 = .ok (.putfield 19, 3) := dk_181 0 19 (dk_at dksJ24_init_0 17 rfl rfl)
theorem dJ24_init_20 : decode cJ24_init 20 = .ok (.aload_n 0, 1) := dk_42 (dk_at dksJ24_init_0 20 rfl rfl)
theorem dJ24_init_21 : decode cJ24_init 21 = .ok (.iload_n 2, 1) := dk_28 (dk_at dksJ24_init_0 21 rfl rfl)
theorem dJ24_init_22 : decode cJ24_init 22 = .ok (.aload_n 1, 1) := dk_43 (dk_at dksJ24_init_0 22 rfl rfl)
theorem dJ24_init_23 : decode cJ24_init 23 = .ok (.getfield 22, 3) := dk_180 0 22 (dk_at dksJ24_init_1 0 rfl rfl)
theorem dJ24_init_26 : decode cJ24_init 26 = .ok (.if_icmp .ne 7, 3) := dk_160 0 7 (dk_at dksJ24_init_1 3 rfl rfl)
theorem dJ24_init_29 : decode cJ24_init 29 = .ok (.aconst_null, 1) := dk_1 (dk_at dksJ24_init_1 6 rfl rfl)
theorem dJ24_init_30 : decode cJ24_init 30 = .ok (.goto 8, 3) := dk_167 0 8 (dk_at dksJ24_init_1 7 rfl rfl)
theorem dJ24_init_33 : decode cJ24_init 33 = .ok (.aload_n 1, 1) := dk_43 (dk_at dksJ24_init_1 10 rfl rfl)
theorem dJ24_init_34 : decode cJ24_init 34 = .ok (.iload_n 2, 1) := dk_28 (dk_at dksJ24_init_1 11 rfl rfl)
theorem dJ24_init_35 : decode cJ24_init 35 = .ok (.invokevirtual 25, 3) := dk_182 0 25 (dk_at dksJ24_init_1 12 rfl rfl)
theorem dJ24_init_38 : decode cJ24_init 38 = .ok (.putfield 29, 3) := dk_181 0 29 (dk_at dksJ24_init_1 15 rfl rfl)
theorem dJ24_init_41 : decode cJ24_init 41 = .ok (.aload_n 0, 1) := dk_42 (dk_at dksJ24_init_1 18 rfl rfl)
theorem dJ24_init_42 : decode cJ24_init 42 = .ok (.iload_n 2, 1) := dk_28 (dk_at dksJ24_init_1 19 rfl rfl)
theorem dJ24_init_43 : decode cJ24_init 43 = .ok (.putfield 33, 3) := dk_181 0 33 (dk_at dksJ24_init_1 20 rfl rfl)
theorem dJ24_init_46 : decode cJ24_init 46 = .ok (.return_, 1) := dk_177 (dk_at dksJ24_init_1 23 rfl rfl)
abbrev cJ1_listIterator : ByteArray := prog_60_method_12_code
def dkwJ1_listIterator_0 : List UInt8 := [42, 3, 182, 0, 47, 176]
abbrev dktJ1_listIterator_0 : List UInt8 := dkwJ1_listIterator_0 ++ []
theorem dksJ1_listIterator_0 : cJ1_listIterator.data.toList.drop 0 = dktJ1_listIterator_0 := by decide +kernel
theorem dJ1_listIterator_0 : decode cJ1_listIterator 0 = .ok (.aload_n 0, 1) := dk_42 (dk_at dksJ1_listIterator_0 0 rfl rfl)
theorem dJ1_listIterator_1 : decode cJ1_listIterator 1 = .ok (.iconst 0, 1) := dk_3 (dk_at dksJ1_listIterator_0 1 rfl rfl)
theorem dJ1_listIterator_2 : decode cJ1_listIterator 2 = .ok (.invokevirtual 47, 3) := dk_182 0 47 (dk_at dksJ1_listIterator_0 2 rfl rfl)
theorem dJ1_listIterator_5 : decode cJ1_listIterator 5 = .ok (.areturn, 1) := dk_176 (dk_at dksJ1_listIterator_0 5 rfl rfl)
abbrev cJ3_iterator : ByteArray := prog_64_method_7_code
theorem dJ3_iterator_0 : decode cJ3_iterator 0 = .ok (.aload_n 0, 1) := by decide +kernel
theorem dJ3_iterator_1 : decode cJ3_iterator 1 = .ok (.invokevirtual 65, 3) := by decide +kernel
theorem dJ3_iterator_4 : decode cJ3_iterator 4 = .ok (.areturn, 1) := by decide +kernel
abbrev cJ5_init : ByteArray := prog_27_method_2_code
def dkwJ5_init_1 : List UInt8 := [167, 0, 16, 42, 27, 184, 0, 26, 181, 0, 15, 42, 4, 181, 0, 22, 177]
abbrev dktJ5_init_1 : List UInt8 := dkwJ5_init_1 ++ []
def dkwJ5_init_0 : List UInt8 := [42, 183, 0, 3, 178, 0, 18, 153, 0, 18, 42, 27, 188, 8, 181, 0, 15, 42, 3, 181, 0, 22]
abbrev dktJ5_init_0 : List UInt8 := dkwJ5_init_0 ++ dktJ5_init_1
theorem dksJ5_init_0 : cJ5_init.data.toList.drop 0 = dktJ5_init_0 := by decide +kernel
theorem dksJ5_init_1 : cJ5_init.data.toList.drop 22 = dktJ5_init_1 := dk_seg dksJ5_init_0 22 rfl rfl
theorem dJ5_init_0 : decode cJ5_init 0 = .ok (.aload_n 0, 1) := dk_42 (dk_at dksJ5_init_0 0 rfl rfl)
theorem dJ5_init_1 : decode cJ5_init 1 = .ok (.invokespecial 3, 3) := dk_183 0 3 (dk_at dksJ5_init_0 1 rfl rfl)
theorem dJ5_init_4 : decode cJ5_init 4 = .ok (.getstatic 18, 3) := dk_178 0 18 (dk_at dksJ5_init_0 4 rfl rfl)
theorem dJ5_init_7 : decode cJ5_init 7 = .ok (.ifCond .eq 18, 3) := dk_153 0 18 (dk_at dksJ5_init_0 7 rfl rfl)
theorem dJ5_init_10 : decode cJ5_init 10 = .ok (.aload_n 0, 1) := dk_42 (dk_at dksJ5_init_0 10 rfl rfl)
theorem dJ5_init_11 : decode cJ5_init 11 = .ok (.iload_n 1, 1) := dk_27 (dk_at dksJ5_init_0 11 rfl rfl)
theorem dJ5_init_12 : decode cJ5_init 12 = .ok (.newarray .byte, 2) := dk_188_8 (dk_at dksJ5_init_0 12 rfl rfl)
theorem dJ5_init_14 : decode cJ5_init 14 = .ok (.putfield 15, 3) := dk_181 0 15 (dk_at dksJ5_init_0 14 rfl rfl)
theorem dJ5_init_17 : decode cJ5_init 17 = .ok (.aload_n 0, 1) := dk_42 (dk_at dksJ5_init_0 17 rfl rfl)
theorem dJ5_init_18 : decode cJ5_init 18 = .ok (.iconst 0, 1) := dk_3 (dk_at dksJ5_init_0 18 rfl rfl)
theorem dJ5_init_19 : decode cJ5_init 19 = .ok (.putfield 22, 3) := dk_181 0 22 (dk_at dksJ5_init_0 19 rfl rfl)
theorem dJ5_init_22 : decode cJ5_init 22 = .ok (.goto 16, 3) := dk_167 0 16 (dk_at dksJ5_init_1 0 rfl rfl)
theorem dJ5_init_25 : decode cJ5_init 25 = .ok (.aload_n 0, 1) := dk_42 (dk_at dksJ5_init_1 3 rfl rfl)
theorem dJ5_init_26 : decode cJ5_init 26 = .ok (.iload_n 1, 1) := dk_27 (dk_at dksJ5_init_1 4 rfl rfl)
theorem dJ5_init_27 : decode cJ5_init 27 = .ok (.invokestatic 26, 3) := dk_184 0 26 (dk_at dksJ5_init_1 5 rfl rfl)
theorem dJ5_init_30 : decode cJ5_init 30 = .ok (.putfield 15, 3) := dk_181 0 15 (dk_at dksJ5_init_1 8 rfl rfl)
theorem dJ5_init_33 : decode cJ5_init 33 = .ok (.aload_n 0, 1) := dk_42 (dk_at dksJ5_init_1 11 rfl rfl)
theorem dJ5_init_34 : decode cJ5_init 34 = .ok (.iconst 1, 1) := dk_4 (dk_at dksJ5_init_1 12 rfl rfl)
theorem dJ5_init_35 : decode cJ5_init 35 = .ok (.putfield 22, 3) := dk_181 0 22 (dk_at dksJ5_init_1 13 rfl rfl)
theorem dJ5_init_38 : decode cJ5_init 38 = .ok (.return_, 1) := dk_177 (dk_at dksJ5_init_1 16 rfl rfl)
abbrev cJ5_append : ByteArray := prog_27_method_22_code
def dkwJ5_append_1 : List UInt8 := [42, 42, 180, 0, 79, 43, 182, 0, 208, 42, 89, 180, 0, 79, 28, 96, 181, 0, 79, 42, 176]
abbrev dktJ5_append_1 : List UInt8 := dkwJ5_append_1 ++ []
def dkwJ5_append_0 : List UInt8 := [43, 199, 0, 8, 42, 182, 0, 204, 176, 43, 182, 0, 32, 61, 42, 42, 180, 0, 79, 28, 96, 182, 0, 100]
abbrev dktJ5_append_0 : List UInt8 := dkwJ5_append_0 ++ dktJ5_append_1
theorem dksJ5_append_0 : cJ5_append.data.toList.drop 0 = dktJ5_append_0 := by decide +kernel
theorem dksJ5_append_1 : cJ5_append.data.toList.drop 24 = dktJ5_append_1 := dk_seg dksJ5_append_0 24 rfl rfl
theorem dJ5_append_0 : decode cJ5_append 0 = .ok (.aload_n 1, 1) := dk_43 (dk_at dksJ5_append_0 0 rfl rfl)
theorem dJ5_append_1 : decode cJ5_append 1 = .ok (.ifnonnull 8, 3) := dk_199 0 8 (dk_at dksJ5_append_0 1 rfl rfl)
theorem dJ5_append_4 : decode cJ5_append 4 = .ok (.aload_n 0, 1) := dk_42 (dk_at dksJ5_append_0 4 rfl rfl)
theorem dJ5_append_5 : decode cJ5_append 5 = .ok (.invokevirtual 204, 3) := dk_182 0 204 (dk_at dksJ5_append_0 5 rfl rfl)
theorem dJ5_append_8 : decode cJ5_append 8 = .ok (.areturn, 1) := dk_176 (dk_at dksJ5_append_0 8 rfl rfl)
theorem dJ5_append_9 : decode cJ5_append 9 = .ok (.aload_n 1, 1) := dk_43 (dk_at dksJ5_append_0 9 rfl rfl)
theorem dJ5_append_10 : decode cJ5_append 10 = .ok (.invokevirtual 32, 3) := dk_182 0 32 (dk_at dksJ5_append_0 10 rfl rfl)
theorem dJ5_append_13 : decode cJ5_append 13 = .ok (.istore_n 2, 1) := dk_61 (dk_at dksJ5_append_0 13 rfl rfl)
theorem dJ5_append_14 : decode cJ5_append 14 = .ok (.aload_n 0, 1) := dk_42 (dk_at dksJ5_append_0 14 rfl rfl)
theorem dJ5_append_15 : decode cJ5_append 15 = .ok (.aload_n 0, 1) := dk_42 (dk_at dksJ5_append_0 15 rfl rfl)
theorem dJ5_append_16 : decode cJ5_append 16 = .ok (.getfield 79, 3) := dk_180 0 79 (dk_at dksJ5_append_0 16 rfl rfl)
theorem dJ5_append_19 : decode cJ5_append 19 = .ok (.iload_n 2, 1) := dk_28 (dk_at dksJ5_append_0 19 rfl rfl)
theorem dJ5_append_20 : decode cJ5_append 20 = .ok (.iadd, 1) := dk_96 (dk_at dksJ5_append_0 20 rfl rfl)
theorem dJ5_append_21 : decode cJ5_append 21 = .ok (.invokevirtual 100, 3) := dk_182 0 100 (dk_at dksJ5_append_0 21 rfl rfl)
theorem dJ5_append_24 : decode cJ5_append 24 = .ok (.aload_n 0, 1) := dk_42 (dk_at dksJ5_append_1 0 rfl rfl)
theorem dJ5_append_25 : decode cJ5_append 25 = .ok (.aload_n 0, 1) := dk_42 (dk_at dksJ5_append_1 1 rfl rfl)
theorem dJ5_append_26 : decode cJ5_append 26 = .ok (.getfield 79, 3) := dk_180 0 79 (dk_at dksJ5_append_1 2 rfl rfl)
theorem dJ5_append_29 : decode cJ5_append 29 = .ok (.aload_n 1, 1) := dk_43 (dk_at dksJ5_append_1 5 rfl rfl)
theorem dJ5_append_30 : decode cJ5_append 30 = .ok (.invokevirtual 208, 3) := dk_182 0 208 (dk_at dksJ5_append_1 6 rfl rfl)
theorem dJ5_append_33 : decode cJ5_append 33 = .ok (.aload_n 0, 1) := dk_42 (dk_at dksJ5_append_1 9 rfl rfl)
theorem dJ5_append_34 : decode cJ5_append 34 = .ok (.dup, 1) := dk_89 (dk_at dksJ5_append_1 10 rfl rfl)
theorem dJ5_append_35 : decode cJ5_append 35 = .ok (.getfield 79, 3) := dk_180 0 79 (dk_at dksJ5_append_1 11 rfl rfl)
theorem dJ5_append_38 : decode cJ5_append 38 = .ok (.iload_n 2, 1) := dk_28 (dk_at dksJ5_append_1 14 rfl rfl)
theorem dJ5_append_39 : decode cJ5_append 39 = .ok (.iadd, 1) := dk_96 (dk_at dksJ5_append_1 15 rfl rfl)
theorem dJ5_append_40 : decode cJ5_append 40 = .ok (.putfield 79, 3) := dk_181 0 79 (dk_at dksJ5_append_1 16 rfl rfl)
theorem dJ5_append_43 : decode cJ5_append 43 = .ok (.aload_n 0, 1) := dk_42 (dk_at dksJ5_append_1 19 rfl rfl)
theorem dJ5_append_44 : decode cJ5_append 44 = .ok (.areturn, 1) := dk_176 (dk_at dksJ5_append_1 20 rfl rfl)
abbrev cJ5_appendNull : ByteArray := prog_27_method_26_code
def dkwJ5_appendNull_3 : List UInt8 := [184, 0, 226, 60, 42, 27, 181, 0, 79, 42, 176]
abbrev dktJ5_appendNull_3 : List UInt8 := dkwJ5_appendNull_3 ++ []
def dkwJ5_appendNull_2 : List UInt8 := [16, 108, 84, 44, 27, 132, 1, 1, 16, 108, 84, 167, 0, 17, 44, 27, 16, 110, 16, 117, 16, 108, 16, 108]
abbrev dktJ5_appendNull_2 : List UInt8 := dkwJ5_appendNull_2 ++ dktJ5_appendNull_3
def dkwJ5_appendNull_1 : List UInt8 := [153, 0, 38, 44, 27, 132, 1, 1, 16, 110, 84, 44, 27, 132, 1, 1, 16, 117, 84, 44, 27, 132, 1, 1]
abbrev dktJ5_appendNull_1 : List UInt8 := dkwJ5_appendNull_1 ++ dktJ5_appendNull_2
def dkwJ5_appendNull_0 : List UInt8 := [42, 42, 180, 0, 79, 7, 96, 182, 0, 100, 42, 180, 0, 79, 60, 42, 180, 0, 15, 77, 42, 182, 0, 83]
abbrev dktJ5_appendNull_0 : List UInt8 := dkwJ5_appendNull_0 ++ dktJ5_appendNull_1
theorem dksJ5_appendNull_0 : cJ5_appendNull.data.toList.drop 0 = dktJ5_appendNull_0 := by decide +kernel
theorem dksJ5_appendNull_1 : cJ5_appendNull.data.toList.drop 24 = dktJ5_appendNull_1 := dk_seg dksJ5_appendNull_0 24 rfl rfl
theorem dksJ5_appendNull_2 : cJ5_appendNull.data.toList.drop 48 = dktJ5_appendNull_2 := dk_seg dksJ5_appendNull_1 24 rfl rfl
theorem dksJ5_appendNull_3 : cJ5_appendNull.data.toList.drop 72 = dktJ5_appendNull_3 := dk_seg dksJ5_appendNull_2 24 rfl rfl
theorem dJ5_appendNull_0 : decode cJ5_appendNull 0 = .ok (.aload_n 0, 1) := dk_42 (dk_at dksJ5_appendNull_0 0 rfl rfl)
theorem dJ5_appendNull_1 : decode cJ5_appendNull 1 = .ok (.aload_n 0, 1) := dk_42 (dk_at dksJ5_appendNull_0 1 rfl rfl)
theorem dJ5_appendNull_2 : decode cJ5_appendNull 2 = .ok (.getfield 79, 3) := dk_180 0 79 (dk_at dksJ5_appendNull_0 2 rfl rfl)
theorem dJ5_appendNull_5 : decode cJ5_appendNull 5 = .ok (.iconst 4, 1) := dk_7 (dk_at dksJ5_appendNull_0 5 rfl rfl)
theorem dJ5_appendNull_6 : decode cJ5_appendNull 6 = .ok (.iadd, 1) := dk_96 (dk_at dksJ5_appendNull_0 6 rfl rfl)
theorem dJ5_appendNull_7 : decode cJ5_appendNull 7 = .ok (.invokevirtual 100, 3) := dk_182 0 100 (dk_at dksJ5_appendNull_0 7 rfl rfl)
theorem dJ5_appendNull_10 : decode cJ5_appendNull 10 = .ok (.aload_n 0, 1) := dk_42 (dk_at dksJ5_appendNull_0 10 rfl rfl)
theorem dJ5_appendNull_11 : decode cJ5_appendNull 11 = .ok (.getfield 79, 3) := dk_180 0 79 (dk_at dksJ5_appendNull_0 11 rfl rfl)
theorem dJ5_appendNull_14 : decode cJ5_appendNull 14 = .ok (.istore_n 1, 1) := dk_60 (dk_at dksJ5_appendNull_0 14 rfl rfl)
theorem dJ5_appendNull_15 : decode cJ5_appendNull 15 = .ok (.aload_n 0, 1) := dk_42 (dk_at dksJ5_appendNull_0 15 rfl rfl)
theorem dJ5_appendNull_16 : decode cJ5_appendNull 16 = .ok (.getfield 15, 3) := dk_180 0 15 (dk_at dksJ5_appendNull_0 16 rfl rfl)
theorem dJ5_appendNull_19 : decode cJ5_appendNull 19 = .ok (.astore_n 2, 1) := dk_77 (dk_at dksJ5_appendNull_0 19 rfl rfl)
theorem dJ5_appendNull_20 : decode cJ5_appendNull 20 = .ok (.aload_n 0, 1) := dk_42 (dk_at dksJ5_appendNull_0 20 rfl rfl)
theorem dJ5_appendNull_21 : decode cJ5_appendNull 21 = .ok (.invokevirtual 83, 3) := dk_182 0 83 (dk_at dksJ5_appendNull_0 21 rfl rfl)
theorem dJ5_appendNull_24 : decode cJ5_appendNull 24 = .ok (.ifCond .eq 38, 3) := dk_153 0 38 (dk_at dksJ5_appendNull_1 0 rfl rfl)
theorem dJ5_appendNull_27 : decode cJ5_appendNull 27 = .ok (.aload_n 2, 1) := dk_44 (dk_at dksJ5_appendNull_1 3 rfl rfl)
theorem dJ5_appendNull_28 : decode cJ5_appendNull 28 = .ok (.iload_n 1, 1) := dk_27 (dk_at dksJ5_appendNull_1 4 rfl rfl)
theorem dJ5_appendNull_29 : decode cJ5_appendNull 29 = .ok (.iinc 1 1, 3) := dk_132 1 1 (dk_at dksJ5_appendNull_1 5 rfl rfl)
theorem dJ5_appendNull_32 : decode cJ5_appendNull 32 = .ok (.bipush 110, 2) := dk_16 110 (dk_at dksJ5_appendNull_1 8 rfl rfl)
theorem dJ5_appendNull_34 : decode cJ5_appendNull 34 = .ok (.bastore, 1) := dk_84 (dk_at dksJ5_appendNull_1 10 rfl rfl)
theorem dJ5_appendNull_35 : decode cJ5_appendNull 35 = .ok (.aload_n 2, 1) := dk_44 (dk_at dksJ5_appendNull_1 11 rfl rfl)
theorem dJ5_appendNull_36 : decode cJ5_appendNull 36 = .ok (.iload_n 1, 1) := dk_27 (dk_at dksJ5_appendNull_1 12 rfl rfl)
theorem dJ5_appendNull_37 : decode cJ5_appendNull 37 = .ok (.iinc 1 1, 3) := dk_132 1 1 (dk_at dksJ5_appendNull_1 13 rfl rfl)
theorem dJ5_appendNull_40 : decode cJ5_appendNull 40 = .ok (.bipush 117, 2) := dk_16 117 (dk_at dksJ5_appendNull_1 16 rfl rfl)
theorem dJ5_appendNull_42 : decode cJ5_appendNull 42 = .ok (.bastore, 1) := dk_84 (dk_at dksJ5_appendNull_1 18 rfl rfl)
theorem dJ5_appendNull_43 : decode cJ5_appendNull 43 = .ok (.aload_n 2, 1) := dk_44 (dk_at dksJ5_appendNull_1 19 rfl rfl)
theorem dJ5_appendNull_44 : decode cJ5_appendNull 44 = .ok (.iload_n 1, 1) := dk_27 (dk_at dksJ5_appendNull_1 20 rfl rfl)
theorem dJ5_appendNull_45 : decode cJ5_appendNull 45 = .ok (.iinc 1 1, 3) := dk_132 1 1 (dk_at dksJ5_appendNull_1 21 rfl rfl)
theorem dJ5_appendNull_48 : decode cJ5_appendNull 48 = .ok (.bipush 108, 2) := dk_16 108 (dk_at dksJ5_appendNull_2 0 rfl rfl)
theorem dJ5_appendNull_50 : decode cJ5_appendNull 50 = .ok (.bastore, 1) := dk_84 (dk_at dksJ5_appendNull_2 2 rfl rfl)
theorem dJ5_appendNull_51 : decode cJ5_appendNull 51 = .ok (.aload_n 2, 1) := dk_44 (dk_at dksJ5_appendNull_2 3 rfl rfl)
theorem dJ5_appendNull_52 : decode cJ5_appendNull 52 = .ok (.iload_n 1, 1) := dk_27 (dk_at dksJ5_appendNull_2 4 rfl rfl)
theorem dJ5_appendNull_53 : decode cJ5_appendNull 53 = .ok (.iinc 1 1, 3) := dk_132 1 1 (dk_at dksJ5_appendNull_2 5 rfl rfl)
theorem dJ5_appendNull_56 : decode cJ5_appendNull 56 = .ok (.bipush 108, 2) := dk_16 108 (dk_at dksJ5_appendNull_2 8 rfl rfl)
theorem dJ5_appendNull_58 : decode cJ5_appendNull 58 = .ok (.bastore, 1) := dk_84 (dk_at dksJ5_appendNull_2 10 rfl rfl)
theorem dJ5_appendNull_59 : decode cJ5_appendNull 59 = .ok (.goto 17, 3) := dk_167 0 17 (dk_at dksJ5_appendNull_2 11 rfl rfl)
theorem dJ5_appendNull_62 : decode cJ5_appendNull 62 = .ok (.aload_n 2, 1) := dk_44 (dk_at dksJ5_appendNull_2 14 rfl rfl)
theorem dJ5_appendNull_63 : decode cJ5_appendNull 63 = .ok (.iload_n 1, 1) := dk_27 (dk_at dksJ5_appendNull_2 15 rfl rfl)
theorem dJ5_appendNull_64 : decode cJ5_appendNull 64 = .ok (.bipush 110, 2) := dk_16 110 (dk_at dksJ5_appendNull_2 16 rfl rfl)
theorem dJ5_appendNull_66 : decode cJ5_appendNull 66 = .ok (.bipush 117, 2) := dk_16 117 (dk_at dksJ5_appendNull_2 18 rfl rfl)
theorem dJ5_appendNull_68 : decode cJ5_appendNull 68 = .ok (.bipush 108, 2) := dk_16 108 (dk_at dksJ5_appendNull_2 20 rfl rfl)
theorem dJ5_appendNull_70 : decode cJ5_appendNull 70 = .ok (.bipush 108, 2) := dk_16 108 (dk_at dksJ5_appendNull_2 22 rfl rfl)
theorem dJ5_appendNull_72 : decode cJ5_appendNull 72 = .ok (.invokestatic 226, 3) := dk_184 0 226 (dk_at dksJ5_appendNull_3 0 rfl rfl)
theorem dJ5_appendNull_75 : decode cJ5_appendNull 75 = .ok (.istore_n 1, 1) := dk_60 (dk_at dksJ5_appendNull_3 3 rfl rfl)
theorem dJ5_appendNull_76 : decode cJ5_appendNull 76 = .ok (.aload_n 0, 1) := dk_42 (dk_at dksJ5_appendNull_3 4 rfl rfl)
theorem dJ5_appendNull_77 : decode cJ5_appendNull 77 = .ok (.iload_n 1, 1) := dk_27 (dk_at dksJ5_appendNull_3 5 rfl rfl)
theorem dJ5_appendNull_78 : decode cJ5_appendNull 78 = .ok (.putfield 79, 3) := dk_181 0 79 (dk_at dksJ5_appendNull_3 6 rfl rfl)
theorem dJ5_appendNull_81 : decode cJ5_appendNull 81 = .ok (.aload_n 0, 1) := dk_42 (dk_at dksJ5_appendNull_3 9 rfl rfl)
theorem dJ5_appendNull_82 : decode cJ5_appendNull 82 = .ok (.areturn, 1) := dk_176 (dk_at dksJ5_appendNull_3 10 rfl rfl)
abbrev cJ5_ensureCapacityInternal : ByteArray := prog_27_method_9_code
def dkwJ5_ensureCapacityInternal_1 : List UInt8 := [182, 0, 104, 42, 180, 0, 22, 120, 184, 0, 108, 181, 0, 15, 177]
abbrev dktJ5_ensureCapacityInternal_1 : List UInt8 := dkwJ5_ensureCapacityInternal_1 ++ []
def dkwJ5_ensureCapacityInternal_0 : List UInt8 := [42, 180, 0, 15, 190, 42, 180, 0, 22, 122, 61, 27, 28, 100, 158, 0, 24, 42, 42, 180, 0, 15, 42, 27]
abbrev dktJ5_ensureCapacityInternal_0 : List UInt8 := dkwJ5_ensureCapacityInternal_0 ++ dktJ5_ensureCapacityInternal_1
theorem dksJ5_ensureCapacityInternal_0 : cJ5_ensureCapacityInternal.data.toList.drop 0 = dktJ5_ensureCapacityInternal_0 := by decide +kernel
theorem dksJ5_ensureCapacityInternal_1 : cJ5_ensureCapacityInternal.data.toList.drop 24 = dktJ5_ensureCapacityInternal_1 := dk_seg dksJ5_ensureCapacityInternal_0 24 rfl rfl
theorem dJ5_ensureCapacityInternal_0 : decode cJ5_ensureCapacityInternal 0 = .ok (.aload_n 0, 1) := dk_42 (dk_at dksJ5_ensureCapacityInternal_0 0 rfl rfl)
theorem dJ5_ensureCapacityInternal_1 : decode cJ5_ensureCapacityInternal 1 = .ok (.getfield 15, 3) := dk_180 0 15 (dk_at dksJ5_ensureCapacityInternal_0 1 rfl rfl)
theorem dJ5_ensureCapacityInternal_4 : decode cJ5_ensureCapacityInternal 4 = .ok (.arraylength, 1) := dk_190 (dk_at dksJ5_ensureCapacityInternal_0 4 rfl rfl)
theorem dJ5_ensureCapacityInternal_5 : decode cJ5_ensureCapacityInternal 5 = .ok (.aload_n 0, 1) := dk_42 (dk_at dksJ5_ensureCapacityInternal_0 5 rfl rfl)
theorem dJ5_ensureCapacityInternal_6 : decode cJ5_ensureCapacityInternal 6 = .ok (.getfield 22, 3) := dk_180 0 22 (dk_at dksJ5_ensureCapacityInternal_0 6 rfl rfl)
theorem dJ5_ensureCapacityInternal_9 : decode cJ5_ensureCapacityInternal 9 = .ok (.ishr, 1) := dk_122 (dk_at dksJ5_ensureCapacityInternal_0 9 rfl rfl)
theorem dJ5_ensureCapacityInternal_10 : decode cJ5_ensureCapacityInternal 10 = .ok (.istore_n 2, 1) := dk_61 (dk_at dksJ5_ensureCapacityInternal_0 10 rfl rfl)
theorem dJ5_ensureCapacityInternal_11 : decode cJ5_ensureCapacityInternal 11 = .ok (.iload_n 1, 1) := dk_27 (dk_at dksJ5_ensureCapacityInternal_0 11 rfl rfl)
theorem dJ5_ensureCapacityInternal_12 : decode cJ5_ensureCapacityInternal 12 = .ok (.iload_n 2, 1) := dk_28 (dk_at dksJ5_ensureCapacityInternal_0 12 rfl rfl)
theorem dJ5_ensureCapacityInternal_13 : decode cJ5_ensureCapacityInternal 13 = .ok (.isub, 1) := dk_100 (dk_at dksJ5_ensureCapacityInternal_0 13 rfl rfl)
theorem dJ5_ensureCapacityInternal_14 : decode cJ5_ensureCapacityInternal 14 = .ok (.ifCond .le 24, 3) := dk_158 0 24 (dk_at dksJ5_ensureCapacityInternal_0 14 rfl rfl)
theorem dJ5_ensureCapacityInternal_17 : decode cJ5_ensureCapacityInternal 17 = .ok (.aload_n 0, 1) := dk_42 (dk_at dksJ5_ensureCapacityInternal_0 17 rfl rfl)
theorem dJ5_ensureCapacityInternal_18 : decode cJ5_ensureCapacityInternal 18 = .ok (.aload_n 0, 1) := dk_42 (dk_at dksJ5_ensureCapacityInternal_0 18 rfl rfl)
theorem dJ5_ensureCapacityInternal_19 : decode cJ5_ensureCapacityInternal 19 = .ok (.getfield 15, 3) := dk_180 0 15 (dk_at dksJ5_ensureCapacityInternal_0 19 rfl rfl)
theorem dJ5_ensureCapacityInternal_22 : decode cJ5_ensureCapacityInternal 22 = .ok (.aload_n 0, 1) := dk_42 (dk_at dksJ5_ensureCapacityInternal_0 22 rfl rfl)
theorem dJ5_ensureCapacityInternal_23 : decode cJ5_ensureCapacityInternal 23 = .ok (.iload_n 1, 1) := dk_27 (dk_at dksJ5_ensureCapacityInternal_0 23 rfl rfl)
theorem dJ5_ensureCapacityInternal_24 : decode cJ5_ensureCapacityInternal 24 = .ok (.invokevirtual 104, 3) := dk_182 0 104 (dk_at dksJ5_ensureCapacityInternal_1 0 rfl rfl)
theorem dJ5_ensureCapacityInternal_27 : decode cJ5_ensureCapacityInternal 27 = .ok (.aload_n 0, 1) := dk_42 (dk_at dksJ5_ensureCapacityInternal_1 3 rfl rfl)
theorem dJ5_ensureCapacityInternal_28 : decode cJ5_ensureCapacityInternal 28 = .ok (.getfield 22, 3) := dk_180 0 22 (dk_at dksJ5_ensureCapacityInternal_1 4 rfl rfl)
theorem dJ5_ensureCapacityInternal_31 : decode cJ5_ensureCapacityInternal 31 = .ok (.ishl, 1) := dk_120 (dk_at dksJ5_ensureCapacityInternal_1 7 rfl rfl)
theorem dJ5_ensureCapacityInternal_32 : decode cJ5_ensureCapacityInternal 32 = .ok (.invokestatic 108, 3) := dk_184 0 108 (dk_at dksJ5_ensureCapacityInternal_1 8 rfl rfl)
theorem dJ5_ensureCapacityInternal_35 : decode cJ5_ensureCapacityInternal 35 = .ok (.putfield 15, 3) := dk_181 0 15 (dk_at dksJ5_ensureCapacityInternal_1 11 rfl rfl)
theorem dJ5_ensureCapacityInternal_38 : decode cJ5_ensureCapacityInternal 38 = .ok (.return_, 1) := dk_177 (dk_at dksJ5_ensureCapacityInternal_1 14 rfl rfl)
abbrev cJ5_newCapacity : ByteArray := prog_27_method_10_code
def dkwJ5_newCapacity_2 : List UInt8 := [183, 0, 124, 191, 21, 5, 42, 180, 0, 22, 122, 172]
abbrev dktJ5_newCapacity_2 : List UInt8 := dkwJ5_newCapacity_2 ++ []
def dkwJ5_newCapacity_1 : List UInt8 := [180, 0, 22, 120, 96, 184, 0, 114, 54, 5, 21, 5, 18, 39, 160, 0, 13, 187, 0, 120, 89, 18, 122]
abbrev dktJ5_newCapacity_1 : List UInt8 := dkwJ5_newCapacity_1 ++ dktJ5_newCapacity_2
def dkwJ5_newCapacity_0 : List UInt8 := [42, 180, 0, 15, 190, 61, 27, 42, 180, 0, 22, 120, 62, 29, 28, 100, 54, 4, 28, 21, 4, 28, 5, 42]
abbrev dktJ5_newCapacity_0 : List UInt8 := dkwJ5_newCapacity_0 ++ dktJ5_newCapacity_1
theorem dksJ5_newCapacity_0 : cJ5_newCapacity.data.toList.drop 0 = dktJ5_newCapacity_0 := by decide +kernel
theorem dksJ5_newCapacity_1 : cJ5_newCapacity.data.toList.drop 24 = dktJ5_newCapacity_1 := dk_seg dksJ5_newCapacity_0 24 rfl rfl
theorem dksJ5_newCapacity_2 : cJ5_newCapacity.data.toList.drop 47 = dktJ5_newCapacity_2 := dk_seg dksJ5_newCapacity_1 23 rfl rfl
theorem dJ5_newCapacity_0 : decode cJ5_newCapacity 0 = .ok (.aload_n 0, 1) := dk_42 (dk_at dksJ5_newCapacity_0 0 rfl rfl)
theorem dJ5_newCapacity_1 : decode cJ5_newCapacity 1 = .ok (.getfield 15, 3) := dk_180 0 15 (dk_at dksJ5_newCapacity_0 1 rfl rfl)
theorem dJ5_newCapacity_4 : decode cJ5_newCapacity 4 = .ok (.arraylength, 1) := dk_190 (dk_at dksJ5_newCapacity_0 4 rfl rfl)
theorem dJ5_newCapacity_5 : decode cJ5_newCapacity 5 = .ok (.istore_n 2, 1) := dk_61 (dk_at dksJ5_newCapacity_0 5 rfl rfl)
theorem dJ5_newCapacity_6 : decode cJ5_newCapacity 6 = .ok (.iload_n 1, 1) := dk_27 (dk_at dksJ5_newCapacity_0 6 rfl rfl)
theorem dJ5_newCapacity_7 : decode cJ5_newCapacity 7 = .ok (.aload_n 0, 1) := dk_42 (dk_at dksJ5_newCapacity_0 7 rfl rfl)
theorem dJ5_newCapacity_8 : decode cJ5_newCapacity 8 = .ok (.getfield 22, 3) := dk_180 0 22 (dk_at dksJ5_newCapacity_0 8 rfl rfl)
theorem dJ5_newCapacity_11 : decode cJ5_newCapacity 11 = .ok (.ishl, 1) := dk_120 (dk_at dksJ5_newCapacity_0 11 rfl rfl)
theorem dJ5_newCapacity_12 : decode cJ5_newCapacity 12 = .ok (.istore_n 3, 1) := dk_62 (dk_at dksJ5_newCapacity_0 12 rfl rfl)
theorem dJ5_newCapacity_13 : decode cJ5_newCapacity 13 = .ok (.iload_n 3, 1) := dk_29 (dk_at dksJ5_newCapacity_0 13 rfl rfl)
theorem dJ5_newCapacity_14 : decode cJ5_newCapacity 14 = .ok (.iload_n 2, 1) := dk_28 (dk_at dksJ5_newCapacity_0 14 rfl rfl)
theorem dJ5_newCapacity_15 : decode cJ5_newCapacity 15 = .ok (.isub, 1) := dk_100 (dk_at dksJ5_newCapacity_0 15 rfl rfl)
theorem dJ5_newCapacity_16 : decode cJ5_newCapacity 16 = .ok (.istore 4, 2) := dk_54 4 (dk_at dksJ5_newCapacity_0 16 rfl rfl)
theorem dJ5_newCapacity_18 : decode cJ5_newCapacity 18 = .ok (.iload_n 2, 1) := dk_28 (dk_at dksJ5_newCapacity_0 18 rfl rfl)
theorem dJ5_newCapacity_19 : decode cJ5_newCapacity 19 = .ok (.iload 4, 2) := dk_21 4 (dk_at dksJ5_newCapacity_0 19 rfl rfl)
theorem dJ5_newCapacity_21 : decode cJ5_newCapacity 21 = .ok (.iload_n 2, 1) := dk_28 (dk_at dksJ5_newCapacity_0 21 rfl rfl)
theorem dJ5_newCapacity_22 : decode cJ5_newCapacity 22 = .ok (.iconst 2, 1) := dk_5 (dk_at dksJ5_newCapacity_0 22 rfl rfl)
theorem dJ5_newCapacity_23 : decode cJ5_newCapacity 23 = .ok (.aload_n 0, 1) := dk_42 (dk_at dksJ5_newCapacity_0 23 rfl rfl)
theorem dJ5_newCapacity_24 : decode cJ5_newCapacity 24 = .ok (.getfield 22, 3) := dk_180 0 22 (dk_at dksJ5_newCapacity_1 0 rfl rfl)
theorem dJ5_newCapacity_27 : decode cJ5_newCapacity 27 = .ok (.ishl, 1) := dk_120 (dk_at dksJ5_newCapacity_1 3 rfl rfl)
theorem dJ5_newCapacity_28 : decode cJ5_newCapacity 28 = .ok (.iadd, 1) := dk_96 (dk_at dksJ5_newCapacity_1 4 rfl rfl)
theorem dJ5_newCapacity_29 : decode cJ5_newCapacity 29 = .ok (.invokestatic 114, 3) := dk_184 0 114 (dk_at dksJ5_newCapacity_1 5 rfl rfl)
theorem dJ5_newCapacity_32 : decode cJ5_newCapacity 32 = .ok (.istore 5, 2) := dk_54 5 (dk_at dksJ5_newCapacity_1 8 rfl rfl)
theorem dJ5_newCapacity_34 : decode cJ5_newCapacity 34 = .ok (.iload 5, 2) := dk_21 5 (dk_at dksJ5_newCapacity_1 10 rfl rfl)
theorem dJ5_newCapacity_36 : decode cJ5_newCapacity 36 = .ok (.ldc 39, 2) := dk_18 39 (dk_at dksJ5_newCapacity_1 12 rfl rfl)
theorem dJ5_newCapacity_38 : decode cJ5_newCapacity 38 = .ok (.if_icmp .ne 13, 3) := dk_160 0 13 (dk_at dksJ5_newCapacity_1 14 rfl rfl)
theorem dJ5_newCapacity_41 : decode cJ5_newCapacity 41 = .ok (.new 120, 3) := dk_187 0 120 (dk_at dksJ5_newCapacity_1 17 rfl rfl)
theorem dJ5_newCapacity_51 : decode cJ5_newCapacity 51 = .ok (.iload 5, 2) := dk_21 5 (dk_at dksJ5_newCapacity_2 4 rfl rfl)
theorem dJ5_newCapacity_53 : decode cJ5_newCapacity 53 = .ok (.aload_n 0, 1) := dk_42 (dk_at dksJ5_newCapacity_2 6 rfl rfl)
theorem dJ5_newCapacity_54 : decode cJ5_newCapacity 54 = .ok (.getfield 22, 3) := dk_180 0 22 (dk_at dksJ5_newCapacity_2 7 rfl rfl)
theorem dJ5_newCapacity_57 : decode cJ5_newCapacity 57 = .ok (.ishr, 1) := dk_122 (dk_at dksJ5_newCapacity_2 10 rfl rfl)
theorem dJ5_newCapacity_58 : decode cJ5_newCapacity 58 = .ok (.ireturn, 1) := dk_172 (dk_at dksJ5_newCapacity_2 11 rfl rfl)
abbrev cJ5_isLatin1 : ByteArray := prog_27_method_68_code
def dkwJ5_isLatin1_0 : List UInt8 := [178, 0, 18, 153, 0, 14, 42, 180, 0, 22, 154, 0, 7, 4, 167, 0, 4, 3, 172]
abbrev dktJ5_isLatin1_0 : List UInt8 := dkwJ5_isLatin1_0 ++ []
theorem dksJ5_isLatin1_0 : cJ5_isLatin1.data.toList.drop 0 = dktJ5_isLatin1_0 := by decide +kernel
theorem dJ5_isLatin1_0 : decode cJ5_isLatin1 0 = .ok (.getstatic 18, 3) := dk_178 0 18 (dk_at dksJ5_isLatin1_0 0 rfl rfl)
theorem dJ5_isLatin1_3 : decode cJ5_isLatin1 3 = .ok (.ifCond .eq 14, 3) := dk_153 0 14 (dk_at dksJ5_isLatin1_0 3 rfl rfl)
theorem dJ5_isLatin1_6 : decode cJ5_isLatin1 6 = .ok (.aload_n 0, 1) := dk_42 (dk_at dksJ5_isLatin1_0 6 rfl rfl)
theorem dJ5_isLatin1_7 : decode cJ5_isLatin1 7 = .ok (.getfield 22, 3) := dk_180 0 22 (dk_at dksJ5_isLatin1_0 7 rfl rfl)
theorem dJ5_isLatin1_10 : decode cJ5_isLatin1 10 = .ok (.ifCond .ne 7, 3) := dk_154 0 7 (dk_at dksJ5_isLatin1_0 10 rfl rfl)
theorem dJ5_isLatin1_13 : decode cJ5_isLatin1 13 = .ok (.iconst 1, 1) := dk_4 (dk_at dksJ5_isLatin1_0 13 rfl rfl)
theorem dJ5_isLatin1_14 : decode cJ5_isLatin1 14 = .ok (.goto 4, 3) := dk_167 0 4 (dk_at dksJ5_isLatin1_0 14 rfl rfl)
theorem dJ5_isLatin1_17 : decode cJ5_isLatin1 17 = .ok (.iconst 0, 1) := dk_3 (dk_at dksJ5_isLatin1_0 17 rfl rfl)
theorem dJ5_isLatin1_18 : decode cJ5_isLatin1 18 = .ok (.ireturn, 1) := dk_172 (dk_at dksJ5_isLatin1_0 18 rfl rfl)
abbrev cJ5_putStringAt : ByteArray := prog_27_method_73_code
def dkwJ5_putStringAt_0 : List UInt8 := [42, 44, 182, 1, 141, 44, 42, 180, 0, 15, 27, 42, 180, 0, 22, 182, 1, 143, 177]
abbrev dktJ5_putStringAt_0 : List UInt8 := dkwJ5_putStringAt_0 ++ []
theorem dksJ5_putStringAt_0 : cJ5_putStringAt.data.toList.drop 0 = dktJ5_putStringAt_0 := by decide +kernel
theorem dJ5_putStringAt_0 : decode cJ5_putStringAt 0 = .ok (.aload_n 0, 1) := dk_42 (dk_at dksJ5_putStringAt_0 0 rfl rfl)
theorem dJ5_putStringAt_1 : decode cJ5_putStringAt 1 = .ok (.aload_n 2, 1) := dk_44 (dk_at dksJ5_putStringAt_0 1 rfl rfl)
theorem dJ5_putStringAt_2 : decode cJ5_putStringAt 2 = .ok (.invokevirtual 397, 3) := dk_182 1 141 (dk_at dksJ5_putStringAt_0 2 rfl rfl)
theorem dJ5_putStringAt_5 : decode cJ5_putStringAt 5 = .ok (.aload_n 2, 1) := dk_44 (dk_at dksJ5_putStringAt_0 5 rfl rfl)
theorem dJ5_putStringAt_6 : decode cJ5_putStringAt 6 = .ok (.aload_n 0, 1) := dk_42 (dk_at dksJ5_putStringAt_0 6 rfl rfl)
theorem dJ5_putStringAt_7 : decode cJ5_putStringAt 7 = .ok (.getfield 15, 3) := dk_180 0 15 (dk_at dksJ5_putStringAt_0 7 rfl rfl)
theorem dJ5_putStringAt_10 : decode cJ5_putStringAt 10 = .ok (.iload_n 1, 1) := dk_27 (dk_at dksJ5_putStringAt_0 10 rfl rfl)
theorem dJ5_putStringAt_11 : decode cJ5_putStringAt 11 = .ok (.aload_n 0, 1) := dk_42 (dk_at dksJ5_putStringAt_0 11 rfl rfl)
theorem dJ5_putStringAt_12 : decode cJ5_putStringAt 12 = .ok (.getfield 22, 3) := dk_180 0 22 (dk_at dksJ5_putStringAt_0 12 rfl rfl)
theorem dJ5_putStringAt_15 : decode cJ5_putStringAt 15 = .ok (.invokevirtual 399, 3) := dk_182 1 143 (dk_at dksJ5_putStringAt_0 15 rfl rfl)
theorem dJ5_putStringAt_18 : decode cJ5_putStringAt 18 = .ok (.return_, 1) := dk_177 (dk_at dksJ5_putStringAt_0 18 rfl rfl)
abbrev cJ5_inflateIfNeededFor : ByteArray := prog_27_method_71_code
def dkwJ5_inflateIfNeededFor_0 : List UInt8 := [178, 0, 18, 153, 0, 18, 42, 180, 0, 22, 43, 182, 0, 40, 159, 0, 7, 42, 182, 0, 195, 177]
abbrev dktJ5_inflateIfNeededFor_0 : List UInt8 := dkwJ5_inflateIfNeededFor_0 ++ []
theorem dksJ5_inflateIfNeededFor_0 : cJ5_inflateIfNeededFor.data.toList.drop 0 = dktJ5_inflateIfNeededFor_0 := by decide +kernel
theorem dJ5_inflateIfNeededFor_0 : decode cJ5_inflateIfNeededFor 0 = .ok (.getstatic 18, 3) := dk_178 0 18 (dk_at dksJ5_inflateIfNeededFor_0 0 rfl rfl)
theorem dJ5_inflateIfNeededFor_3 : decode cJ5_inflateIfNeededFor 3 = .ok (.ifCond .eq 18, 3) := dk_153 0 18 (dk_at dksJ5_inflateIfNeededFor_0 3 rfl rfl)
theorem dJ5_inflateIfNeededFor_6 : decode cJ5_inflateIfNeededFor 6 = .ok (.aload_n 0, 1) := dk_42 (dk_at dksJ5_inflateIfNeededFor_0 6 rfl rfl)
theorem dJ5_inflateIfNeededFor_7 : decode cJ5_inflateIfNeededFor 7 = .ok (.getfield 22, 3) := dk_180 0 22 (dk_at dksJ5_inflateIfNeededFor_0 7 rfl rfl)
theorem dJ5_inflateIfNeededFor_10 : decode cJ5_inflateIfNeededFor 10 = .ok (.aload_n 1, 1) := dk_43 (dk_at dksJ5_inflateIfNeededFor_0 10 rfl rfl)
theorem dJ5_inflateIfNeededFor_11 : decode cJ5_inflateIfNeededFor 11 = .ok (.invokevirtual 40, 3) := dk_182 0 40 (dk_at dksJ5_inflateIfNeededFor_0 11 rfl rfl)
theorem dJ5_inflateIfNeededFor_14 : decode cJ5_inflateIfNeededFor 14 = .ok (.if_icmp .eq 7, 3) := dk_159 0 7 (dk_at dksJ5_inflateIfNeededFor_0 14 rfl rfl)
theorem dJ5_inflateIfNeededFor_17 : decode cJ5_inflateIfNeededFor 17 = .ok (.aload_n 0, 1) := dk_42 (dk_at dksJ5_inflateIfNeededFor_0 17 rfl rfl)
theorem dJ5_inflateIfNeededFor_18 : decode cJ5_inflateIfNeededFor 18 = .ok (.invokevirtual 195, 3) := dk_182 0 195 (dk_at dksJ5_inflateIfNeededFor_0 18 rfl rfl)
theorem dJ5_inflateIfNeededFor_21 : decode cJ5_inflateIfNeededFor 21 = .ok (.return_, 1) := dk_177 (dk_at dksJ5_inflateIfNeededFor_0 21 rfl rfl)
abbrev cJ5_inflate : ByteArray := prog_27_method_11_code
def dkwJ5_inflate_1 : List UInt8 := [42, 180, 0, 79, 184, 0, 125, 42, 43, 181, 0, 15, 42, 4, 181, 0, 22, 177]
abbrev dktJ5_inflate_1 : List UInt8 := dkwJ5_inflate_1 ++ []
def dkwJ5_inflate_0 : List UInt8 := [42, 182, 0, 83, 154, 0, 4, 177, 42, 180, 0, 15, 190, 184, 0, 26, 76, 42, 180, 0, 15, 3, 43, 3]
abbrev dktJ5_inflate_0 : List UInt8 := dkwJ5_inflate_0 ++ dktJ5_inflate_1
theorem dksJ5_inflate_0 : cJ5_inflate.data.toList.drop 0 = dktJ5_inflate_0 := by decide +kernel
theorem dksJ5_inflate_1 : cJ5_inflate.data.toList.drop 24 = dktJ5_inflate_1 := dk_seg dksJ5_inflate_0 24 rfl rfl
theorem dJ5_inflate_0 : decode cJ5_inflate 0 = .ok (.aload_n 0, 1) := dk_42 (dk_at dksJ5_inflate_0 0 rfl rfl)
theorem dJ5_inflate_1 : decode cJ5_inflate 1 = .ok (.invokevirtual 83, 3) := dk_182 0 83 (dk_at dksJ5_inflate_0 1 rfl rfl)
theorem dJ5_inflate_4 : decode cJ5_inflate 4 = .ok (.ifCond .ne 4, 3) := dk_154 0 4 (dk_at dksJ5_inflate_0 4 rfl rfl)
theorem dJ5_inflate_7 : decode cJ5_inflate 7 = .ok (.return_, 1) := dk_177 (dk_at dksJ5_inflate_0 7 rfl rfl)
theorem dJ5_inflate_8 : decode cJ5_inflate 8 = .ok (.aload_n 0, 1) := dk_42 (dk_at dksJ5_inflate_0 8 rfl rfl)
theorem dJ5_inflate_9 : decode cJ5_inflate 9 = .ok (.getfield 15, 3) := dk_180 0 15 (dk_at dksJ5_inflate_0 9 rfl rfl)
theorem dJ5_inflate_12 : decode cJ5_inflate 12 = .ok (.arraylength, 1) := dk_190 (dk_at dksJ5_inflate_0 12 rfl rfl)
theorem dJ5_inflate_13 : decode cJ5_inflate 13 = .ok (.invokestatic 26, 3) := dk_184 0 26 (dk_at dksJ5_inflate_0 13 rfl rfl)
theorem dJ5_inflate_16 : decode cJ5_inflate 16 = .ok (.astore_n 1, 1) := dk_76 (dk_at dksJ5_inflate_0 16 rfl rfl)
theorem dJ5_inflate_17 : decode cJ5_inflate 17 = .ok (.aload_n 0, 1) := dk_42 (dk_at dksJ5_inflate_0 17 rfl rfl)
theorem dJ5_inflate_18 : decode cJ5_inflate 18 = .ok (.getfield 15, 3) := dk_180 0 15 (dk_at dksJ5_inflate_0 18 rfl rfl)
theorem dJ5_inflate_21 : decode cJ5_inflate 21 = .ok (.iconst 0, 1) := dk_3 (dk_at dksJ5_inflate_0 21 rfl rfl)
theorem dJ5_inflate_22 : decode cJ5_inflate 22 = .ok (.aload_n 1, 1) := dk_43 (dk_at dksJ5_inflate_0 22 rfl rfl)
theorem dJ5_inflate_23 : decode cJ5_inflate 23 = .ok (.iconst 0, 1) := dk_3 (dk_at dksJ5_inflate_0 23 rfl rfl)
theorem dJ5_inflate_24 : decode cJ5_inflate 24 = .ok (.aload_n 0, 1) := dk_42 (dk_at dksJ5_inflate_1 0 rfl rfl)
theorem dJ5_inflate_25 : decode cJ5_inflate 25 = .ok (.getfield 79, 3) := dk_180 0 79 (dk_at dksJ5_inflate_1 1 rfl rfl)
theorem dJ5_inflate_28 : decode cJ5_inflate 28 = .ok (.invokestatic 125, 3) := dk_184 0 125 (dk_at dksJ5_inflate_1 4 rfl rfl)
theorem dJ5_inflate_31 : decode cJ5_inflate 31 = .ok (.aload_n 0, 1) := dk_42 (dk_at dksJ5_inflate_1 7 rfl rfl)
theorem dJ5_inflate_32 : decode cJ5_inflate 32 = .ok (.aload_n 1, 1) := dk_43 (dk_at dksJ5_inflate_1 8 rfl rfl)
theorem dJ5_inflate_33 : decode cJ5_inflate 33 = .ok (.putfield 15, 3) := dk_181 0 15 (dk_at dksJ5_inflate_1 9 rfl rfl)
theorem dJ5_inflate_36 : decode cJ5_inflate 36 = .ok (.aload_n 0, 1) := dk_42 (dk_at dksJ5_inflate_1 12 rfl rfl)
theorem dJ5_inflate_37 : decode cJ5_inflate 37 = .ok (.iconst 1, 1) := dk_4 (dk_at dksJ5_inflate_1 13 rfl rfl)
theorem dJ5_inflate_38 : decode cJ5_inflate 38 = .ok (.putfield 22, 3) := dk_181 0 22 (dk_at dksJ5_inflate_1 14 rfl rfl)
theorem dJ5_inflate_41 : decode cJ5_inflate 41 = .ok (.return_, 1) := dk_177 (dk_at dksJ5_inflate_1 17 rfl rfl)
abbrev cJ5_getValue : ByteArray := prog_27_method_64_code
theorem dJ5_getValue_0 : decode cJ5_getValue 0 = .ok (.aload_n 0, 1) := by decide +kernel
theorem dJ5_getValue_1 : decode cJ5_getValue 1 = .ok (.getfield 15, 3) := by decide +kernel
theorem dJ5_getValue_4 : decode cJ5_getValue 4 = .ok (.areturn, 1) := by decide +kernel
abbrev cJ5_length : ByteArray := prog_27_method_6_code
theorem dJ5_length_0 : decode cJ5_length 0 = .ok (.aload_n 0, 1) := by decide +kernel
theorem dJ5_length_1 : decode cJ5_length 1 = .ok (.getfield 79, 3) := by decide +kernel
theorem dJ5_length_4 : decode cJ5_length 4 = .ok (.ireturn, 1) := by decide +kernel
abbrev cJ5_append_3 : ByteArray := prog_27_method_31_code
def dkwJ5_append_3_3 : List UInt8 := [181, 0, 79, 27, 184, 0, 197, 42, 176]
abbrev dktJ5_append_3_3 : List UInt8 := dkwJ5_append_3_3 ++ []
def dkwJ5_append_3_2 : List UInt8 := [182, 0, 83, 153, 0, 7, 42, 182, 0, 195, 42, 180, 0, 15, 42, 89, 180, 0, 79, 90, 4, 96]
abbrev dktJ5_append_3_2 : List UInt8 := dkwJ5_append_3_2 ++ dktJ5_append_3_3
def dkwJ5_append_3_1 : List UInt8 := [42, 180, 0, 15, 42, 89, 180, 0, 79, 90, 4, 96, 181, 0, 79, 27, 145, 84, 167, 0, 33, 42]
abbrev dktJ5_append_3_1 : List UInt8 := dkwJ5_append_3_1 ++ dktJ5_append_3_2
def dkwJ5_append_3_0 : List UInt8 := [42, 42, 180, 0, 79, 4, 96, 182, 0, 100, 42, 182, 0, 83, 153, 0, 31, 27, 184, 0, 191, 153, 0, 24]
abbrev dktJ5_append_3_0 : List UInt8 := dkwJ5_append_3_0 ++ dktJ5_append_3_1
theorem dksJ5_append_3_0 : cJ5_append_3.data.toList.drop 0 = dktJ5_append_3_0 := by decide +kernel
theorem dksJ5_append_3_1 : cJ5_append_3.data.toList.drop 24 = dktJ5_append_3_1 := dk_seg dksJ5_append_3_0 24 rfl rfl
theorem dksJ5_append_3_2 : cJ5_append_3.data.toList.drop 46 = dktJ5_append_3_2 := dk_seg dksJ5_append_3_1 22 rfl rfl
theorem dksJ5_append_3_3 : cJ5_append_3.data.toList.drop 68 = dktJ5_append_3_3 := dk_seg dksJ5_append_3_2 22 rfl rfl
theorem dJ5_append_3_0 : decode cJ5_append_3 0 = .ok (.aload_n 0, 1) := dk_42 (dk_at dksJ5_append_3_0 0 rfl rfl)
theorem dJ5_append_3_1 : decode cJ5_append_3 1 = .ok (.aload_n 0, 1) := dk_42 (dk_at dksJ5_append_3_0 1 rfl rfl)
theorem dJ5_append_3_2 : decode cJ5_append_3 2 = .ok (.getfield 79, 3) := dk_180 0 79 (dk_at dksJ5_append_3_0 2 rfl rfl)
theorem dJ5_append_3_5 : decode cJ5_append_3 5 = .ok (.iconst 1, 1) := dk_4 (dk_at dksJ5_append_3_0 5 rfl rfl)
theorem dJ5_append_3_6 : decode cJ5_append_3 6 = .ok (.iadd, 1) := dk_96 (dk_at dksJ5_append_3_0 6 rfl rfl)
theorem dJ5_append_3_7 : decode cJ5_append_3 7 = .ok (.invokevirtual 100, 3) := dk_182 0 100 (dk_at dksJ5_append_3_0 7 rfl rfl)
theorem dJ5_append_3_10 : decode cJ5_append_3 10 = .ok (.aload_n 0, 1) := dk_42 (dk_at dksJ5_append_3_0 10 rfl rfl)
theorem dJ5_append_3_11 : decode cJ5_append_3 11 = .ok (.invokevirtual 83, 3) := dk_182 0 83 (dk_at dksJ5_append_3_0 11 rfl rfl)
theorem dJ5_append_3_14 : decode cJ5_append_3 14 = .ok (.ifCond .eq 31, 3) := dk_153 0 31 (dk_at dksJ5_append_3_0 14 rfl rfl)
theorem dJ5_append_3_17 : decode cJ5_append_3 17 = .ok (.iload_n 1, 1) := dk_27 (dk_at dksJ5_append_3_0 17 rfl rfl)
theorem dJ5_append_3_18 : decode cJ5_append_3 18 = .ok (.invokestatic 191, 3) := dk_184 0 191 (dk_at dksJ5_append_3_0 18 rfl rfl)
theorem dJ5_append_3_21 : decode cJ5_append_3 21 = .ok (.ifCond .eq 24, 3) := dk_153 0 24 (dk_at dksJ5_append_3_0 21 rfl rfl)
theorem dJ5_append_3_24 : decode cJ5_append_3 24 = .ok (.aload_n 0, 1) := dk_42 (dk_at dksJ5_append_3_1 0 rfl rfl)
theorem dJ5_append_3_25 : decode cJ5_append_3 25 = .ok (.getfield 15, 3) := dk_180 0 15 (dk_at dksJ5_append_3_1 1 rfl rfl)
theorem dJ5_append_3_28 : decode cJ5_append_3 28 = .ok (.aload_n 0, 1) := dk_42 (dk_at dksJ5_append_3_1 4 rfl rfl)
theorem dJ5_append_3_29 : decode cJ5_append_3 29 = .ok (.dup, 1) := dk_89 (dk_at dksJ5_append_3_1 5 rfl rfl)
theorem dJ5_append_3_30 : decode cJ5_append_3 30 = .ok (.getfield 79, 3) := dk_180 0 79 (dk_at dksJ5_append_3_1 6 rfl rfl)
theorem dJ5_append_3_33 : decode cJ5_append_3 33 = .ok (.dup_x1, 1) := dk_90 (dk_at dksJ5_append_3_1 9 rfl rfl)
theorem dJ5_append_3_34 : decode cJ5_append_3 34 = .ok (.iconst 1, 1) := dk_4 (dk_at dksJ5_append_3_1 10 rfl rfl)
theorem dJ5_append_3_35 : decode cJ5_append_3 35 = .ok (.iadd, 1) := dk_96 (dk_at dksJ5_append_3_1 11 rfl rfl)
theorem dJ5_append_3_36 : decode cJ5_append_3 36 = .ok (.putfield 79, 3) := dk_181 0 79 (dk_at dksJ5_append_3_1 12 rfl rfl)
theorem dJ5_append_3_39 : decode cJ5_append_3 39 = .ok (.iload_n 1, 1) := dk_27 (dk_at dksJ5_append_3_1 15 rfl rfl)
theorem dJ5_append_3_40 : decode cJ5_append_3 40 = .ok (.i2b, 1) := dk_145 (dk_at dksJ5_append_3_1 16 rfl rfl)
theorem dJ5_append_3_41 : decode cJ5_append_3 41 = .ok (.bastore, 1) := dk_84 (dk_at dksJ5_append_3_1 17 rfl rfl)
theorem dJ5_append_3_42 : decode cJ5_append_3 42 = .ok (.goto 33, 3) := dk_167 0 33 (dk_at dksJ5_append_3_1 18 rfl rfl)
theorem dJ5_append_3_45 : decode cJ5_append_3 45 = .ok (.aload_n 0, 1) := dk_42 (dk_at dksJ5_append_3_1 21 rfl rfl)
theorem dJ5_append_3_46 : decode cJ5_append_3 46 = .ok (.invokevirtual 83, 3) := dk_182 0 83 (dk_at dksJ5_append_3_2 0 rfl rfl)
theorem dJ5_append_3_49 : decode cJ5_append_3 49 = .ok (.ifCond .eq 7, 3) := dk_153 0 7 (dk_at dksJ5_append_3_2 3 rfl rfl)
theorem dJ5_append_3_52 : decode cJ5_append_3 52 = .ok (.aload_n 0, 1) := dk_42 (dk_at dksJ5_append_3_2 6 rfl rfl)
theorem dJ5_append_3_53 : decode cJ5_append_3 53 = .ok (.invokevirtual 195, 3) := dk_182 0 195 (dk_at dksJ5_append_3_2 7 rfl rfl)
theorem dJ5_append_3_56 : decode cJ5_append_3 56 = .ok (.aload_n 0, 1) := dk_42 (dk_at dksJ5_append_3_2 10 rfl rfl)
theorem dJ5_append_3_57 : decode cJ5_append_3 57 = .ok (.getfield 15, 3) := dk_180 0 15 (dk_at dksJ5_append_3_2 11 rfl rfl)
theorem dJ5_append_3_60 : decode cJ5_append_3 60 = .ok (.aload_n 0, 1) := dk_42 (dk_at dksJ5_append_3_2 14 rfl rfl)
theorem dJ5_append_3_61 : decode cJ5_append_3 61 = .ok (.dup, 1) := dk_89 (dk_at dksJ5_append_3_2 15 rfl rfl)
theorem dJ5_append_3_62 : decode cJ5_append_3 62 = .ok (.getfield 79, 3) := dk_180 0 79 (dk_at dksJ5_append_3_2 16 rfl rfl)
theorem dJ5_append_3_65 : decode cJ5_append_3 65 = .ok (.dup_x1, 1) := dk_90 (dk_at dksJ5_append_3_2 19 rfl rfl)
theorem dJ5_append_3_66 : decode cJ5_append_3 66 = .ok (.iconst 1, 1) := dk_4 (dk_at dksJ5_append_3_2 20 rfl rfl)
theorem dJ5_append_3_67 : decode cJ5_append_3 67 = .ok (.iadd, 1) := dk_96 (dk_at dksJ5_append_3_2 21 rfl rfl)
theorem dJ5_append_3_68 : decode cJ5_append_3 68 = .ok (.putfield 79, 3) := dk_181 0 79 (dk_at dksJ5_append_3_3 0 rfl rfl)
theorem dJ5_append_3_71 : decode cJ5_append_3 71 = .ok (.iload_n 1, 1) := dk_27 (dk_at dksJ5_append_3_3 3 rfl rfl)
theorem dJ5_append_3_72 : decode cJ5_append_3 72 = .ok (.invokestatic 197, 3) := dk_184 0 197 (dk_at dksJ5_append_3_3 4 rfl rfl)
theorem dJ5_append_3_75 : decode cJ5_append_3 75 = .ok (.aload_n 0, 1) := dk_42 (dk_at dksJ5_append_3_3 7 rfl rfl)
theorem dJ5_append_3_76 : decode cJ5_append_3 76 = .ok (.areturn, 1) := dk_176 (dk_at dksJ5_append_3_3 8 rfl rfl)
abbrev cJ5_setLength : ByteArray := prog_27_method_13_code
def dkwJ5_setLength_3 : List UInt8 := [164, 0, 8, 42, 4, 181, 0, 73, 42, 27, 181, 0, 79, 177]
abbrev dktJ5_setLength_3 : List UInt8 := dkwJ5_setLength_3 ++ []
def dkwJ5_setLength_2 : List UInt8 := [167, 0, 31, 42, 180, 0, 15, 42, 180, 0, 79, 27, 184, 0, 137, 167, 0, 16, 42, 180, 0, 79, 27]
abbrev dktJ5_setLength_2 : List UInt8 := dkwJ5_setLength_2 ++ dktJ5_setLength_3
def dkwJ5_setLength_1 : List UInt8 := [162, 0, 40, 42, 182, 0, 83, 153, 0, 18, 42, 180, 0, 15, 42, 180, 0, 79, 27, 184, 0, 133]
abbrev dktJ5_setLength_1 : List UInt8 := dkwJ5_setLength_1 ++ dktJ5_setLength_2
def dkwJ5_setLength_0 : List UInt8 := [27, 156, 0, 12, 187, 0, 129, 89, 27, 183, 0, 131, 191, 42, 27, 182, 0, 100, 42, 180, 0, 79, 27]
abbrev dktJ5_setLength_0 : List UInt8 := dkwJ5_setLength_0 ++ dktJ5_setLength_1
theorem dksJ5_setLength_0 : cJ5_setLength.data.toList.drop 0 = dktJ5_setLength_0 := by decide +kernel
theorem dksJ5_setLength_1 : cJ5_setLength.data.toList.drop 23 = dktJ5_setLength_1 := dk_seg dksJ5_setLength_0 23 rfl rfl
theorem dksJ5_setLength_2 : cJ5_setLength.data.toList.drop 45 = dktJ5_setLength_2 := dk_seg dksJ5_setLength_1 22 rfl rfl
theorem dksJ5_setLength_3 : cJ5_setLength.data.toList.drop 68 = dktJ5_setLength_3 := dk_seg dksJ5_setLength_2 23 rfl rfl
theorem dJ5_setLength_0 : decode cJ5_setLength 0 = .ok (.iload_n 1, 1) := dk_27 (dk_at dksJ5_setLength_0 0 rfl rfl)
theorem dJ5_setLength_1 : decode cJ5_setLength 1 = .ok (.ifCond .ge 12, 3) := dk_156 0 12 (dk_at dksJ5_setLength_0 1 rfl rfl)
theorem dJ5_setLength_4 : decode cJ5_setLength 4 = .ok (.new 129, 3) := dk_187 0 129 (dk_at dksJ5_setLength_0 4 rfl rfl)
theorem dJ5_setLength_13 : decode cJ5_setLength 13 = .ok (.aload_n 0, 1) := dk_42 (dk_at dksJ5_setLength_0 13 rfl rfl)
theorem dJ5_setLength_14 : decode cJ5_setLength 14 = .ok (.iload_n 1, 1) := dk_27 (dk_at dksJ5_setLength_0 14 rfl rfl)
theorem dJ5_setLength_15 : decode cJ5_setLength 15 = .ok (.invokevirtual 100, 3) := dk_182 0 100 (dk_at dksJ5_setLength_0 15 rfl rfl)
theorem dJ5_setLength_18 : decode cJ5_setLength 18 = .ok (.aload_n 0, 1) := dk_42 (dk_at dksJ5_setLength_0 18 rfl rfl)
theorem dJ5_setLength_19 : decode cJ5_setLength 19 = .ok (.getfield 79, 3) := dk_180 0 79 (dk_at dksJ5_setLength_0 19 rfl rfl)
theorem dJ5_setLength_22 : decode cJ5_setLength 22 = .ok (.iload_n 1, 1) := dk_27 (dk_at dksJ5_setLength_0 22 rfl rfl)
theorem dJ5_setLength_23 : decode cJ5_setLength 23 = .ok (.if_icmp .ge 40, 3) := dk_162 0 40 (dk_at dksJ5_setLength_1 0 rfl rfl)
theorem dJ5_setLength_26 : decode cJ5_setLength 26 = .ok (.aload_n 0, 1) := dk_42 (dk_at dksJ5_setLength_1 3 rfl rfl)
theorem dJ5_setLength_27 : decode cJ5_setLength 27 = .ok (.invokevirtual 83, 3) := dk_182 0 83 (dk_at dksJ5_setLength_1 4 rfl rfl)
theorem dJ5_setLength_30 : decode cJ5_setLength 30 = .ok (.ifCond .eq 18, 3) := dk_153 0 18 (dk_at dksJ5_setLength_1 7 rfl rfl)
theorem dJ5_setLength_33 : decode cJ5_setLength 33 = .ok (.aload_n 0, 1) := dk_42 (dk_at dksJ5_setLength_1 10 rfl rfl)
theorem dJ5_setLength_34 : decode cJ5_setLength 34 = .ok (.getfield 15, 3) := dk_180 0 15 (dk_at dksJ5_setLength_1 11 rfl rfl)
theorem dJ5_setLength_37 : decode cJ5_setLength 37 = .ok (.aload_n 0, 1) := dk_42 (dk_at dksJ5_setLength_1 14 rfl rfl)
theorem dJ5_setLength_38 : decode cJ5_setLength 38 = .ok (.getfield 79, 3) := dk_180 0 79 (dk_at dksJ5_setLength_1 15 rfl rfl)
theorem dJ5_setLength_41 : decode cJ5_setLength 41 = .ok (.iload_n 1, 1) := dk_27 (dk_at dksJ5_setLength_1 18 rfl rfl)
theorem dJ5_setLength_42 : decode cJ5_setLength 42 = .ok (.invokestatic 133, 3) := dk_184 0 133 (dk_at dksJ5_setLength_1 19 rfl rfl)
theorem dJ5_setLength_45 : decode cJ5_setLength 45 = .ok (.goto 31, 3) := dk_167 0 31 (dk_at dksJ5_setLength_2 0 rfl rfl)
theorem dJ5_setLength_48 : decode cJ5_setLength 48 = .ok (.aload_n 0, 1) := dk_42 (dk_at dksJ5_setLength_2 3 rfl rfl)
theorem dJ5_setLength_49 : decode cJ5_setLength 49 = .ok (.getfield 15, 3) := dk_180 0 15 (dk_at dksJ5_setLength_2 4 rfl rfl)
theorem dJ5_setLength_52 : decode cJ5_setLength 52 = .ok (.aload_n 0, 1) := dk_42 (dk_at dksJ5_setLength_2 7 rfl rfl)
theorem dJ5_setLength_53 : decode cJ5_setLength 53 = .ok (.getfield 79, 3) := dk_180 0 79 (dk_at dksJ5_setLength_2 8 rfl rfl)
theorem dJ5_setLength_56 : decode cJ5_setLength 56 = .ok (.iload_n 1, 1) := dk_27 (dk_at dksJ5_setLength_2 11 rfl rfl)
theorem dJ5_setLength_57 : decode cJ5_setLength 57 = .ok (.invokestatic 137, 3) := dk_184 0 137 (dk_at dksJ5_setLength_2 12 rfl rfl)
theorem dJ5_setLength_60 : decode cJ5_setLength 60 = .ok (.goto 16, 3) := dk_167 0 16 (dk_at dksJ5_setLength_2 15 rfl rfl)
theorem dJ5_setLength_63 : decode cJ5_setLength 63 = .ok (.aload_n 0, 1) := dk_42 (dk_at dksJ5_setLength_2 18 rfl rfl)
theorem dJ5_setLength_64 : decode cJ5_setLength 64 = .ok (.getfield 79, 3) := dk_180 0 79 (dk_at dksJ5_setLength_2 19 rfl rfl)
theorem dJ5_setLength_67 : decode cJ5_setLength 67 = .ok (.iload_n 1, 1) := dk_27 (dk_at dksJ5_setLength_2 22 rfl rfl)
theorem dJ5_setLength_68 : decode cJ5_setLength 68 = .ok (.if_icmp .le 8, 3) := dk_164 0 8 (dk_at dksJ5_setLength_3 0 rfl rfl)
theorem dJ5_setLength_71 : decode cJ5_setLength 71 = .ok (.aload_n 0, 1) := dk_42 (dk_at dksJ5_setLength_3 3 rfl rfl)
theorem dJ5_setLength_72 : decode cJ5_setLength 72 = .ok (.iconst 1, 1) := dk_4 (dk_at dksJ5_setLength_3 4 rfl rfl)
theorem dJ5_setLength_73 : decode cJ5_setLength 73 = .ok (.putfield 73, 3) := dk_181 0 73 (dk_at dksJ5_setLength_3 5 rfl rfl)
theorem dJ5_setLength_76 : decode cJ5_setLength 76 = .ok (.aload_n 0, 1) := dk_42 (dk_at dksJ5_setLength_3 8 rfl rfl)
theorem dJ5_setLength_77 : decode cJ5_setLength 77 = .ok (.iload_n 1, 1) := dk_27 (dk_at dksJ5_setLength_3 9 rfl rfl)
theorem dJ5_setLength_78 : decode cJ5_setLength 78 = .ok (.putfield 79, 3) := dk_181 0 79 (dk_at dksJ5_setLength_3 10 rfl rfl)
theorem dJ5_setLength_81 : decode cJ5_setLength 81 = .ok (.return_, 1) := dk_177 (dk_at dksJ5_setLength_3 13 rfl rfl)
abbrev cJ6_init : ByteArray := prog_49_method_1_code
def dkwJ6_init_0 : List UInt8 := [42, 16, 16, 183, 0, 1, 177]
abbrev dktJ6_init_0 : List UInt8 := dkwJ6_init_0 ++ []
theorem dksJ6_init_0 : cJ6_init.data.toList.drop 0 = dktJ6_init_0 := by decide +kernel
theorem dJ6_init_0 : decode cJ6_init 0 = .ok (.aload_n 0, 1) := dk_42 (dk_at dksJ6_init_0 0 rfl rfl)
theorem dJ6_init_1 : decode cJ6_init 1 = .ok (.bipush 16, 2) := dk_16 16 (dk_at dksJ6_init_0 1 rfl rfl)
theorem dJ6_init_3 : decode cJ6_init 3 = .ok (.invokespecial 1, 3) := dk_183 0 1 (dk_at dksJ6_init_0 3 rfl rfl)
theorem dJ6_init_6 : decode cJ6_init 6 = .ok (.return_, 1) := dk_177 (dk_at dksJ6_init_0 6 rfl rfl)
abbrev cJ6_append : ByteArray := prog_49_method_7_code
def dkwJ6_append_0 : List UInt8 := [42, 43, 183, 0, 29, 87, 42, 176]
abbrev dktJ6_append_0 : List UInt8 := dkwJ6_append_0 ++ []
theorem dksJ6_append_0 : cJ6_append.data.toList.drop 0 = dktJ6_append_0 := by decide +kernel
theorem dJ6_append_0 : decode cJ6_append 0 = .ok (.aload_n 0, 1) := dk_42 (dk_at dksJ6_append_0 0 rfl rfl)
theorem dJ6_append_1 : decode cJ6_append 1 = .ok (.aload_n 1, 1) := dk_43 (dk_at dksJ6_append_0 1 rfl rfl)
theorem dJ6_append_2 : decode cJ6_append 2 = .ok (.invokespecial 29, 3) := dk_183 0 29 (dk_at dksJ6_append_0 2 rfl rfl)
theorem dJ6_append_5 : decode cJ6_append 5 = .ok (.pop, 1) := dk_87 (dk_at dksJ6_append_0 5 rfl rfl)
theorem dJ6_append_6 : decode cJ6_append 6 = .ok (.aload_n 0, 1) := dk_42 (dk_at dksJ6_append_0 6 rfl rfl)
theorem dJ6_append_7 : decode cJ6_append 7 = .ok (.areturn, 1) := dk_176 (dk_at dksJ6_append_0 7 rfl rfl)
abbrev cJ6_toString : ByteArray := prog_49_method_42_code
def dkwJ6_toString_0 : List UInt8 := [187, 0, 18, 89, 42, 183, 0, 137, 176]
abbrev dktJ6_toString_0 : List UInt8 := dkwJ6_toString_0 ++ []
theorem dksJ6_toString_0 : cJ6_toString.data.toList.drop 0 = dktJ6_toString_0 := by decide +kernel
theorem dJ6_toString_0 : decode cJ6_toString 0 = .ok (.new 18, 3) := dk_187 0 18 (dk_at dksJ6_toString_0 0 rfl rfl)
theorem dJ6_toString_3 : decode cJ6_toString 3 = .ok (.dup, 1) := dk_89 (dk_at dksJ6_toString_0 3 rfl rfl)
theorem dJ6_toString_4 : decode cJ6_toString 4 = .ok (.aload_n 0, 1) := dk_42 (dk_at dksJ6_toString_0 4 rfl rfl)
theorem dJ6_toString_5 : decode cJ6_toString 5 = .ok (.invokespecial 137, 3) := dk_183 0 137 (dk_at dksJ6_toString_0 5 rfl rfl)
theorem dJ6_toString_8 : decode cJ6_toString 8 = .ok (.areturn, 1) := dk_176 (dk_at dksJ6_toString_0 8 rfl rfl)
abbrev cJ6_length : ByteArray := prog_49_method_93_code
theorem dJ6_length_0 : decode cJ6_length 0 = .ok (.aload_n 0, 1) := by decide +kernel
theorem dJ6_length_1 : decode cJ6_length 1 = .ok (.invokespecial 343, 3) := by decide +kernel
theorem dJ6_length_4 : decode cJ6_length 4 = .ok (.ireturn, 1) := by decide +kernel
abbrev cJ6_append_3 : ByteArray := prog_49_method_14_code
def dkwJ6_append_3_0 : List UInt8 := [42, 27, 183, 0, 50, 87, 42, 176]
abbrev dktJ6_append_3_0 : List UInt8 := dkwJ6_append_3_0 ++ []
theorem dksJ6_append_3_0 : cJ6_append_3.data.toList.drop 0 = dktJ6_append_3_0 := by decide +kernel
theorem dJ6_append_3_0 : decode cJ6_append_3 0 = .ok (.aload_n 0, 1) := dk_42 (dk_at dksJ6_append_3_0 0 rfl rfl)
theorem dJ6_append_3_1 : decode cJ6_append_3 1 = .ok (.iload_n 1, 1) := dk_27 (dk_at dksJ6_append_3_0 1 rfl rfl)
theorem dJ6_append_3_2 : decode cJ6_append_3 2 = .ok (.invokespecial 50, 3) := dk_183 0 50 (dk_at dksJ6_append_3_0 2 rfl rfl)
theorem dJ6_append_3_5 : decode cJ6_append_3 5 = .ok (.pop, 1) := dk_87 (dk_at dksJ6_append_3_0 5 rfl rfl)
theorem dJ6_append_3_6 : decode cJ6_append_3 6 = .ok (.aload_n 0, 1) := dk_42 (dk_at dksJ6_append_3_0 6 rfl rfl)
theorem dJ6_append_3_7 : decode cJ6_append_3 7 = .ok (.areturn, 1) := dk_176 (dk_at dksJ6_append_3_0 7 rfl rfl)
abbrev cJ6_setLength : ByteArray := prog_49_method_89_code
def dkwJ6_setLength_0 : List UInt8 := [42, 27, 183, 1, 77, 177]
abbrev dktJ6_setLength_0 : List UInt8 := dkwJ6_setLength_0 ++ []
theorem dksJ6_setLength_0 : cJ6_setLength.data.toList.drop 0 = dktJ6_setLength_0 := by decide +kernel
theorem dJ6_setLength_0 : decode cJ6_setLength 0 = .ok (.aload_n 0, 1) := dk_42 (dk_at dksJ6_setLength_0 0 rfl rfl)
theorem dJ6_setLength_1 : decode cJ6_setLength 1 = .ok (.iload_n 1, 1) := dk_27 (dk_at dksJ6_setLength_0 1 rfl rfl)
theorem dJ6_setLength_2 : decode cJ6_setLength 2 = .ok (.invokespecial 333, 3) := dk_183 1 77 (dk_at dksJ6_setLength_0 2 rfl rfl)
theorem dJ6_setLength_5 : decode cJ6_setLength 5 = .ok (.return_, 1) := dk_177 (dk_at dksJ6_setLength_0 5 rfl rfl)
abbrev cJ6_append_4 : ByteArray := prog_49_method_6_code
def dkwJ6_append_4_0 : List UInt8 := [42, 43, 184, 0, 17, 182, 0, 23, 176]
abbrev dktJ6_append_4_0 : List UInt8 := dkwJ6_append_4_0 ++ []
theorem dksJ6_append_4_0 : cJ6_append_4.data.toList.drop 0 = dktJ6_append_4_0 := by decide +kernel
theorem dJ6_append_4_0 : decode cJ6_append_4 0 = .ok (.aload_n 0, 1) := dk_42 (dk_at dksJ6_append_4_0 0 rfl rfl)
theorem dJ6_append_4_1 : decode cJ6_append_4 1 = .ok (.aload_n 1, 1) := dk_43 (dk_at dksJ6_append_4_0 1 rfl rfl)
theorem dJ6_append_4_2 : decode cJ6_append_4 2 = .ok (.invokestatic 17, 3) := dk_184 0 17 (dk_at dksJ6_append_4_0 2 rfl rfl)
theorem dJ6_append_4_5 : decode cJ6_append_4 5 = .ok (.invokevirtual 23, 3) := dk_182 0 23 (dk_at dksJ6_append_4_0 5 rfl rfl)
theorem dJ6_append_4_8 : decode cJ6_append_4 8 = .ok (.areturn, 1) := dk_176 (dk_at dksJ6_append_4_0 8 rfl rfl)
abbrev cJ45_init : ByteArray := prog_38_method_1_code
theorem dJ45_init_0 : decode cJ45_init 0 = .ok (.aload_n 0, 1) := by decide +kernel
theorem dJ45_init_1 : decode cJ45_init 1 = .ok (.invokespecial 1, 3) := by decide +kernel
theorem dJ45_init_4 : decode cJ45_init 4 = .ok (.return_, 1) := by decide +kernel
abbrev cJ17_copyOf : ByteArray := prog_69_method_121_code
def dkwJ17_copyOf_1 : List UInt8 := [27, 184, 1, 48, 184, 0, 150, 44, 176]
abbrev dktJ17_copyOf_1 : List UInt8 := dkwJ17_copyOf_1 ++ []
def dkwJ17_copyOf_0 : List UInt8 := [27, 42, 190, 160, 0, 11, 42, 182, 1, 54, 192, 1, 55, 176, 27, 188, 8, 77, 42, 3, 44, 3, 42, 190]
abbrev dktJ17_copyOf_0 : List UInt8 := dkwJ17_copyOf_0 ++ dktJ17_copyOf_1
theorem dksJ17_copyOf_0 : cJ17_copyOf.data.toList.drop 0 = dktJ17_copyOf_0 := by decide +kernel
theorem dksJ17_copyOf_1 : cJ17_copyOf.data.toList.drop 24 = dktJ17_copyOf_1 := dk_seg dksJ17_copyOf_0 24 rfl rfl
theorem dJ17_copyOf_0 : decode cJ17_copyOf 0 = .ok (.iload_n 1, 1) := dk_27 (dk_at dksJ17_copyOf_0 0 rfl rfl)
theorem dJ17_copyOf_1 : decode cJ17_copyOf 1 = .ok (.aload_n 0, 1) := dk_42 (dk_at dksJ17_copyOf_0 1 rfl rfl)
theorem dJ17_copyOf_2 : decode cJ17_copyOf 2 = .ok (.arraylength, 1) := dk_190 (dk_at dksJ17_copyOf_0 2 rfl rfl)
theorem dJ17_copyOf_3 : decode cJ17_copyOf 3 = .ok (.if_icmp .ne 11, 3) := dk_160 0 11 (dk_at dksJ17_copyOf_0 3 rfl rfl)
theorem dJ17_copyOf_6 : decode cJ17_copyOf 6 = .ok (.aload_n 0, 1) := dk_42 (dk_at dksJ17_copyOf_0 6 rfl rfl)
theorem dJ17_copyOf_7 : decode cJ17_copyOf 7 = .ok (.invokevirtual 310, 3) := dk_182 1 54 (dk_at dksJ17_copyOf_0 7 rfl rfl)
theorem dJ17_copyOf_10 : decode cJ17_copyOf 10 = .ok (.checkcast 311, 3) := dk_192 1 55 (dk_at dksJ17_copyOf_0 10 rfl rfl)
theorem dJ17_copyOf_13 : decode cJ17_copyOf 13 = .ok (.areturn, 1) := dk_176 (dk_at dksJ17_copyOf_0 13 rfl rfl)
theorem dJ17_copyOf_14 : decode cJ17_copyOf 14 = .ok (.iload_n 1, 1) := dk_27 (dk_at dksJ17_copyOf_0 14 rfl rfl)
theorem dJ17_copyOf_15 : decode cJ17_copyOf 15 = .ok (.newarray .byte, 2) := dk_188_8 (dk_at dksJ17_copyOf_0 15 rfl rfl)
theorem dJ17_copyOf_17 : decode cJ17_copyOf 17 = .ok (.astore_n 2, 1) := dk_77 (dk_at dksJ17_copyOf_0 17 rfl rfl)
theorem dJ17_copyOf_18 : decode cJ17_copyOf 18 = .ok (.aload_n 0, 1) := dk_42 (dk_at dksJ17_copyOf_0 18 rfl rfl)
theorem dJ17_copyOf_19 : decode cJ17_copyOf 19 = .ok (.iconst 0, 1) := dk_3 (dk_at dksJ17_copyOf_0 19 rfl rfl)
theorem dJ17_copyOf_20 : decode cJ17_copyOf 20 = .ok (.aload_n 2, 1) := dk_44 (dk_at dksJ17_copyOf_0 20 rfl rfl)
theorem dJ17_copyOf_21 : decode cJ17_copyOf 21 = .ok (.iconst 0, 1) := dk_3 (dk_at dksJ17_copyOf_0 21 rfl rfl)
theorem dJ17_copyOf_22 : decode cJ17_copyOf 22 = .ok (.aload_n 0, 1) := dk_42 (dk_at dksJ17_copyOf_0 22 rfl rfl)
theorem dJ17_copyOf_23 : decode cJ17_copyOf 23 = .ok (.arraylength, 1) := dk_190 (dk_at dksJ17_copyOf_0 23 rfl rfl)
theorem dJ17_copyOf_24 : decode cJ17_copyOf 24 = .ok (.iload_n 1, 1) := dk_27 (dk_at dksJ17_copyOf_1 0 rfl rfl)
theorem dJ17_copyOf_25 : decode cJ17_copyOf 25 = .ok (.invokestatic 304, 3) := dk_184 1 48 (dk_at dksJ17_copyOf_1 1 rfl rfl)
theorem dJ17_copyOf_28 : decode cJ17_copyOf 28 = .ok (.invokestatic 150, 3) := dk_184 0 150 (dk_at dksJ17_copyOf_1 4 rfl rfl)
theorem dJ17_copyOf_31 : decode cJ17_copyOf 31 = .ok (.aload_n 2, 1) := dk_44 (dk_at dksJ17_copyOf_1 7 rfl rfl)
theorem dJ17_copyOf_32 : decode cJ17_copyOf 32 = .ok (.areturn, 1) := dk_176 (dk_at dksJ17_copyOf_1 8 rfl rfl)
abbrev cJ17_copyOfRange : ByteArray := prog_69_method_132_code
def dkwJ17_copyOfRange_1 : List UInt8 := [176]
abbrev dktJ17_copyOfRange_1 : List UInt8 := dkwJ17_copyOfRange_1 ++ []
def dkwJ17_copyOfRange_0 : List UInt8 := [27, 154, 0, 9, 28, 42, 190, 159, 0, 10, 42, 27, 28, 184, 1, 83, 176, 42, 182, 1, 54, 192, 1, 55]
abbrev dktJ17_copyOfRange_0 : List UInt8 := dkwJ17_copyOfRange_0 ++ dktJ17_copyOfRange_1
theorem dksJ17_copyOfRange_0 : cJ17_copyOfRange.data.toList.drop 0 = dktJ17_copyOfRange_0 := by decide +kernel
theorem dksJ17_copyOfRange_1 : cJ17_copyOfRange.data.toList.drop 24 = dktJ17_copyOfRange_1 := dk_seg dksJ17_copyOfRange_0 24 rfl rfl
theorem dJ17_copyOfRange_0 : decode cJ17_copyOfRange 0 = .ok (.iload_n 1, 1) := dk_27 (dk_at dksJ17_copyOfRange_0 0 rfl rfl)
theorem dJ17_copyOfRange_1 : decode cJ17_copyOfRange 1 = .ok (.ifCond .ne 9, 3) := dk_154 0 9 (dk_at dksJ17_copyOfRange_0 1 rfl rfl)
theorem dJ17_copyOfRange_4 : decode cJ17_copyOfRange 4 = .ok (.iload_n 2, 1) := dk_28 (dk_at dksJ17_copyOfRange_0 4 rfl rfl)
theorem dJ17_copyOfRange_5 : decode cJ17_copyOfRange 5 = .ok (.aload_n 0, 1) := dk_42 (dk_at dksJ17_copyOfRange_0 5 rfl rfl)
theorem dJ17_copyOfRange_6 : decode cJ17_copyOfRange 6 = .ok (.arraylength, 1) := dk_190 (dk_at dksJ17_copyOfRange_0 6 rfl rfl)
theorem dJ17_copyOfRange_7 : decode cJ17_copyOfRange 7 = .ok (.if_icmp .eq 10, 3) := dk_159 0 10 (dk_at dksJ17_copyOfRange_0 7 rfl rfl)
theorem dJ17_copyOfRange_10 : decode cJ17_copyOfRange 10 = .ok (.aload_n 0, 1) := dk_42 (dk_at dksJ17_copyOfRange_0 10 rfl rfl)
theorem dJ17_copyOfRange_11 : decode cJ17_copyOfRange 11 = .ok (.iload_n 1, 1) := dk_27 (dk_at dksJ17_copyOfRange_0 11 rfl rfl)
theorem dJ17_copyOfRange_12 : decode cJ17_copyOfRange 12 = .ok (.iload_n 2, 1) := dk_28 (dk_at dksJ17_copyOfRange_0 12 rfl rfl)
theorem dJ17_copyOfRange_13 : decode cJ17_copyOfRange 13 = .ok (.invokestatic 339, 3) := dk_184 1 83 (dk_at dksJ17_copyOfRange_0 13 rfl rfl)
theorem dJ17_copyOfRange_16 : decode cJ17_copyOfRange 16 = .ok (.areturn, 1) := dk_176 (dk_at dksJ17_copyOfRange_0 16 rfl rfl)
theorem dJ17_copyOfRange_17 : decode cJ17_copyOfRange 17 = .ok (.aload_n 0, 1) := dk_42 (dk_at dksJ17_copyOfRange_0 17 rfl rfl)
theorem dJ17_copyOfRange_18 : decode cJ17_copyOfRange 18 = .ok (.invokevirtual 310, 3) := dk_182 1 54 (dk_at dksJ17_copyOfRange_0 18 rfl rfl)
theorem dJ17_copyOfRange_21 : decode cJ17_copyOfRange 21 = .ok (.checkcast 311, 3) := dk_192 1 55 (dk_at dksJ17_copyOfRange_0 21 rfl rfl)
theorem dJ17_copyOfRange_24 : decode cJ17_copyOfRange 24 = .ok (.areturn, 1) := dk_176 (dk_at dksJ17_copyOfRange_1 0 rfl rfl)
abbrev cJ17_copyOfRangeByte : ByteArray := prog_69_method_133_code
def dkwJ17_copyOfRangeByte_1 : List UInt8 := [184, 1, 48, 184, 0, 150, 25, 4, 176]
abbrev dktJ17_copyOfRangeByte_1 : List UInt8 := dkwJ17_copyOfRangeByte_1 ++ []
def dkwJ17_copyOfRangeByte_0 : List UInt8 := [27, 28, 184, 1, 87, 28, 27, 100, 62, 29, 188, 8, 58, 4, 42, 27, 25, 4, 3, 42, 190, 27, 100, 29]
abbrev dktJ17_copyOfRangeByte_0 : List UInt8 := dkwJ17_copyOfRangeByte_0 ++ dktJ17_copyOfRangeByte_1
theorem dksJ17_copyOfRangeByte_0 : cJ17_copyOfRangeByte.data.toList.drop 0 = dktJ17_copyOfRangeByte_0 := by decide +kernel
theorem dksJ17_copyOfRangeByte_1 : cJ17_copyOfRangeByte.data.toList.drop 24 = dktJ17_copyOfRangeByte_1 := dk_seg dksJ17_copyOfRangeByte_0 24 rfl rfl
theorem dJ17_copyOfRangeByte_0 : decode cJ17_copyOfRangeByte 0 = .ok (.iload_n 1, 1) := dk_27 (dk_at dksJ17_copyOfRangeByte_0 0 rfl rfl)
theorem dJ17_copyOfRangeByte_1 : decode cJ17_copyOfRangeByte 1 = .ok (.iload_n 2, 1) := dk_28 (dk_at dksJ17_copyOfRangeByte_0 1 rfl rfl)
theorem dJ17_copyOfRangeByte_2 : decode cJ17_copyOfRangeByte 2 = .ok (.invokestatic 343, 3) := dk_184 1 87 (dk_at dksJ17_copyOfRangeByte_0 2 rfl rfl)
theorem dJ17_copyOfRangeByte_5 : decode cJ17_copyOfRangeByte 5 = .ok (.iload_n 2, 1) := dk_28 (dk_at dksJ17_copyOfRangeByte_0 5 rfl rfl)
theorem dJ17_copyOfRangeByte_6 : decode cJ17_copyOfRangeByte 6 = .ok (.iload_n 1, 1) := dk_27 (dk_at dksJ17_copyOfRangeByte_0 6 rfl rfl)
theorem dJ17_copyOfRangeByte_7 : decode cJ17_copyOfRangeByte 7 = .ok (.isub, 1) := dk_100 (dk_at dksJ17_copyOfRangeByte_0 7 rfl rfl)
theorem dJ17_copyOfRangeByte_8 : decode cJ17_copyOfRangeByte 8 = .ok (.istore_n 3, 1) := dk_62 (dk_at dksJ17_copyOfRangeByte_0 8 rfl rfl)
theorem dJ17_copyOfRangeByte_9 : decode cJ17_copyOfRangeByte 9 = .ok (.iload_n 3, 1) := dk_29 (dk_at dksJ17_copyOfRangeByte_0 9 rfl rfl)
theorem dJ17_copyOfRangeByte_10 : decode cJ17_copyOfRangeByte 10 = .ok (.newarray .byte, 2) := dk_188_8 (dk_at dksJ17_copyOfRangeByte_0 10 rfl rfl)
theorem dJ17_copyOfRangeByte_12 : decode cJ17_copyOfRangeByte 12 = .ok (.astore 4, 2) := dk_58 4 (dk_at dksJ17_copyOfRangeByte_0 12 rfl rfl)
theorem dJ17_copyOfRangeByte_14 : decode cJ17_copyOfRangeByte 14 = .ok (.aload_n 0, 1) := dk_42 (dk_at dksJ17_copyOfRangeByte_0 14 rfl rfl)
theorem dJ17_copyOfRangeByte_15 : decode cJ17_copyOfRangeByte 15 = .ok (.iload_n 1, 1) := dk_27 (dk_at dksJ17_copyOfRangeByte_0 15 rfl rfl)
theorem dJ17_copyOfRangeByte_16 : decode cJ17_copyOfRangeByte 16 = .ok (.aload 4, 2) := dk_25 4 (dk_at dksJ17_copyOfRangeByte_0 16 rfl rfl)
theorem dJ17_copyOfRangeByte_18 : decode cJ17_copyOfRangeByte 18 = .ok (.iconst 0, 1) := dk_3 (dk_at dksJ17_copyOfRangeByte_0 18 rfl rfl)
theorem dJ17_copyOfRangeByte_19 : decode cJ17_copyOfRangeByte 19 = .ok (.aload_n 0, 1) := dk_42 (dk_at dksJ17_copyOfRangeByte_0 19 rfl rfl)
theorem dJ17_copyOfRangeByte_20 : decode cJ17_copyOfRangeByte 20 = .ok (.arraylength, 1) := dk_190 (dk_at dksJ17_copyOfRangeByte_0 20 rfl rfl)
theorem dJ17_copyOfRangeByte_21 : decode cJ17_copyOfRangeByte 21 = .ok (.iload_n 1, 1) := dk_27 (dk_at dksJ17_copyOfRangeByte_0 21 rfl rfl)
theorem dJ17_copyOfRangeByte_22 : decode cJ17_copyOfRangeByte 22 = .ok (.isub, 1) := dk_100 (dk_at dksJ17_copyOfRangeByte_0 22 rfl rfl)
theorem dJ17_copyOfRangeByte_23 : decode cJ17_copyOfRangeByte 23 = .ok (.iload_n 3, 1) := dk_29 (dk_at dksJ17_copyOfRangeByte_0 23 rfl rfl)
theorem dJ17_copyOfRangeByte_24 : decode cJ17_copyOfRangeByte 24 = .ok (.invokestatic 304, 3) := dk_184 1 48 (dk_at dksJ17_copyOfRangeByte_1 0 rfl rfl)
theorem dJ17_copyOfRangeByte_27 : decode cJ17_copyOfRangeByte 27 = .ok (.invokestatic 150, 3) := dk_184 0 150 (dk_at dksJ17_copyOfRangeByte_1 3 rfl rfl)
theorem dJ17_copyOfRangeByte_30 : decode cJ17_copyOfRangeByte 30 = .ok (.aload 4, 2) := dk_25 4 (dk_at dksJ17_copyOfRangeByte_1 6 rfl rfl)
theorem dJ17_copyOfRangeByte_32 : decode cJ17_copyOfRangeByte 32 = .ok (.areturn, 1) := dk_176 (dk_at dksJ17_copyOfRangeByte_1 8 rfl rfl)
abbrev cJ17_checkLength : ByteArray := prog_69_method_131_code
def dkwJ17_checkLength_1 : List UInt8 := [182, 0, 50, 27, 182, 0, 54, 182, 0, 61, 183, 0, 65, 191, 177]
abbrev dktJ17_checkLength_1 : List UInt8 := dkwJ17_checkLength_1 ++ []
def dkwJ17_checkLength_0 : List UInt8 := [27, 26, 162, 0, 35, 187, 0, 43, 89, 187, 0, 45, 89, 183, 0, 47, 26, 182, 0, 54, 19, 1, 81]
abbrev dktJ17_checkLength_0 : List UInt8 := dkwJ17_checkLength_0 ++ dktJ17_checkLength_1
theorem dksJ17_checkLength_0 : cJ17_checkLength.data.toList.drop 0 = dktJ17_checkLength_0 := by decide +kernel
theorem dksJ17_checkLength_1 : cJ17_checkLength.data.toList.drop 23 = dktJ17_checkLength_1 := dk_seg dksJ17_checkLength_0 23 rfl rfl
theorem dJ17_checkLength_0 : decode cJ17_checkLength 0 = .ok (.iload_n 1, 1) := dk_27 (dk_at dksJ17_checkLength_0 0 rfl rfl)
theorem dJ17_checkLength_1 : decode cJ17_checkLength 1 = .ok (.iload_n 0, 1) := dk_26 (dk_at dksJ17_checkLength_0 1 rfl rfl)
theorem dJ17_checkLength_2 : decode cJ17_checkLength 2 = .ok (.if_icmp .ge 35, 3) := dk_162 0 35 (dk_at dksJ17_checkLength_0 2 rfl rfl)
theorem dJ17_checkLength_5 : decode cJ17_checkLength 5 = .ok (.new 43, 3) := dk_187 0 43 (dk_at dksJ17_checkLength_0 5 rfl rfl)
theorem dJ17_checkLength_37 : decode cJ17_checkLength 37 = .ok (.return_, 1) := dk_177 (dk_at dksJ17_checkLength_1 14 rfl rfl)
abbrev cJ17_fill : ByteArray := prog_69_method_110_code
def dkwJ17_fill_1 : List UInt8 := [167, 255, 242, 177]
abbrev dktJ17_fill_1 : List UInt8 := dkwJ17_fill_1 ++ []
def dkwJ17_fill_0 : List UInt8 := [42, 190, 27, 28, 184, 0, 13, 27, 54, 4, 21, 4, 28, 162, 0, 14, 42, 21, 4, 29, 84, 132, 4, 1]
abbrev dktJ17_fill_0 : List UInt8 := dkwJ17_fill_0 ++ dktJ17_fill_1
theorem dksJ17_fill_0 : cJ17_fill.data.toList.drop 0 = dktJ17_fill_0 := by decide +kernel
theorem dksJ17_fill_1 : cJ17_fill.data.toList.drop 24 = dktJ17_fill_1 := dk_seg dksJ17_fill_0 24 rfl rfl
theorem dJ17_fill_0 : decode cJ17_fill 0 = .ok (.aload_n 0, 1) := dk_42 (dk_at dksJ17_fill_0 0 rfl rfl)
theorem dJ17_fill_1 : decode cJ17_fill 1 = .ok (.arraylength, 1) := dk_190 (dk_at dksJ17_fill_0 1 rfl rfl)
theorem dJ17_fill_2 : decode cJ17_fill 2 = .ok (.iload_n 1, 1) := dk_27 (dk_at dksJ17_fill_0 2 rfl rfl)
theorem dJ17_fill_3 : decode cJ17_fill 3 = .ok (.iload_n 2, 1) := dk_28 (dk_at dksJ17_fill_0 3 rfl rfl)
theorem dJ17_fill_4 : decode cJ17_fill 4 = .ok (.invokestatic 13, 3) := dk_184 0 13 (dk_at dksJ17_fill_0 4 rfl rfl)
theorem dJ17_fill_7 : decode cJ17_fill 7 = .ok (.iload_n 1, 1) := dk_27 (dk_at dksJ17_fill_0 7 rfl rfl)
theorem dJ17_fill_8 : decode cJ17_fill 8 = .ok (.istore 4, 2) := dk_54 4 (dk_at dksJ17_fill_0 8 rfl rfl)
theorem dJ17_fill_10 : decode cJ17_fill 10 = .ok (.iload 4, 2) := dk_21 4 (dk_at dksJ17_fill_0 10 rfl rfl)
theorem dJ17_fill_12 : decode cJ17_fill 12 = .ok (.iload_n 2, 1) := dk_28 (dk_at dksJ17_fill_0 12 rfl rfl)
theorem dJ17_fill_13 : decode cJ17_fill 13 = .ok (.if_icmp .ge 14, 3) := dk_162 0 14 (dk_at dksJ17_fill_0 13 rfl rfl)
theorem dJ17_fill_16 : decode cJ17_fill 16 = .ok (.aload_n 0, 1) := dk_42 (dk_at dksJ17_fill_0 16 rfl rfl)
theorem dJ17_fill_17 : decode cJ17_fill 17 = .ok (.iload 4, 2) := dk_21 4 (dk_at dksJ17_fill_0 17 rfl rfl)
theorem dJ17_fill_19 : decode cJ17_fill 19 = .ok (.iload_n 3, 1) := dk_29 (dk_at dksJ17_fill_0 19 rfl rfl)
theorem dJ17_fill_20 : decode cJ17_fill 20 = .ok (.bastore, 1) := dk_84 (dk_at dksJ17_fill_0 20 rfl rfl)
theorem dJ17_fill_21 : decode cJ17_fill 21 = .ok (.iinc 4 1, 3) := dk_132 4 1 (dk_at dksJ17_fill_0 21 rfl rfl)
theorem dJ17_fill_24 : decode cJ17_fill 24 = .ok (.goto (-14), 3) := dk_167 255 242 (dk_at dksJ17_fill_1 0 rfl rfl)
theorem dJ17_fill_27 : decode cJ17_fill 27 = .ok (.return_, 1) := dk_177 (dk_at dksJ17_fill_1 3 rfl rfl)
abbrev cJ17_rangeCheck : ByteArray := prog_69_method_30_code
def dkwJ17_rangeCheck_3 : List UInt8 := [183, 0, 70, 191, 177]
abbrev dktJ17_rangeCheck_3 : List UInt8 := dkwJ17_rangeCheck_3 ++ []
def dkwJ17_rangeCheck_2 : List UInt8 := [27, 156, 0, 12, 187, 0, 68, 89, 27, 183, 0, 70, 191, 28, 26, 164, 0, 12, 187, 0, 68, 89, 28]
abbrev dktJ17_rangeCheck_2 : List UInt8 := dkwJ17_rangeCheck_2 ++ dktJ17_rangeCheck_3
def dkwJ17_rangeCheck_1 : List UInt8 := [182, 0, 54, 18, 57, 182, 0, 50, 28, 182, 0, 54, 18, 59, 182, 0, 50, 182, 0, 61, 183, 0, 65, 191]
abbrev dktJ17_rangeCheck_1 : List UInt8 := dkwJ17_rangeCheck_1 ++ dktJ17_rangeCheck_2
def dkwJ17_rangeCheck_0 : List UInt8 := [27, 28, 164, 0, 44, 187, 0, 43, 89, 187, 0, 45, 89, 183, 0, 47, 18, 48, 182, 0, 50, 27]
abbrev dktJ17_rangeCheck_0 : List UInt8 := dkwJ17_rangeCheck_0 ++ dktJ17_rangeCheck_1
theorem dksJ17_rangeCheck_0 : cJ17_rangeCheck.data.toList.drop 0 = dktJ17_rangeCheck_0 := by decide +kernel
theorem dksJ17_rangeCheck_1 : cJ17_rangeCheck.data.toList.drop 22 = dktJ17_rangeCheck_1 := dk_seg dksJ17_rangeCheck_0 22 rfl rfl
theorem dksJ17_rangeCheck_2 : cJ17_rangeCheck.data.toList.drop 46 = dktJ17_rangeCheck_2 := dk_seg dksJ17_rangeCheck_1 24 rfl rfl
theorem dksJ17_rangeCheck_3 : cJ17_rangeCheck.data.toList.drop 69 = dktJ17_rangeCheck_3 := dk_seg dksJ17_rangeCheck_2 23 rfl rfl
theorem dJ17_rangeCheck_0 : decode cJ17_rangeCheck 0 = .ok (.iload_n 1, 1) := dk_27 (dk_at dksJ17_rangeCheck_0 0 rfl rfl)
theorem dJ17_rangeCheck_1 : decode cJ17_rangeCheck 1 = .ok (.iload_n 2, 1) := dk_28 (dk_at dksJ17_rangeCheck_0 1 rfl rfl)
theorem dJ17_rangeCheck_2 : decode cJ17_rangeCheck 2 = .ok (.if_icmp .le 44, 3) := dk_164 0 44 (dk_at dksJ17_rangeCheck_0 2 rfl rfl)
theorem dJ17_rangeCheck_5 : decode cJ17_rangeCheck 5 = .ok (.new 43, 3) := dk_187 0 43 (dk_at dksJ17_rangeCheck_0 5 rfl rfl)
theorem dJ17_rangeCheck_46 : decode cJ17_rangeCheck 46 = .ok (.iload_n 1, 1) := dk_27 (dk_at dksJ17_rangeCheck_2 0 rfl rfl)
theorem dJ17_rangeCheck_47 : decode cJ17_rangeCheck 47 = .ok (.ifCond .ge 12, 3) := dk_156 0 12 (dk_at dksJ17_rangeCheck_2 1 rfl rfl)
theorem dJ17_rangeCheck_50 : decode cJ17_rangeCheck 50 = .ok (.new 68, 3) := dk_187 0 68 (dk_at dksJ17_rangeCheck_2 4 rfl rfl)
theorem dJ17_rangeCheck_59 : decode cJ17_rangeCheck 59 = .ok (.iload_n 2, 1) := dk_28 (dk_at dksJ17_rangeCheck_2 13 rfl rfl)
theorem dJ17_rangeCheck_60 : decode cJ17_rangeCheck 60 = .ok (.iload_n 0, 1) := dk_26 (dk_at dksJ17_rangeCheck_2 14 rfl rfl)
theorem dJ17_rangeCheck_61 : decode cJ17_rangeCheck 61 = .ok (.if_icmp .le 12, 3) := dk_164 0 12 (dk_at dksJ17_rangeCheck_2 15 rfl rfl)
theorem dJ17_rangeCheck_64 : decode cJ17_rangeCheck 64 = .ok (.new 68, 3) := dk_187 0 68 (dk_at dksJ17_rangeCheck_2 18 rfl rfl)
theorem dJ17_rangeCheck_73 : decode cJ17_rangeCheck 73 = .ok (.return_, 1) := dk_177 (dk_at dksJ17_rangeCheck_3 4 rfl rfl)
abbrev cJ18_checkFromToIndex : ByteArray := prog_107_method_12_code
def dkwJ18_checkFromToIndex_0 : List UInt8 := [26, 155, 0, 13, 26, 27, 163, 0, 8, 27, 28, 164, 0, 11, 45, 26, 27, 28, 184, 0, 99, 191, 26, 172]
abbrev dktJ18_checkFromToIndex_0 : List UInt8 := dkwJ18_checkFromToIndex_0 ++ []
theorem dksJ18_checkFromToIndex_0 : cJ18_checkFromToIndex.data.toList.drop 0 = dktJ18_checkFromToIndex_0 := by decide +kernel
theorem dJ18_checkFromToIndex_0 : decode cJ18_checkFromToIndex 0 = .ok (.iload_n 0, 1) := dk_26 (dk_at dksJ18_checkFromToIndex_0 0 rfl rfl)
theorem dJ18_checkFromToIndex_1 : decode cJ18_checkFromToIndex 1 = .ok (.ifCond .lt 13, 3) := dk_155 0 13 (dk_at dksJ18_checkFromToIndex_0 1 rfl rfl)
theorem dJ18_checkFromToIndex_4 : decode cJ18_checkFromToIndex 4 = .ok (.iload_n 0, 1) := dk_26 (dk_at dksJ18_checkFromToIndex_0 4 rfl rfl)
theorem dJ18_checkFromToIndex_5 : decode cJ18_checkFromToIndex 5 = .ok (.iload_n 1, 1) := dk_27 (dk_at dksJ18_checkFromToIndex_0 5 rfl rfl)
theorem dJ18_checkFromToIndex_6 : decode cJ18_checkFromToIndex 6 = .ok (.if_icmp .gt 8, 3) := dk_163 0 8 (dk_at dksJ18_checkFromToIndex_0 6 rfl rfl)
theorem dJ18_checkFromToIndex_9 : decode cJ18_checkFromToIndex 9 = .ok (.iload_n 1, 1) := dk_27 (dk_at dksJ18_checkFromToIndex_0 9 rfl rfl)
theorem dJ18_checkFromToIndex_10 : decode cJ18_checkFromToIndex 10 = .ok (.iload_n 2, 1) := dk_28 (dk_at dksJ18_checkFromToIndex_0 10 rfl rfl)
theorem dJ18_checkFromToIndex_11 : decode cJ18_checkFromToIndex 11 = .ok (.if_icmp .le 11, 3) := dk_164 0 11 (dk_at dksJ18_checkFromToIndex_0 11 rfl rfl)
theorem dJ18_checkFromToIndex_14 : decode cJ18_checkFromToIndex 14 = .ok (.aload_n 3, 1) := dk_45 (dk_at dksJ18_checkFromToIndex_0 14 rfl rfl)
theorem dJ18_checkFromToIndex_15 : decode cJ18_checkFromToIndex 15 = .ok (.iload_n 0, 1) := dk_26 (dk_at dksJ18_checkFromToIndex_0 15 rfl rfl)
theorem dJ18_checkFromToIndex_16 : decode cJ18_checkFromToIndex 16 = .ok (.iload_n 1, 1) := dk_27 (dk_at dksJ18_checkFromToIndex_0 16 rfl rfl)
theorem dJ18_checkFromToIndex_17 : decode cJ18_checkFromToIndex 17 = .ok (.iload_n 2, 1) := dk_28 (dk_at dksJ18_checkFromToIndex_0 17 rfl rfl)
theorem dJ18_checkFromToIndex_18 : decode cJ18_checkFromToIndex 18 = .ok (.invokestatic 99, 3) := dk_184 0 99 (dk_at dksJ18_checkFromToIndex_0 18 rfl rfl)
theorem dJ18_checkFromToIndex_22 : decode cJ18_checkFromToIndex 22 = .ok (.iload_n 0, 1) := dk_26 (dk_at dksJ18_checkFromToIndex_0 22 rfl rfl)
theorem dJ18_checkFromToIndex_23 : decode cJ18_checkFromToIndex 23 = .ok (.ireturn, 1) := dk_172 (dk_at dksJ18_checkFromToIndex_0 23 rfl rfl)
abbrev cJ18_checkFromIndexSize : ByteArray := prog_107_method_13_code
def dkwJ18_checkFromIndexSize_1 : List UInt8 := [172]
abbrev dktJ18_checkFromIndexSize_1 : List UInt8 := dkwJ18_checkFromIndexSize_1 ++ []
def dkwJ18_checkFromIndexSize_0 : List UInt8 := [28, 26, 128, 27, 128, 155, 0, 10, 27, 28, 26, 100, 164, 0, 11, 45, 26, 27, 28, 184, 0, 103, 191, 26]
abbrev dktJ18_checkFromIndexSize_0 : List UInt8 := dkwJ18_checkFromIndexSize_0 ++ dktJ18_checkFromIndexSize_1
theorem dksJ18_checkFromIndexSize_0 : cJ18_checkFromIndexSize.data.toList.drop 0 = dktJ18_checkFromIndexSize_0 := by decide +kernel
theorem dksJ18_checkFromIndexSize_1 : cJ18_checkFromIndexSize.data.toList.drop 24 = dktJ18_checkFromIndexSize_1 := dk_seg dksJ18_checkFromIndexSize_0 24 rfl rfl
theorem dJ18_checkFromIndexSize_0 : decode cJ18_checkFromIndexSize 0 = .ok (.iload_n 2, 1) := dk_28 (dk_at dksJ18_checkFromIndexSize_0 0 rfl rfl)
theorem dJ18_checkFromIndexSize_1 : decode cJ18_checkFromIndexSize 1 = .ok (.iload_n 0, 1) := dk_26 (dk_at dksJ18_checkFromIndexSize_0 1 rfl rfl)
theorem dJ18_checkFromIndexSize_2 : decode cJ18_checkFromIndexSize 2 = .ok (.ior, 1) := dk_128 (dk_at dksJ18_checkFromIndexSize_0 2 rfl rfl)
theorem dJ18_checkFromIndexSize_3 : decode cJ18_checkFromIndexSize 3 = .ok (.iload_n 1, 1) := dk_27 (dk_at dksJ18_checkFromIndexSize_0 3 rfl rfl)
theorem dJ18_checkFromIndexSize_4 : decode cJ18_checkFromIndexSize 4 = .ok (.ior, 1) := dk_128 (dk_at dksJ18_checkFromIndexSize_0 4 rfl rfl)
theorem dJ18_checkFromIndexSize_5 : decode cJ18_checkFromIndexSize 5 = .ok (.ifCond .lt 10, 3) := dk_155 0 10 (dk_at dksJ18_checkFromIndexSize_0 5 rfl rfl)
theorem dJ18_checkFromIndexSize_8 : decode cJ18_checkFromIndexSize 8 = .ok (.iload_n 1, 1) := dk_27 (dk_at dksJ18_checkFromIndexSize_0 8 rfl rfl)
theorem dJ18_checkFromIndexSize_9 : decode cJ18_checkFromIndexSize 9 = .ok (.iload_n 2, 1) := dk_28 (dk_at dksJ18_checkFromIndexSize_0 9 rfl rfl)
theorem dJ18_checkFromIndexSize_10 : decode cJ18_checkFromIndexSize 10 = .ok (.iload_n 0, 1) := dk_26 (dk_at dksJ18_checkFromIndexSize_0 10 rfl rfl)
theorem dJ18_checkFromIndexSize_11 : decode cJ18_checkFromIndexSize 11 = .ok (.isub, 1) := dk_100 (dk_at dksJ18_checkFromIndexSize_0 11 rfl rfl)
theorem dJ18_checkFromIndexSize_12 : decode cJ18_checkFromIndexSize 12 = .ok (.if_icmp .le 11, 3) := dk_164 0 11 (dk_at dksJ18_checkFromIndexSize_0 12 rfl rfl)
theorem dJ18_checkFromIndexSize_15 : decode cJ18_checkFromIndexSize 15 = .ok (.aload_n 3, 1) := dk_45 (dk_at dksJ18_checkFromIndexSize_0 15 rfl rfl)
theorem dJ18_checkFromIndexSize_16 : decode cJ18_checkFromIndexSize 16 = .ok (.iload_n 0, 1) := dk_26 (dk_at dksJ18_checkFromIndexSize_0 16 rfl rfl)
theorem dJ18_checkFromIndexSize_17 : decode cJ18_checkFromIndexSize 17 = .ok (.iload_n 1, 1) := dk_27 (dk_at dksJ18_checkFromIndexSize_0 17 rfl rfl)
theorem dJ18_checkFromIndexSize_18 : decode cJ18_checkFromIndexSize 18 = .ok (.iload_n 2, 1) := dk_28 (dk_at dksJ18_checkFromIndexSize_0 18 rfl rfl)
theorem dJ18_checkFromIndexSize_19 : decode cJ18_checkFromIndexSize 19 = .ok (.invokestatic 103, 3) := dk_184 0 103 (dk_at dksJ18_checkFromIndexSize_0 19 rfl rfl)
theorem dJ18_checkFromIndexSize_23 : decode cJ18_checkFromIndexSize 23 = .ok (.iload_n 0, 1) := dk_26 (dk_at dksJ18_checkFromIndexSize_0 23 rfl rfl)
theorem dJ18_checkFromIndexSize_24 : decode cJ18_checkFromIndexSize 24 = .ok (.ireturn, 1) := dk_172 (dk_at dksJ18_checkFromIndexSize_1 0 rfl rfl)
theorem q117 : (Jvm.Cond.initialized "java/lang/AbstractStringBuilder") ∈ lw_all := lw_g (lw_at lw_m1 10 rfl) rfl
theorem q118 : (Jvm.Cond.initialized "java/lang/StringBuilder") ∈ lw_all := lw_g (lw_at lw_m1 11 rfl) rfl
theorem q119 : (Jvm.Cond.initialized "java/lang/String") ∈ lw_all := lw_g (lw_at lw_m1 12 rfl) rfl
theorem q120 : (Jvm.Cond.initialized "java/lang/StringUTF16") ∈ lw_all := lw_g (lw_at lw_m1 13 rfl) rfl
theorem q133 : (Jvm.Cond.initialized "java/lang/StringLatin1") ∈ lw_all := lw_g (lw_at lw_m1 26 rfl) rfl
theorem q291 : (Jvm.Cond.methodLink "java/lang/StringBuilder" (1 : Nat) ({ cls := "java/lang/AbstractStringBuilder", name := "<init>", desc := "(I)V" } : Jvm.MethodName)) ∈ lw_all := lw_g (lw_at lw_m1 184 rfl) rfl
theorem q292 : (Jvm.Cond.instanceMethod ({ cls := "java/lang/AbstractStringBuilder", name := "<init>", desc := "(I)V" } : Jvm.MethodName)) ∈ lw_all := lw_g (lw_at lw_m1 185 rfl) rfl
theorem q293 : (Jvm.Cond.code ({ cls := "java/lang/AbstractStringBuilder", name := "<init>", desc := "(I)V" } : Jvm.MethodName) prog_27_method_2_code (2 : Nat) (Option.none : Option Jvm.ClassFile.FieldType)) ∈ lw_all := lw_g (lw_at lw_m1 186 rfl) rfl
theorem q294 : (Jvm.Cond.methodLink "java/lang/AbstractStringBuilder" (3 : Nat) ({ cls := "java/lang/Object", name := "<init>", desc := "()V" } : Jvm.MethodName)) ∈ lw_all := lw_g (lw_at lw_m1 187 rfl) rfl
theorem q295 : (Jvm.Cond.fieldLink "java/lang/AbstractStringBuilder" (18 : Nat) "java/lang/String" "COMPACT_STRINGS" "Z") ∈ lw_all := lw_g (lw_at lw_m1 188 rfl) rfl
theorem q297 : (Jvm.Cond.methodLink "java/lang/AbstractStringBuilder" (26 : Nat) ({ cls := "java/lang/StringUTF16", name := "newBytesFor", desc := "(I)[B" } : Jvm.MethodName)) ∈ lw_all := lw_g (lw_at lw_m1 190 rfl) rfl
theorem q298 : (Jvm.Cond.static ({ cls := "java/lang/StringUTF16", name := "newBytesFor", desc := "(I)[B" } : Jvm.MethodName)) ∈ lw_all := lw_g (lw_at lw_m1 191 rfl) rfl
theorem q299 : (Jvm.Cond.code ({ cls := "java/lang/StringUTF16", name := "newBytesFor", desc := "(I)[B" } : Jvm.MethodName) prog_52_method_2_code (1 : Nat) (Option.some (Jvm.ClassFile.FieldType.array Jvm.ClassFile.FieldType.byte))) ∈ lw_all := lw_g (lw_at lw_m1 192 rfl) rfl
theorem q300 : (Jvm.Cond.methodLink "java/lang/StringUTF16" (11 : Nat) ({ cls := "java/lang/StringUTF16", name := "newBytesLength", desc := "(I)I" } : Jvm.MethodName)) ∈ lw_all := lw_g (lw_at lw_m1 193 rfl) rfl
theorem q301 : (Jvm.Cond.static ({ cls := "java/lang/StringUTF16", name := "newBytesLength", desc := "(I)I" } : Jvm.MethodName)) ∈ lw_all := lw_g (lw_at lw_m1 194 rfl) rfl
theorem q302 : (Jvm.Cond.code ({ cls := "java/lang/StringUTF16", name := "newBytesLength", desc := "(I)I" } : Jvm.MethodName) prog_52_method_3_code (1 : Nat) (Option.some Jvm.ClassFile.FieldType.int)) ∈ lw_all := lw_g (lw_at lw_m1 195 rfl) rfl
theorem q303 : (Jvm.Cond.constant "java/lang/StringUTF16" (20 : Nat) (1073741823 : Int32)) ∈ lw_all := lw_g (lw_at lw_m1 196 rfl) rfl
theorem q304 : (Jvm.Cond.fieldLink "java/lang/AbstractStringBuilder" (15 : Nat) "java/lang/AbstractStringBuilder" "value" "[B") ∈ lw_all := lw_g (lw_at lw_m1 197 rfl) rfl
theorem q305 : (Jvm.Cond.fieldLink "java/lang/AbstractStringBuilder" (22 : Nat) "java/lang/AbstractStringBuilder" "coder" "B") ∈ lw_all := lw_g (lw_at lw_m1 198 rfl) rfl
theorem q306 : (Jvm.Cond.fieldLink "java/lang/AbstractStringBuilder" (73 : Nat) "java/lang/AbstractStringBuilder" "maybeLatin1" "Z") ∈ lw_all := lw_g (lw_at lw_m1 199 rfl) rfl
theorem q307 : (Jvm.Cond.fieldLink "java/lang/String" (1048 : Nat) "java/lang/AbstractStringBuilder" "maybeLatin1" "Z") ∈ lw_all := lw_g (lw_at lw_m1 200 rfl) rfl
theorem q308 : (Jvm.Cond.fieldLink "java/lang/AbstractStringBuilder" (79 : Nat) "java/lang/AbstractStringBuilder" "count" "I") ∈ lw_all := lw_g (lw_at lw_m1 201 rfl) rfl
theorem q317 : (Jvm.Cond.superclass "java/lang/StringBuilder" "java/lang/AbstractStringBuilder") ∈ lw_all := lw_g (lw_at lw_m1 210 rfl) rfl
theorem q318 : (Jvm.Cond.arrayClass Jvm.ClassFile.FieldType.byte) ∈ lw_all := lw_g (lw_at lw_m1 211 rfl) rfl
theorem q390 : (Jvm.Cond.methodLink "java/util/AbstractSequentialList" (65 : Nat) ({ cls := "java/util/AbstractSequentialList", name := "listIterator", desc := "()Ljava/util/ListIterator;" } : Jvm.MethodName)) ∈ lw_all := lw_g (lw_at lw_m2 43 rfl) rfl
theorem q391 : (Jvm.Cond.sameMethod "java/util/AbstractSequentialList" "java/util/AbstractList" "listIterator" "()Ljava/util/ListIterator;") ∈ lw_all := lw_g (lw_at lw_m2 44 rfl) rfl
theorem q393 : (Jvm.Cond.selects "java/util/LinkedList" ({ cls := "java/util/AbstractSequentialList", name := "listIterator", desc := "()Ljava/util/ListIterator;" } : Jvm.MethodName) ({ cls := "java/util/AbstractList", name := "listIterator", desc := "()Ljava/util/ListIterator;" } : Jvm.MethodName)) ∈ lw_all := lw_g (lw_at lw_m2 46 rfl) rfl
theorem q394 : (Jvm.Cond.instanceMethod ({ cls := "java/util/AbstractList", name := "listIterator", desc := "()Ljava/util/ListIterator;" } : Jvm.MethodName)) ∈ lw_all := lw_g (lw_at lw_m2 47 rfl) rfl
theorem q395 : (Jvm.Cond.code ({ cls := "java/util/AbstractList", name := "listIterator", desc := "()Ljava/util/ListIterator;" } : Jvm.MethodName) prog_60_method_12_code (1 : Nat) (Option.some (Jvm.ClassFile.FieldType.object "java/util/ListIterator"))) ∈ lw_all := lw_g (lw_at lw_m2 48 rfl) rfl
theorem q396 : (Jvm.Cond.methodLink "java/util/AbstractList" (47 : Nat) ({ cls := "java/util/AbstractList", name := "listIterator", desc := "(I)Ljava/util/ListIterator;" } : Jvm.MethodName)) ∈ lw_all := lw_g (lw_at lw_m2 49 rfl) rfl
theorem q398 : (Jvm.Cond.sameMethod "java/util/AbstractList" "java/util/AbstractList" "listIterator" "(I)Ljava/util/ListIterator;") ∈ lw_all := lw_g (lw_at lw_m2 51 rfl) rfl
theorem q462 : (Jvm.Cond.instanceMethod ({ cls := "java/lang/StringBuilder", name := "append", desc := "(Ljava/lang/String;)Ljava/lang/StringBuilder;" } : Jvm.MethodName)) ∈ lw_all := lw_g (lw_at lw_m2 115 rfl) rfl
theorem q463 : (Jvm.Cond.selects "java/lang/StringBuilder" ({ cls := "java/lang/StringBuilder", name := "append", desc := "(Ljava/lang/String;)Ljava/lang/StringBuilder;" } : Jvm.MethodName) ({ cls := "java/lang/StringBuilder", name := "append", desc := "(Ljava/lang/String;)Ljava/lang/StringBuilder;" } : Jvm.MethodName)) ∈ lw_all := lw_g (lw_at lw_m2 116 rfl) rfl
theorem q464 : (Jvm.Cond.code ({ cls := "java/lang/StringBuilder", name := "append", desc := "(Ljava/lang/String;)Ljava/lang/StringBuilder;" } : Jvm.MethodName) prog_49_method_7_code (2 : Nat) (Option.some (Jvm.ClassFile.FieldType.object "java/lang/StringBuilder"))) ∈ lw_all := lw_g (lw_at lw_m2 117 rfl) rfl
theorem q465 : (Jvm.Cond.methodLink "java/lang/StringBuilder" (29 : Nat) ({ cls := "java/lang/AbstractStringBuilder", name := "append", desc := "(Ljava/lang/String;)Ljava/lang/AbstractStringBuilder;" } : Jvm.MethodName)) ∈ lw_all := lw_g (lw_at lw_m2 118 rfl) rfl
theorem q466 : (Jvm.Cond.instanceMethod ({ cls := "java/lang/AbstractStringBuilder", name := "append", desc := "(Ljava/lang/String;)Ljava/lang/AbstractStringBuilder;" } : Jvm.MethodName)) ∈ lw_all := lw_g (lw_at lw_m2 119 rfl) rfl
theorem q467 : (Jvm.Cond.code ({ cls := "java/lang/AbstractStringBuilder", name := "append", desc := "(Ljava/lang/String;)Ljava/lang/AbstractStringBuilder;" } : Jvm.MethodName) prog_27_method_22_code (3 : Nat) (Option.some (Jvm.ClassFile.FieldType.object "java/lang/AbstractStringBuilder"))) ∈ lw_all := lw_g (lw_at lw_m2 120 rfl) rfl
theorem q468 : (Jvm.Cond.methodLink "java/lang/AbstractStringBuilder" (204 : Nat) ({ cls := "java/lang/AbstractStringBuilder", name := "appendNull", desc := "()Ljava/lang/AbstractStringBuilder;" } : Jvm.MethodName)) ∈ lw_all := lw_g (lw_at lw_m2 121 rfl) rfl
theorem q469 : (Jvm.Cond.privateMethod ({ cls := "java/lang/AbstractStringBuilder", name := "appendNull", desc := "()Ljava/lang/AbstractStringBuilder;" } : Jvm.MethodName)) ∈ lw_tbl := lw_at lw_m2 122 rfl
theorem mv469 : (Jvm.Cond.privateMethod ({ cls := "java/lang/AbstractStringBuilder", name := "appendNull", desc := "()Ljava/lang/AbstractStringBuilder;" } : Jvm.MethodName)) ∈ lw_mv := List.mem_filter.mpr ⟨q469, rfl⟩
theorem q470 : (Jvm.Cond.instanceMethod ({ cls := "java/lang/AbstractStringBuilder", name := "appendNull", desc := "()Ljava/lang/AbstractStringBuilder;" } : Jvm.MethodName)) ∈ lw_all := lw_g (lw_at lw_m2 123 rfl) rfl
theorem q471 : (Jvm.Cond.code ({ cls := "java/lang/AbstractStringBuilder", name := "appendNull", desc := "()Ljava/lang/AbstractStringBuilder;" } : Jvm.MethodName) prog_27_method_26_code (3 : Nat) (Option.some (Jvm.ClassFile.FieldType.object "java/lang/AbstractStringBuilder"))) ∈ lw_all := lw_g (lw_at lw_m2 124 rfl) rfl
theorem q472 : (Jvm.Cond.methodLink "java/lang/AbstractStringBuilder" (100 : Nat) ({ cls := "java/lang/AbstractStringBuilder", name := "ensureCapacityInternal", desc := "(I)V" } : Jvm.MethodName)) ∈ lw_all := lw_g (lw_at lw_m2 125 rfl) rfl
theorem q473 : (Jvm.Cond.privateMethod ({ cls := "java/lang/AbstractStringBuilder", name := "ensureCapacityInternal", desc := "(I)V" } : Jvm.MethodName)) ∈ lw_tbl := lw_at lw_m2 126 rfl
theorem mv473 : (Jvm.Cond.privateMethod ({ cls := "java/lang/AbstractStringBuilder", name := "ensureCapacityInternal", desc := "(I)V" } : Jvm.MethodName)) ∈ lw_mv := List.mem_filter.mpr ⟨q473, rfl⟩
theorem q474 : (Jvm.Cond.instanceMethod ({ cls := "java/lang/AbstractStringBuilder", name := "ensureCapacityInternal", desc := "(I)V" } : Jvm.MethodName)) ∈ lw_all := lw_g (lw_at lw_m2 127 rfl) rfl
theorem q475 : (Jvm.Cond.code ({ cls := "java/lang/AbstractStringBuilder", name := "ensureCapacityInternal", desc := "(I)V" } : Jvm.MethodName) prog_27_method_9_code (3 : Nat) (Option.none : Option Jvm.ClassFile.FieldType)) ∈ lw_all := lw_g (lw_at lw_m2 128 rfl) rfl
theorem q476 : (Jvm.Cond.methodLink "java/lang/AbstractStringBuilder" (104 : Nat) ({ cls := "java/lang/AbstractStringBuilder", name := "newCapacity", desc := "(I)I" } : Jvm.MethodName)) ∈ lw_all := lw_g (lw_at lw_m2 129 rfl) rfl
theorem q477 : (Jvm.Cond.privateMethod ({ cls := "java/lang/AbstractStringBuilder", name := "newCapacity", desc := "(I)I" } : Jvm.MethodName)) ∈ lw_tbl := lw_at lw_m2 130 rfl
theorem mv477 : (Jvm.Cond.privateMethod ({ cls := "java/lang/AbstractStringBuilder", name := "newCapacity", desc := "(I)I" } : Jvm.MethodName)) ∈ lw_mv := List.mem_filter.mpr ⟨q477, rfl⟩
theorem q478 : (Jvm.Cond.instanceMethod ({ cls := "java/lang/AbstractStringBuilder", name := "newCapacity", desc := "(I)I" } : Jvm.MethodName)) ∈ lw_all := lw_g (lw_at lw_m2 131 rfl) rfl
theorem q479 : (Jvm.Cond.code ({ cls := "java/lang/AbstractStringBuilder", name := "newCapacity", desc := "(I)I" } : Jvm.MethodName) prog_27_method_10_code (6 : Nat) (Option.some Jvm.ClassFile.FieldType.int)) ∈ lw_all := lw_g (lw_at lw_m2 132 rfl) rfl
theorem q480 : (Jvm.Cond.methodLink "java/lang/AbstractStringBuilder" (114 : Nat) ({ cls := "jdk/internal/util/ArraysSupport", name := "newLength", desc := "(III)I" } : Jvm.MethodName)) ∈ lw_all := lw_g (lw_at lw_m2 133 rfl) rfl
theorem q490 : (Jvm.Cond.constant "java/lang/AbstractStringBuilder" (39 : Nat) (2147483647 : Int32)) ∈ lw_all := lw_g (lw_at lw_m2 143 rfl) rfl
theorem q491 : (Jvm.Cond.methodLink "java/lang/AbstractStringBuilder" (108 : Nat) ({ cls := "java/util/Arrays", name := "copyOf", desc := "([BI)[B" } : Jvm.MethodName)) ∈ lw_all := lw_g (lw_at lw_m2 144 rfl) rfl
theorem q492 : (Jvm.Cond.static ({ cls := "java/util/Arrays", name := "copyOf", desc := "([BI)[B" } : Jvm.MethodName)) ∈ lw_all := lw_g (lw_at lw_m2 145 rfl) rfl
theorem q493 : (Jvm.Cond.code ({ cls := "java/util/Arrays", name := "copyOf", desc := "([BI)[B" } : Jvm.MethodName) prog_69_method_121_code (3 : Nat) (Option.some (Jvm.ClassFile.FieldType.array Jvm.ClassFile.FieldType.byte))) ∈ lw_all := lw_g (lw_at lw_m2 146 rfl) rfl
theorem q494 : (Jvm.Cond.methodLink "java/util/Arrays" (310 : Nat) ({ cls := "[B", name := "clone", desc := "()Ljava/lang/Object;" } : Jvm.MethodName)) ∈ lw_all := lw_g (lw_at lw_m2 147 rfl) rfl
theorem q495 : (Jvm.Cond.sameMethod "[B" "java/lang/Object" "clone" "()Ljava/lang/Object;") ∈ lw_all := lw_g (lw_at lw_m2 148 rfl) rfl
theorem q496 : (Jvm.Cond.native ({ cls := "java/lang/Object", name := "clone", desc := "()Ljava/lang/Object;" } : Jvm.MethodName)) ∈ lw_all := lw_g (lw_at lw_m2 149 rfl) rfl
theorem q497 : (Jvm.Cond.instanceMethod ({ cls := "java/lang/Object", name := "clone", desc := "()Ljava/lang/Object;" } : Jvm.MethodName)) ∈ lw_all := lw_g (lw_at lw_m2 150 rfl) rfl
theorem q498 : (Jvm.Cond.selects "[B" ({ cls := "[B", name := "clone", desc := "()Ljava/lang/Object;" } : Jvm.MethodName) ({ cls := "java/lang/Object", name := "clone", desc := "()Ljava/lang/Object;" } : Jvm.MethodName)) ∈ lw_all := lw_g (lw_at lw_m2 151 rfl) rfl
theorem q499 : (Jvm.Cond.castable "[B" "java/lang/Cloneable") ∈ lw_tbl := lw_at lw_m2 152 rfl
theorem mv499 : (Jvm.Cond.castable "[B" "java/lang/Cloneable") ∈ lw_mv := List.mem_filter.mpr ⟨q499, rfl⟩
theorem q500 : (Jvm.Cond.classLink "java/util/Arrays" (311 : Nat) "[B") ∈ lw_all := lw_g (lw_at lw_m2 153 rfl) rfl
theorem q507 : (Jvm.Cond.methodLink "java/lang/AbstractStringBuilder" (83 : Nat) ({ cls := "java/lang/AbstractStringBuilder", name := "isLatin1", desc := "()Z" } : Jvm.MethodName)) ∈ lw_all := lw_g (lw_at lw_m2 160 rfl) rfl
theorem q508 : (Jvm.Cond.instanceMethod ({ cls := "java/lang/AbstractStringBuilder", name := "isLatin1", desc := "()Z" } : Jvm.MethodName)) ∈ lw_all := lw_g (lw_at lw_m2 161 rfl) rfl
theorem q509 : (Jvm.Cond.sameMethod "java/lang/AbstractStringBuilder" "java/lang/AbstractStringBuilder" "isLatin1" "()Z") ∈ lw_all := lw_g (lw_at lw_m2 162 rfl) rfl
theorem q510 : (Jvm.Cond.selects "java/lang/StringBuilder" ({ cls := "java/lang/AbstractStringBuilder", name := "isLatin1", desc := "()Z" } : Jvm.MethodName) ({ cls := "java/lang/AbstractStringBuilder", name := "isLatin1", desc := "()Z" } : Jvm.MethodName)) ∈ lw_all := lw_g (lw_at lw_m2 163 rfl) rfl
theorem q511 : (Jvm.Cond.code ({ cls := "java/lang/AbstractStringBuilder", name := "isLatin1", desc := "()Z" } : Jvm.MethodName) prog_27_method_68_code (1 : Nat) (Option.some Jvm.ClassFile.FieldType.boolean)) ∈ lw_all := lw_g (lw_at lw_m2 164 rfl) rfl
theorem q512 : (Jvm.Cond.methodLink "java/lang/AbstractStringBuilder" (226 : Nat) ({ cls := "java/lang/StringUTF16", name := "putCharsAt", desc := "([BICCCC)I" } : Jvm.MethodName)) ∈ lw_all := lw_g (lw_at lw_m2 165 rfl) rfl
theorem q513 : (Jvm.Cond.static ({ cls := "java/lang/StringUTF16", name := "putCharsAt", desc := "([BICCCC)I" } : Jvm.MethodName)) ∈ lw_all := lw_g (lw_at lw_m2 166 rfl) rfl
theorem q514 : (Jvm.Cond.code ({ cls := "java/lang/StringUTF16", name := "putCharsAt", desc := "([BICCCC)I" } : Jvm.MethodName) prog_52_method_81_code (7 : Nat) (Option.some Jvm.ClassFile.FieldType.int)) ∈ lw_all := lw_g (lw_at lw_m2 167 rfl) rfl
theorem q515 : (Jvm.Cond.methodLink "java/lang/StringUTF16" (96 : Nat) ({ cls := "java/lang/StringUTF16", name := "checkBoundsBeginEnd", desc := "(II[B)V" } : Jvm.MethodName)) ∈ lw_all := lw_g (lw_at lw_m2 168 rfl) rfl
theorem q516 : (Jvm.Cond.static ({ cls := "java/lang/StringUTF16", name := "checkBoundsBeginEnd", desc := "(II[B)V" } : Jvm.MethodName)) ∈ lw_all := lw_g (lw_at lw_m2 169 rfl) rfl
theorem q517 : (Jvm.Cond.code ({ cls := "java/lang/StringUTF16", name := "checkBoundsBeginEnd", desc := "(II[B)V" } : Jvm.MethodName) prog_52_method_93_code (3 : Nat) (Option.none : Option Jvm.ClassFile.FieldType)) ∈ lw_all := lw_g (lw_at lw_m2 170 rfl) rfl
theorem q518 : (Jvm.Cond.methodLink "java/lang/StringUTF16" (48 : Nat) ({ cls := "java/lang/StringUTF16", name := "length", desc := "([B)I" } : Jvm.MethodName)) ∈ lw_all := lw_g (lw_at lw_m2 171 rfl) rfl
theorem q519 : (Jvm.Cond.static ({ cls := "java/lang/StringUTF16", name := "length", desc := "([B)I" } : Jvm.MethodName)) ∈ lw_all := lw_g (lw_at lw_m2 172 rfl) rfl
theorem q520 : (Jvm.Cond.code ({ cls := "java/lang/StringUTF16", name := "length", desc := "([B)I" } : Jvm.MethodName) prog_52_method_6_code (1 : Nat) (Option.some Jvm.ClassFile.FieldType.int)) ∈ lw_all := lw_g (lw_at lw_m2 173 rfl) rfl
theorem q521 : (Jvm.Cond.methodLink "java/lang/StringUTF16" (241 : Nat) ({ cls := "java/lang/String", name := "checkBoundsBeginEnd", desc := "(III)V" } : Jvm.MethodName)) ∈ lw_all := lw_g (lw_at lw_m2 174 rfl) rfl
theorem q522 : (Jvm.Cond.static ({ cls := "java/lang/String", name := "checkBoundsBeginEnd", desc := "(III)V" } : Jvm.MethodName)) ∈ lw_all := lw_g (lw_at lw_m2 175 rfl) rfl
theorem q523 : (Jvm.Cond.code ({ cls := "java/lang/String", name := "checkBoundsBeginEnd", desc := "(III)V" } : Jvm.MethodName) prog_48_method_158_code (3 : Nat) (Option.none : Option Jvm.ClassFile.FieldType)) ∈ lw_all := lw_g (lw_at lw_m2 176 rfl) rfl
theorem q524 : (Jvm.Cond.fieldLink "java/lang/String" (1053 : Nat) "jdk/internal/util/Preconditions" "SIOOBE_FORMATTER" "Ljava/util/function/BiFunction;") ∈ lw_all := lw_g (lw_at lw_m2 177 rfl) rfl
theorem q526 : (Jvm.Cond.methodLink "java/lang/String" (1062 : Nat) ({ cls := "jdk/internal/util/Preconditions", name := "checkFromToIndex", desc := "(IIILjava/util/function/BiFunction;)I" } : Jvm.MethodName)) ∈ lw_all := lw_g (lw_at lw_m2 179 rfl) rfl
theorem q527 : (Jvm.Cond.static ({ cls := "jdk/internal/util/Preconditions", name := "checkFromToIndex", desc := "(IIILjava/util/function/BiFunction;)I" } : Jvm.MethodName)) ∈ lw_all := lw_g (lw_at lw_m2 180 rfl) rfl
theorem q528 : (Jvm.Cond.code ({ cls := "jdk/internal/util/Preconditions", name := "checkFromToIndex", desc := "(IIILjava/util/function/BiFunction;)I" } : Jvm.MethodName) prog_107_method_12_code (4 : Nat) (Option.some Jvm.ClassFile.FieldType.int)) ∈ lw_all := lw_g (lw_at lw_m2 181 rfl) rfl
theorem q529 : (Jvm.Cond.methodLink "java/lang/StringUTF16" (111 : Nat) ({ cls := "java/lang/StringUTF16", name := "putChar", desc := "([BII)V" } : Jvm.MethodName)) ∈ lw_all := lw_g (lw_at lw_m2 182 rfl) rfl
theorem q530 : (Jvm.Cond.static ({ cls := "java/lang/StringUTF16", name := "putChar", desc := "([BII)V" } : Jvm.MethodName)) ∈ lw_all := lw_g (lw_at lw_m2 183 rfl) rfl
theorem q531 : (Jvm.Cond.code ({ cls := "java/lang/StringUTF16", name := "putChar", desc := "([BII)V" } : Jvm.MethodName) prog_52_method_4_code (3 : Nat) (Option.none : Option Jvm.ClassFile.FieldType)) ∈ lw_all := lw_g (lw_at lw_m2 184 rfl) rfl
theorem q532 : (Jvm.Cond.fieldLink "java/lang/StringUTF16" (44 : Nat) "java/lang/StringUTF16" "$assertionsDisabled" "Z") ∈ lw_all := lw_g (lw_at lw_m2 185 rfl) rfl
theorem q534 : (Jvm.Cond.fieldLink "java/lang/StringUTF16" (59 : Nat) "java/lang/StringUTF16" "HI_BYTE_SHIFT" "I") ∈ lw_all := lw_g (lw_at lw_m2 187 rfl) rfl
theorem q536 : (Jvm.Cond.fieldLink "java/lang/StringUTF16" (63 : Nat) "java/lang/StringUTF16" "LO_BYTE_SHIFT" "I") ∈ lw_all := lw_g (lw_at lw_m2 189 rfl) rfl
theorem q538 : (Jvm.Cond.methodLink "java/lang/AbstractStringBuilder" (32 : Nat) ({ cls := "java/lang/String", name := "length", desc := "()I" } : Jvm.MethodName)) ∈ lw_all := lw_g (lw_at lw_m2 191 rfl) rfl
theorem q539 : (Jvm.Cond.instanceMethod ({ cls := "java/lang/String", name := "length", desc := "()I" } : Jvm.MethodName)) ∈ lw_all := lw_g (lw_at lw_m2 192 rfl) rfl
theorem q540 : (Jvm.Cond.selects "java/lang/String" ({ cls := "java/lang/String", name := "length", desc := "()I" } : Jvm.MethodName) ({ cls := "java/lang/String", name := "length", desc := "()I" } : Jvm.MethodName)) ∈ lw_all := lw_g (lw_at lw_m2 193 rfl) rfl
theorem q541 : (Jvm.Cond.code ({ cls := "java/lang/String", name := "length", desc := "()I" } : Jvm.MethodName) prog_48_method_54_code (1 : Nat) (Option.some Jvm.ClassFile.FieldType.int)) ∈ lw_all := lw_g (lw_at lw_m2 194 rfl) rfl
theorem q542 : (Jvm.Cond.methodLink "java/lang/String" (335 : Nat) ({ cls := "java/lang/String", name := "coder", desc := "()B" } : Jvm.MethodName)) ∈ lw_all := lw_g (lw_at lw_m2 195 rfl) rfl
theorem q543 : (Jvm.Cond.instanceMethod ({ cls := "java/lang/String", name := "coder", desc := "()B" } : Jvm.MethodName)) ∈ lw_all := lw_g (lw_at lw_m2 196 rfl) rfl
theorem q544 : (Jvm.Cond.selects "java/lang/String" ({ cls := "java/lang/String", name := "coder", desc := "()B" } : Jvm.MethodName) ({ cls := "java/lang/String", name := "coder", desc := "()B" } : Jvm.MethodName)) ∈ lw_all := lw_g (lw_at lw_m2 197 rfl) rfl
theorem q545 : (Jvm.Cond.code ({ cls := "java/lang/String", name := "coder", desc := "()B" } : Jvm.MethodName) prog_48_method_152_code (1 : Nat) (Option.some Jvm.ClassFile.FieldType.byte)) ∈ lw_all := lw_g (lw_at lw_m2 198 rfl) rfl
theorem q547 : (Jvm.Cond.methodLink "java/lang/AbstractStringBuilder" (208 : Nat) ({ cls := "java/lang/AbstractStringBuilder", name := "putStringAt", desc := "(ILjava/lang/String;)V" } : Jvm.MethodName)) ∈ lw_all := lw_g (lw_at lw_m2 200 rfl) rfl
theorem q548 : (Jvm.Cond.privateMethod ({ cls := "java/lang/AbstractStringBuilder", name := "putStringAt", desc := "(ILjava/lang/String;)V" } : Jvm.MethodName)) ∈ lw_tbl := lw_at lw_m2 201 rfl
theorem mv548 : (Jvm.Cond.privateMethod ({ cls := "java/lang/AbstractStringBuilder", name := "putStringAt", desc := "(ILjava/lang/String;)V" } : Jvm.MethodName)) ∈ lw_mv := List.mem_filter.mpr ⟨q548, rfl⟩
theorem q549 : (Jvm.Cond.instanceMethod ({ cls := "java/lang/AbstractStringBuilder", name := "putStringAt", desc := "(ILjava/lang/String;)V" } : Jvm.MethodName)) ∈ lw_all := lw_g (lw_at lw_m2 202 rfl) rfl
theorem q550 : (Jvm.Cond.code ({ cls := "java/lang/AbstractStringBuilder", name := "putStringAt", desc := "(ILjava/lang/String;)V" } : Jvm.MethodName) prog_27_method_73_code (3 : Nat) (Option.none : Option Jvm.ClassFile.FieldType)) ∈ lw_all := lw_g (lw_at lw_m2 203 rfl) rfl
theorem q551 : (Jvm.Cond.methodLink "java/lang/AbstractStringBuilder" (397 : Nat) ({ cls := "java/lang/AbstractStringBuilder", name := "inflateIfNeededFor", desc := "(Ljava/lang/String;)V" } : Jvm.MethodName)) ∈ lw_all := lw_g (lw_at lw_m2 204 rfl) rfl
theorem q552 : (Jvm.Cond.privateMethod ({ cls := "java/lang/AbstractStringBuilder", name := "inflateIfNeededFor", desc := "(Ljava/lang/String;)V" } : Jvm.MethodName)) ∈ lw_tbl := lw_at lw_m2 205 rfl
theorem mv552 : (Jvm.Cond.privateMethod ({ cls := "java/lang/AbstractStringBuilder", name := "inflateIfNeededFor", desc := "(Ljava/lang/String;)V" } : Jvm.MethodName)) ∈ lw_mv := List.mem_filter.mpr ⟨q552, rfl⟩
theorem q553 : (Jvm.Cond.instanceMethod ({ cls := "java/lang/AbstractStringBuilder", name := "inflateIfNeededFor", desc := "(Ljava/lang/String;)V" } : Jvm.MethodName)) ∈ lw_all := lw_g (lw_at lw_m2 206 rfl) rfl
theorem q554 : (Jvm.Cond.code ({ cls := "java/lang/AbstractStringBuilder", name := "inflateIfNeededFor", desc := "(Ljava/lang/String;)V" } : Jvm.MethodName) prog_27_method_71_code (2 : Nat) (Option.none : Option Jvm.ClassFile.FieldType)) ∈ lw_all := lw_g (lw_at lw_m2 207 rfl) rfl
theorem q555 : (Jvm.Cond.methodLink "java/lang/AbstractStringBuilder" (40 : Nat) ({ cls := "java/lang/String", name := "coder", desc := "()B" } : Jvm.MethodName)) ∈ lw_all := lw_g (lw_at lw_m2 208 rfl) rfl
theorem q556 : (Jvm.Cond.methodLink "java/lang/AbstractStringBuilder" (195 : Nat) ({ cls := "java/lang/AbstractStringBuilder", name := "inflate", desc := "()V" } : Jvm.MethodName)) ∈ lw_all := lw_g (lw_at lw_m2 209 rfl) rfl
theorem q557 : (Jvm.Cond.privateMethod ({ cls := "java/lang/AbstractStringBuilder", name := "inflate", desc := "()V" } : Jvm.MethodName)) ∈ lw_tbl := lw_at lw_m2 210 rfl
theorem mv557 : (Jvm.Cond.privateMethod ({ cls := "java/lang/AbstractStringBuilder", name := "inflate", desc := "()V" } : Jvm.MethodName)) ∈ lw_mv := List.mem_filter.mpr ⟨q557, rfl⟩
theorem q558 : (Jvm.Cond.instanceMethod ({ cls := "java/lang/AbstractStringBuilder", name := "inflate", desc := "()V" } : Jvm.MethodName)) ∈ lw_all := lw_g (lw_at lw_m2 211 rfl) rfl
theorem q559 : (Jvm.Cond.code ({ cls := "java/lang/AbstractStringBuilder", name := "inflate", desc := "()V" } : Jvm.MethodName) prog_27_method_11_code (2 : Nat) (Option.none : Option Jvm.ClassFile.FieldType)) ∈ lw_all := lw_g (lw_at lw_m2 212 rfl) rfl
theorem q560 : (Jvm.Cond.methodLink "java/lang/AbstractStringBuilder" (125 : Nat) ({ cls := "java/lang/StringLatin1", name := "inflate", desc := "([BI[BII)V" } : Jvm.MethodName)) ∈ lw_all := lw_g (lw_at lw_m2 213 rfl) rfl
theorem q561 : (Jvm.Cond.static ({ cls := "java/lang/StringLatin1", name := "inflate", desc := "([BI[BII)V" } : Jvm.MethodName)) ∈ lw_all := lw_g (lw_at lw_m2 214 rfl) rfl
theorem q562 : (Jvm.Cond.code ({ cls := "java/lang/StringLatin1", name := "inflate", desc := "([BI[BII)V" } : Jvm.MethodName) prog_51_method_50_code (5 : Nat) (Option.none : Option Jvm.ClassFile.FieldType)) ∈ lw_all := lw_g (lw_at lw_m2 215 rfl) rfl
theorem q563 : (Jvm.Cond.methodLink "java/lang/StringLatin1" (240 : Nat) ({ cls := "java/lang/StringUTF16", name := "inflate", desc := "([BI[BII)V" } : Jvm.MethodName)) ∈ lw_all := lw_g (lw_at lw_m2 216 rfl) rfl
theorem q564 : (Jvm.Cond.static ({ cls := "java/lang/StringUTF16", name := "inflate", desc := "([BI[BII)V" } : Jvm.MethodName)) ∈ lw_all := lw_g (lw_at lw_m2 217 rfl) rfl
theorem q565 : (Jvm.Cond.code ({ cls := "java/lang/StringUTF16", name := "inflate", desc := "([BI[BII)V" } : Jvm.MethodName) prog_52_method_86_code (6 : Nat) (Option.none : Option Jvm.ClassFile.FieldType)) ∈ lw_all := lw_g (lw_at lw_m2 218 rfl) rfl
theorem q566 : (Jvm.Cond.methodLink "java/lang/StringUTF16" (173 : Nat) ({ cls := "java/lang/StringUTF16", name := "checkBoundsOffCount", desc := "(II[B)V" } : Jvm.MethodName)) ∈ lw_all := lw_g (lw_at lw_m2 219 rfl) rfl
theorem q567 : (Jvm.Cond.static ({ cls := "java/lang/StringUTF16", name := "checkBoundsOffCount", desc := "(II[B)V" } : Jvm.MethodName)) ∈ lw_all := lw_g (lw_at lw_m2 220 rfl) rfl
theorem q568 : (Jvm.Cond.code ({ cls := "java/lang/StringUTF16", name := "checkBoundsOffCount", desc := "(II[B)V" } : Jvm.MethodName) prog_52_method_94_code (3 : Nat) (Option.none : Option Jvm.ClassFile.FieldType)) ∈ lw_all := lw_g (lw_at lw_m2 221 rfl) rfl
theorem q569 : (Jvm.Cond.methodLink "java/lang/StringUTF16" (419 : Nat) ({ cls := "java/lang/String", name := "checkBoundsOffCount", desc := "(III)I" } : Jvm.MethodName)) ∈ lw_all := lw_g (lw_at lw_m2 222 rfl) rfl
theorem q570 : (Jvm.Cond.static ({ cls := "java/lang/String", name := "checkBoundsOffCount", desc := "(III)I" } : Jvm.MethodName)) ∈ lw_all := lw_g (lw_at lw_m2 223 rfl) rfl
theorem q571 : (Jvm.Cond.code ({ cls := "java/lang/String", name := "checkBoundsOffCount", desc := "(III)I" } : Jvm.MethodName) prog_48_method_157_code (3 : Nat) (Option.some Jvm.ClassFile.FieldType.int)) ∈ lw_all := lw_g (lw_at lw_m2 224 rfl) rfl
theorem q572 : (Jvm.Cond.methodLink "java/lang/String" (1065 : Nat) ({ cls := "jdk/internal/util/Preconditions", name := "checkFromIndexSize", desc := "(IIILjava/util/function/BiFunction;)I" } : Jvm.MethodName)) ∈ lw_all := lw_g (lw_at lw_m2 225 rfl) rfl
theorem q573 : (Jvm.Cond.static ({ cls := "jdk/internal/util/Preconditions", name := "checkFromIndexSize", desc := "(IIILjava/util/function/BiFunction;)I" } : Jvm.MethodName)) ∈ lw_all := lw_g (lw_at lw_m2 226 rfl) rfl
theorem q574 : (Jvm.Cond.code ({ cls := "jdk/internal/util/Preconditions", name := "checkFromIndexSize", desc := "(IIILjava/util/function/BiFunction;)I" } : Jvm.MethodName) prog_107_method_13_code (4 : Nat) (Option.some Jvm.ClassFile.FieldType.int)) ∈ lw_all := lw_g (lw_at lw_m2 227 rfl) rfl
theorem q575 : (Jvm.Cond.methodLink "java/lang/AbstractStringBuilder" (399 : Nat) ({ cls := "java/lang/String", name := "getBytes", desc := "([BIB)V" } : Jvm.MethodName)) ∈ lw_all := lw_g (lw_at lw_m2 228 rfl) rfl
theorem q576 : (Jvm.Cond.instanceMethod ({ cls := "java/lang/String", name := "getBytes", desc := "([BIB)V" } : Jvm.MethodName)) ∈ lw_all := lw_g (lw_at lw_m2 229 rfl) rfl
theorem q577 : (Jvm.Cond.selects "java/lang/String" ({ cls := "java/lang/String", name := "getBytes", desc := "([BIB)V" } : Jvm.MethodName) ({ cls := "java/lang/String", name := "getBytes", desc := "([BIB)V" } : Jvm.MethodName)) ∈ lw_all := lw_g (lw_at lw_m2 230 rfl) rfl
theorem q578 : (Jvm.Cond.code ({ cls := "java/lang/String", name := "getBytes", desc := "([BIB)V" } : Jvm.MethodName) prog_48_method_147_code (4 : Nat) (Option.none : Option Jvm.ClassFile.FieldType)) ∈ lw_all := lw_g (lw_at lw_m2 231 rfl) rfl
theorem q579 : (Jvm.Cond.methodLink "java/lang/String" (212 : Nat) ({ cls := "java/lang/System", name := "arraycopy", desc := "(Ljava/lang/Object;ILjava/lang/Object;II)V" } : Jvm.MethodName)) ∈ lw_all := lw_g (lw_at lw_m2 232 rfl) rfl
theorem q580 : (Jvm.Cond.methodLink "java/lang/String" (106 : Nat) ({ cls := "java/lang/StringLatin1", name := "inflate", desc := "([BI[BII)V" } : Jvm.MethodName)) ∈ lw_all := lw_g (lw_at lw_m2 233 rfl) rfl
theorem q608 : (Jvm.Cond.instanceMethod ({ cls := "java/lang/StringBuilder", name := "toString", desc := "()Ljava/lang/String;" } : Jvm.MethodName)) ∈ lw_all := lw_g (lw_at lw_m3 21 rfl) rfl
theorem q610 : (Jvm.Cond.code ({ cls := "java/lang/StringBuilder", name := "toString", desc := "()Ljava/lang/String;" } : Jvm.MethodName) prog_49_method_42_code (1 : Nat) (Option.some (Jvm.ClassFile.FieldType.object "java/lang/String"))) ∈ lw_all := lw_g (lw_at lw_m3 23 rfl) rfl
theorem q611 : (Jvm.Cond.classLink "java/lang/StringBuilder" (18 : Nat) "java/lang/String") ∈ lw_all := lw_g (lw_at lw_m3 24 rfl) rfl
theorem q613 : (Jvm.Cond.methodLink "java/lang/StringBuilder" (137 : Nat) ({ cls := "java/lang/String", name := "<init>", desc := "(Ljava/lang/StringBuilder;)V" } : Jvm.MethodName)) ∈ lw_all := lw_g (lw_at lw_m3 26 rfl) rfl
theorem q614 : (Jvm.Cond.instanceMethod ({ cls := "java/lang/String", name := "<init>", desc := "(Ljava/lang/StringBuilder;)V" } : Jvm.MethodName)) ∈ lw_all := lw_g (lw_at lw_m3 27 rfl) rfl
theorem q615 : (Jvm.Cond.code ({ cls := "java/lang/String", name := "<init>", desc := "(Ljava/lang/StringBuilder;)V" } : Jvm.MethodName) prog_48_method_53_code (2 : Nat) (Option.none : Option Jvm.ClassFile.FieldType)) ∈ lw_all := lw_g (lw_at lw_m3 28 rfl) rfl
theorem q616 : (Jvm.Cond.methodLink "java/lang/String" (489 : Nat) ({ cls := "java/lang/String", name := "<init>", desc := "(Ljava/lang/AbstractStringBuilder;Ljava/lang/Void;)V" } : Jvm.MethodName)) ∈ lw_all := lw_g (lw_at lw_m3 29 rfl) rfl
theorem q617 : (Jvm.Cond.instanceMethod ({ cls := "java/lang/String", name := "<init>", desc := "(Ljava/lang/AbstractStringBuilder;Ljava/lang/Void;)V" } : Jvm.MethodName)) ∈ lw_all := lw_g (lw_at lw_m3 30 rfl) rfl
theorem q618 : (Jvm.Cond.code ({ cls := "java/lang/String", name := "<init>", desc := "(Ljava/lang/AbstractStringBuilder;Ljava/lang/Void;)V" } : Jvm.MethodName) prog_48_method_150_code (5 : Nat) (Option.none : Option Jvm.ClassFile.FieldType)) ∈ lw_all := lw_g (lw_at lw_m3 31 rfl) rfl
theorem q619 : (Jvm.Cond.methodLink "java/lang/String" (1 : Nat) ({ cls := "java/lang/Object", name := "<init>", desc := "()V" } : Jvm.MethodName)) ∈ lw_all := lw_g (lw_at lw_m3 32 rfl) rfl
theorem q620 : (Jvm.Cond.methodLink "java/lang/String" (552 : Nat) ({ cls := "java/lang/AbstractStringBuilder", name := "getValue", desc := "()[B" } : Jvm.MethodName)) ∈ lw_all := lw_g (lw_at lw_m3 33 rfl) rfl
theorem q621 : (Jvm.Cond.instanceMethod ({ cls := "java/lang/AbstractStringBuilder", name := "getValue", desc := "()[B" } : Jvm.MethodName)) ∈ lw_all := lw_g (lw_at lw_m3 34 rfl) rfl
theorem q622 : (Jvm.Cond.sameMethod "java/lang/AbstractStringBuilder" "java/lang/AbstractStringBuilder" "getValue" "()[B") ∈ lw_all := lw_g (lw_at lw_m3 35 rfl) rfl
theorem q623 : (Jvm.Cond.selects "java/lang/StringBuilder" ({ cls := "java/lang/AbstractStringBuilder", name := "getValue", desc := "()[B" } : Jvm.MethodName) ({ cls := "java/lang/AbstractStringBuilder", name := "getValue", desc := "()[B" } : Jvm.MethodName)) ∈ lw_all := lw_g (lw_at lw_m3 36 rfl) rfl
theorem q624 : (Jvm.Cond.code ({ cls := "java/lang/AbstractStringBuilder", name := "getValue", desc := "()[B" } : Jvm.MethodName) prog_27_method_64_code (1 : Nat) (Option.some (Jvm.ClassFile.FieldType.array Jvm.ClassFile.FieldType.byte))) ∈ lw_all := lw_g (lw_at lw_m3 37 rfl) rfl
theorem q625 : (Jvm.Cond.methodLink "java/lang/String" (549 : Nat) ({ cls := "java/lang/AbstractStringBuilder", name := "length", desc := "()I" } : Jvm.MethodName)) ∈ lw_all := lw_g (lw_at lw_m3 38 rfl) rfl
theorem q626 : (Jvm.Cond.instanceMethod ({ cls := "java/lang/AbstractStringBuilder", name := "length", desc := "()I" } : Jvm.MethodName)) ∈ lw_all := lw_g (lw_at lw_m3 39 rfl) rfl
theorem q627 : (Jvm.Cond.sameMethod "java/lang/AbstractStringBuilder" "java/lang/AbstractStringBuilder" "length" "()I") ∈ lw_all := lw_g (lw_at lw_m3 40 rfl) rfl
theorem q628 : (Jvm.Cond.selects "java/lang/StringBuilder" ({ cls := "java/lang/AbstractStringBuilder", name := "length", desc := "()I" } : Jvm.MethodName) ({ cls := "java/lang/StringBuilder", name := "length", desc := "()I" } : Jvm.MethodName)) ∈ lw_all := lw_g (lw_at lw_m3 41 rfl) rfl
theorem q629 : (Jvm.Cond.instanceMethod ({ cls := "java/lang/StringBuilder", name := "length", desc := "()I" } : Jvm.MethodName)) ∈ lw_all := lw_g (lw_at lw_m3 42 rfl) rfl
theorem q630 : (Jvm.Cond.code ({ cls := "java/lang/StringBuilder", name := "length", desc := "()I" } : Jvm.MethodName) prog_49_method_93_code (1 : Nat) (Option.some Jvm.ClassFile.FieldType.int)) ∈ lw_all := lw_g (lw_at lw_m3 43 rfl) rfl
theorem q631 : (Jvm.Cond.methodLink "java/lang/StringBuilder" (343 : Nat) ({ cls := "java/lang/AbstractStringBuilder", name := "length", desc := "()I" } : Jvm.MethodName)) ∈ lw_all := lw_g (lw_at lw_m3 44 rfl) rfl
theorem q632 : (Jvm.Cond.code ({ cls := "java/lang/AbstractStringBuilder", name := "length", desc := "()I" } : Jvm.MethodName) prog_27_method_6_code (1 : Nat) (Option.some Jvm.ClassFile.FieldType.int)) ∈ lw_all := lw_g (lw_at lw_m3 45 rfl) rfl
theorem q633 : (Jvm.Cond.methodLink "java/lang/String" (1047 : Nat) ({ cls := "java/lang/AbstractStringBuilder", name := "isLatin1", desc := "()Z" } : Jvm.MethodName)) ∈ lw_all := lw_g (lw_at lw_m3 46 rfl) rfl
theorem q634 : (Jvm.Cond.methodLink "java/lang/String" (54 : Nat) ({ cls := "java/util/Arrays", name := "copyOfRange", desc := "([BII)[B" } : Jvm.MethodName)) ∈ lw_all := lw_g (lw_at lw_m3 47 rfl) rfl
theorem q635 : (Jvm.Cond.static ({ cls := "java/util/Arrays", name := "copyOfRange", desc := "([BII)[B" } : Jvm.MethodName)) ∈ lw_all := lw_g (lw_at lw_m3 48 rfl) rfl
theorem q636 : (Jvm.Cond.code ({ cls := "java/util/Arrays", name := "copyOfRange", desc := "([BII)[B" } : Jvm.MethodName) prog_69_method_132_code (3 : Nat) (Option.some (Jvm.ClassFile.FieldType.array Jvm.ClassFile.FieldType.byte))) ∈ lw_all := lw_g (lw_at lw_m3 49 rfl) rfl
theorem q637 : (Jvm.Cond.methodLink "java/util/Arrays" (339 : Nat) ({ cls := "java/util/Arrays", name := "copyOfRangeByte", desc := "([BII)[B" } : Jvm.MethodName)) ∈ lw_all := lw_g (lw_at lw_m3 50 rfl) rfl
theorem q638 : (Jvm.Cond.static ({ cls := "java/util/Arrays", name := "copyOfRangeByte", desc := "([BII)[B" } : Jvm.MethodName)) ∈ lw_all := lw_g (lw_at lw_m3 51 rfl) rfl
theorem q639 : (Jvm.Cond.code ({ cls := "java/util/Arrays", name := "copyOfRangeByte", desc := "([BII)[B" } : Jvm.MethodName) prog_69_method_133_code (5 : Nat) (Option.some (Jvm.ClassFile.FieldType.array Jvm.ClassFile.FieldType.byte))) ∈ lw_all := lw_g (lw_at lw_m3 52 rfl) rfl
theorem q640 : (Jvm.Cond.methodLink "java/util/Arrays" (343 : Nat) ({ cls := "java/util/Arrays", name := "checkLength", desc := "(II)V" } : Jvm.MethodName)) ∈ lw_all := lw_g (lw_at lw_m3 53 rfl) rfl
theorem q641 : (Jvm.Cond.static ({ cls := "java/util/Arrays", name := "checkLength", desc := "(II)V" } : Jvm.MethodName)) ∈ lw_all := lw_g (lw_at lw_m3 54 rfl) rfl
theorem q642 : (Jvm.Cond.code ({ cls := "java/util/Arrays", name := "checkLength", desc := "(II)V" } : Jvm.MethodName) prog_69_method_131_code (2 : Nat) (Option.none : Option Jvm.ClassFile.FieldType)) ∈ lw_all := lw_g (lw_at lw_m3 55 rfl) rfl
theorem q683 : (Jvm.Cond.methodLink "java/lang/String" (1051 : Nat) ({ cls := "java/lang/StringUTF16", name := "compress", desc := "([BII)[B" } : Jvm.MethodName)) ∈ lw_all := lw_g (lw_at lw_m3 96 rfl) rfl
theorem q684 : (Jvm.Cond.static ({ cls := "java/lang/StringUTF16", name := "compress", desc := "([BII)[B" } : Jvm.MethodName)) ∈ lw_all := lw_g (lw_at lw_m3 97 rfl) rfl
theorem q685 : (Jvm.Cond.code ({ cls := "java/lang/StringUTF16", name := "compress", desc := "([BII)[B" } : Jvm.MethodName) prog_52_method_17_code (6 : Nat) (Option.some (Jvm.ClassFile.FieldType.array Jvm.ClassFile.FieldType.byte))) ∈ lw_all := lw_g (lw_at lw_m3 98 rfl) rfl
theorem q686 : (Jvm.Cond.methodLink "java/lang/StringUTF16" (123 : Nat) ({ cls := "java/lang/StringUTF16", name := "compress", desc := "([BI[BII)I" } : Jvm.MethodName)) ∈ lw_all := lw_g (lw_at lw_m3 99 rfl) rfl
theorem q687 : (Jvm.Cond.static ({ cls := "java/lang/StringUTF16", name := "compress", desc := "([BI[BII)I" } : Jvm.MethodName)) ∈ lw_all := lw_g (lw_at lw_m3 100 rfl) rfl
theorem q688 : (Jvm.Cond.code ({ cls := "java/lang/StringUTF16", name := "compress", desc := "([BI[BII)I" } : Jvm.MethodName) prog_52_method_22_code (7 : Nat) (Option.some Jvm.ClassFile.FieldType.int)) ∈ lw_all := lw_g (lw_at lw_m3 101 rfl) rfl
theorem q689 : (Jvm.Cond.methodLink "java/lang/StringUTF16" (71 : Nat) ({ cls := "java/lang/StringUTF16", name := "getChar", desc := "([BI)C" } : Jvm.MethodName)) ∈ lw_all := lw_g (lw_at lw_m3 102 rfl) rfl
theorem q690 : (Jvm.Cond.static ({ cls := "java/lang/StringUTF16", name := "getChar", desc := "([BI)C" } : Jvm.MethodName)) ∈ lw_all := lw_g (lw_at lw_m3 103 rfl) rfl
theorem q691 : (Jvm.Cond.code ({ cls := "java/lang/StringUTF16", name := "getChar", desc := "([BI)C" } : Jvm.MethodName) prog_52_method_5_code (2 : Nat) (Option.some Jvm.ClassFile.FieldType.char)) ∈ lw_all := lw_g (lw_at lw_m3 104 rfl) rfl
theorem q692 : (Jvm.Cond.methodLink "java/lang/StringUTF16" (126 : Nat) ({ cls := "java/util/Arrays", name := "copyOfRange", desc := "([BII)[B" } : Jvm.MethodName)) ∈ lw_all := lw_g (lw_at lw_m3 105 rfl) rfl
theorem q693 : (Jvm.Cond.methodLink "java/lang/String" (47 : Nat) ({ cls := "java/lang/StringUTF16", name := "coderFromArrayLen", desc := "([BI)B" } : Jvm.MethodName)) ∈ lw_all := lw_g (lw_at lw_m3 106 rfl) rfl
theorem q694 : (Jvm.Cond.static ({ cls := "java/lang/StringUTF16", name := "coderFromArrayLen", desc := "([BI)B" } : Jvm.MethodName)) ∈ lw_all := lw_g (lw_at lw_m3 107 rfl) rfl
theorem q695 : (Jvm.Cond.code ({ cls := "java/lang/StringUTF16", name := "coderFromArrayLen", desc := "([BI)B" } : Jvm.MethodName) prog_52_method_15_code (2 : Nat) (Option.some Jvm.ClassFile.FieldType.byte)) ∈ lw_all := lw_g (lw_at lw_m3 108 rfl) rfl
theorem q696 : (Jvm.Cond.fieldLink "java/lang/String" (9 : Nat) "java/lang/String" "value" "[B") ∈ lw_all := lw_g (lw_at lw_m3 109 rfl) rfl
theorem q698 : (Jvm.Cond.fieldLink "java/lang/String" (19 : Nat) "java/lang/String" "hash" "I") ∈ lw_all := lw_g (lw_at lw_m3 111 rfl) rfl
theorem q699 : (Jvm.Cond.fieldLink "java/lang/String" (23 : Nat) "java/lang/String" "hashIsZero" "Z") ∈ lw_all := lw_g (lw_at lw_m3 112 rfl) rfl
theorem q729 : (Jvm.Cond.selects "java/util/LinkedList" ({ cls := "java/util/AbstractList", name := "listIterator", desc := "(I)Ljava/util/ListIterator;" } : Jvm.MethodName) ({ cls := "java/util/LinkedList", name := "listIterator", desc := "(I)Ljava/util/ListIterator;" } : Jvm.MethodName)) ∈ lw_all := lw_g (lw_at lw_m3 142 rfl) rfl
theorem q730 : (Jvm.Cond.instanceMethod ({ cls := "java/util/LinkedList", name := "listIterator", desc := "(I)Ljava/util/ListIterator;" } : Jvm.MethodName)) ∈ lw_all := lw_g (lw_at lw_m3 143 rfl) rfl
theorem q731 : (Jvm.Cond.code ({ cls := "java/util/LinkedList", name := "listIterator", desc := "(I)Ljava/util/ListIterator;" } : Jvm.MethodName) prog_74_method_49_code (2 : Nat) (Option.some (Jvm.ClassFile.FieldType.object "java/util/ListIterator"))) ∈ lw_all := lw_g (lw_at lw_m3 144 rfl) rfl
theorem q753 : (Jvm.Cond.classLink "java/util/LinkedList" (150 : Nat) "java/util/LinkedList$ListItr") ∈ lw_all := lw_g (lw_at lw_m3 166 rfl) rfl
theorem q755 : (Jvm.Cond.methodLink "java/util/LinkedList" (152 : Nat) ({ cls := "java/util/LinkedList$ListItr", name := "<init>", desc := "(Ljava/util/LinkedList;I)V" } : Jvm.MethodName)) ∈ lw_all := lw_g (lw_at lw_m3 168 rfl) rfl
theorem q756 : (Jvm.Cond.instanceMethod ({ cls := "java/util/LinkedList$ListItr", name := "<init>", desc := "(Ljava/util/LinkedList;I)V" } : Jvm.MethodName)) ∈ lw_all := lw_g (lw_at lw_m3 169 rfl) rfl
theorem q757 : (Jvm.Cond.code ({ cls := "java/util/LinkedList$ListItr", name := "<init>", desc := "(Ljava/util/LinkedList;I)V" } : Jvm.MethodName) prog_75_method_1_code (3 : Nat) (Option.none : Option Jvm.ClassFile.FieldType)) ∈ lw_all := lw_g (lw_at lw_m3 170 rfl) rfl
theorem q758 : (Jvm.Cond.methodLink "java/util/LinkedList$ListItr" (7 : Nat) ({ cls := "java/lang/Object", name := "<init>", desc := "()V" } : Jvm.MethodName)) ∈ lw_all := lw_g (lw_at lw_m3 171 rfl) rfl
theorem q759 : (Jvm.Cond.methodLink "java/util/LinkedList$ListItr" (25 : Nat) ({ cls := "java/util/LinkedList", name := "node", desc := "(I)Ljava/util/LinkedList$Node;" } : Jvm.MethodName)) ∈ lw_all := lw_g (lw_at lw_m3 172 rfl) rfl
theorem q779 : (Jvm.Cond.declares ({ cls := "java/util/AbstractList", name := "listIterator", desc := "(I)Ljava/util/ListIterator;" } : Jvm.MethodName)) ∈ lw_tbl := lw_at lw_m3 192 rfl
theorem mv779 : (Jvm.Cond.declares ({ cls := "java/util/AbstractList", name := "listIterator", desc := "(I)Ljava/util/ListIterator;" } : Jvm.MethodName)) ∈ lw_mv := List.mem_filter.mpr ⟨q779, rfl⟩
theorem q1301 : (Jvm.Cond.instanceMethod ({ cls := "java/util/TreeMap", name := "size", desc := "()I" } : Jvm.MethodName)) ∈ lw_all := lw_g (lw_at lw_m5 234 rfl) rfl
theorem q1303 : (Jvm.Cond.code ({ cls := "java/util/TreeMap", name := "size", desc := "()I" } : Jvm.MethodName) prog_93_method_5_code (1 : Nat) (Option.some Jvm.ClassFile.FieldType.int)) ∈ lw_all := lw_g (lw_at lw_m5 236 rfl) rfl
theorem q1603 : (Jvm.Cond.classLink "java/lang/String" (10 : Nat) "java/lang/String") ∈ lw_all := lw_g (lw_at lw_m7 56 rfl) rfl
theorem q2286 : (Jvm.Cond.methodLink "java/lang/String" (492 : Nat) ({ cls := "java/lang/String", name := "isLatin1", desc := "()Z" } : Jvm.MethodName)) ∈ lw_all := lw_g (lw_at lw_m10 19 rfl) rfl
theorem q2287 : (Jvm.Cond.instanceMethod ({ cls := "java/lang/String", name := "isLatin1", desc := "()Z" } : Jvm.MethodName)) ∈ lw_all := lw_g (lw_at lw_m10 20 rfl) rfl
theorem q2288 : (Jvm.Cond.selects "java/lang/String" ({ cls := "java/lang/String", name := "isLatin1", desc := "()Z" } : Jvm.MethodName) ({ cls := "java/lang/String", name := "isLatin1", desc := "()Z" } : Jvm.MethodName)) ∈ lw_all := lw_g (lw_at lw_m10 21 rfl) rfl
theorem q2289 : (Jvm.Cond.code ({ cls := "java/lang/String", name := "isLatin1", desc := "()Z" } : Jvm.MethodName) prog_48_method_154_code (1 : Nat) (Option.some Jvm.ClassFile.FieldType.boolean)) ∈ lw_all := lw_g (lw_at lw_m10 22 rfl) rfl
theorem q2290 : (Jvm.Cond.methodLink "java/lang/String" (628 : Nat) ({ cls := "java/lang/StringLatin1", name := "hashCode", desc := "([B)I" } : Jvm.MethodName)) ∈ lw_all := lw_g (lw_at lw_m10 23 rfl) rfl
theorem q2291 : (Jvm.Cond.static ({ cls := "java/lang/StringLatin1", name := "hashCode", desc := "([B)I" } : Jvm.MethodName)) ∈ lw_all := lw_g (lw_at lw_m10 24 rfl) rfl
theorem q2292 : (Jvm.Cond.code ({ cls := "java/lang/StringLatin1", name := "hashCode", desc := "([B)I" } : Jvm.MethodName) prog_51_method_21_code (1 : Nat) (Option.some Jvm.ClassFile.FieldType.int)) ∈ lw_all := lw_g (lw_at lw_m10 25 rfl) rfl
theorem q2293 : (Jvm.Cond.methodLink "java/lang/StringLatin1" (84 : Nat) ({ cls := "jdk/internal/util/ArraysSupport", name := "vectorizedHashCode", desc := "(Ljava/lang/Object;IIII)I" } : Jvm.MethodName)) ∈ lw_all := lw_g (lw_at lw_m10 26 rfl) rfl
theorem q2294 : (Jvm.Cond.static ({ cls := "jdk/internal/util/ArraysSupport", name := "vectorizedHashCode", desc := "(Ljava/lang/Object;IIII)I" } : Jvm.MethodName)) ∈ lw_all := lw_g (lw_at lw_m10 27 rfl) rfl
theorem q2295 : (Jvm.Cond.code ({ cls := "jdk/internal/util/ArraysSupport", name := "vectorizedHashCode", desc := "(Ljava/lang/Object;IIII)I" } : Jvm.MethodName) prog_106_method_4_code (5 : Nat) (Option.some Jvm.ClassFile.FieldType.int)) ∈ lw_all := lw_g (lw_at lw_m10 28 rfl) rfl
theorem q2296 : (Jvm.Cond.classLink "jdk/internal/util/ArraysSupport" (60 : Nat) "[B") ∈ lw_all := lw_g (lw_at lw_m10 29 rfl) rfl
theorem q2297 : (Jvm.Cond.methodLink "jdk/internal/util/ArraysSupport" (62 : Nat) ({ cls := "jdk/internal/util/ArraysSupport", name := "signedHashCode", desc := "(I[BII)I" } : Jvm.MethodName)) ∈ lw_all := lw_g (lw_at lw_m10 30 rfl) rfl
theorem q2298 : (Jvm.Cond.static ({ cls := "jdk/internal/util/ArraysSupport", name := "signedHashCode", desc := "(I[BII)I" } : Jvm.MethodName)) ∈ lw_all := lw_g (lw_at lw_m10 31 rfl) rfl
theorem q2299 : (Jvm.Cond.code ({ cls := "jdk/internal/util/ArraysSupport", name := "signedHashCode", desc := "(I[BII)I" } : Jvm.MethodName) prog_106_method_5_code (6 : Nat) (Option.some Jvm.ClassFile.FieldType.int)) ∈ lw_all := lw_g (lw_at lw_m10 32 rfl) rfl
theorem q2320 : (Jvm.Cond.methodLink "jdk/internal/util/ArraysSupport" (75 : Nat) ({ cls := "jdk/internal/util/ArraysSupport", name := "hashCode", desc := "(I[BII)I" } : Jvm.MethodName)) ∈ lw_all := lw_g (lw_at lw_m10 53 rfl) rfl
theorem q2321 : (Jvm.Cond.static ({ cls := "jdk/internal/util/ArraysSupport", name := "hashCode", desc := "(I[BII)I" } : Jvm.MethodName)) ∈ lw_all := lw_g (lw_at lw_m10 54 rfl) rfl
theorem q2322 : (Jvm.Cond.code ({ cls := "jdk/internal/util/ArraysSupport", name := "hashCode", desc := "(I[BII)I" } : Jvm.MethodName) prog_106_method_6_code (6 : Nat) (Option.some Jvm.ClassFile.FieldType.int)) ∈ lw_all := lw_g (lw_at lw_m10 55 rfl) rfl
theorem q2339 : (Jvm.Cond.methodLink "java/lang/String" (632 : Nat) ({ cls := "java/lang/StringUTF16", name := "hashCode", desc := "([B)I" } : Jvm.MethodName)) ∈ lw_all := lw_g (lw_at lw_m10 72 rfl) rfl
theorem q2340 : (Jvm.Cond.static ({ cls := "java/lang/StringUTF16", name := "hashCode", desc := "([B)I" } : Jvm.MethodName)) ∈ lw_all := lw_g (lw_at lw_m10 73 rfl) rfl
theorem q2341 : (Jvm.Cond.code ({ cls := "java/lang/StringUTF16", name := "hashCode", desc := "([B)I" } : Jvm.MethodName) prog_52_method_39_code (1 : Nat) (Option.some Jvm.ClassFile.FieldType.int)) ∈ lw_all := lw_g (lw_at lw_m10 74 rfl) rfl
theorem q2342 : (Jvm.Cond.methodLink "java/lang/StringUTF16" (220 : Nat) ({ cls := "jdk/internal/util/ArraysSupport", name := "vectorizedHashCode", desc := "(Ljava/lang/Object;IIII)I" } : Jvm.MethodName)) ∈ lw_all := lw_g (lw_at lw_m10 75 rfl) rfl
theorem q2348 : (Jvm.Cond.methodLink "java/lang/String" (541 : Nat) ({ cls := "java/lang/StringLatin1", name := "equals", desc := "([B[B)Z" } : Jvm.MethodName)) ∈ lw_all := lw_g (lw_at lw_m10 81 rfl) rfl
theorem q2349 : (Jvm.Cond.static ({ cls := "java/lang/StringLatin1", name := "equals", desc := "([B[B)Z" } : Jvm.MethodName)) ∈ lw_all := lw_g (lw_at lw_m10 82 rfl) rfl
theorem q2350 : (Jvm.Cond.code ({ cls := "java/lang/StringLatin1", name := "equals", desc := "([B[B)Z" } : Jvm.MethodName) prog_51_method_13_code (3 : Nat) (Option.some Jvm.ClassFile.FieldType.boolean)) ∈ lw_all := lw_g (lw_at lw_m10 83 rfl) rfl
theorem q2368 : (Jvm.Cond.methodLink "java/util/AbstractMap" (19 : Nat) ({ cls := "java/util/AbstractMap", name := "size", desc := "()I" } : Jvm.MethodName)) ∈ lw_all := lw_g (lw_at lw_m10 101 rfl) rfl
theorem q2370 : (Jvm.Cond.sameMethod "java/util/AbstractMap" "java/util/AbstractMap" "size" "()I") ∈ lw_all := lw_g (lw_at lw_m10 103 rfl) rfl
theorem q2371 : (Jvm.Cond.selects "java/util/TreeMap" ({ cls := "java/util/AbstractMap", name := "size", desc := "()I" } : Jvm.MethodName) ({ cls := "java/util/TreeMap", name := "size", desc := "()I" } : Jvm.MethodName)) ∈ lw_all := lw_g (lw_at lw_m10 104 rfl) rfl
theorem q2372 : (Jvm.Cond.declares ({ cls := "java/util/AbstractMap", name := "size", desc := "()I" } : Jvm.MethodName)) ∈ lw_tbl := lw_at lw_m10 105 rfl
theorem mv2372 : (Jvm.Cond.declares ({ cls := "java/util/AbstractMap", name := "size", desc := "()I" } : Jvm.MethodName)) ∈ lw_mv := List.mem_filter.mpr ⟨q2372, rfl⟩
theorem q2419 : (Jvm.Cond.methodLink "java/lang/Record" (1 : Nat) ({ cls := "java/lang/Object", name := "<init>", desc := "()V" } : Jvm.MethodName)) ∈ lw_all := lw_g (lw_at lw_m10 152 rfl) rfl
theorem q2827 : (Jvm.Cond.methodLink "java/util/LinkedList" (93 : Nat) ({ cls := "java/util/LinkedList", name := "linkBefore", desc := "(Ljava/lang/Object;Ljava/util/LinkedList$Node;)V" } : Jvm.MethodName)) ∈ lw_all := lw_g (lw_at lw_m12 80 rfl) rfl
theorem q2828 : (Jvm.Cond.instanceMethod ({ cls := "java/util/LinkedList", name := "linkBefore", desc := "(Ljava/lang/Object;Ljava/util/LinkedList$Node;)V" } : Jvm.MethodName)) ∈ lw_all := lw_g (lw_at lw_m12 81 rfl) rfl
theorem q2829 : (Jvm.Cond.selects "java/util/LinkedList" ({ cls := "java/util/LinkedList", name := "linkBefore", desc := "(Ljava/lang/Object;Ljava/util/LinkedList$Node;)V" } : Jvm.MethodName) ({ cls := "java/util/LinkedList", name := "linkBefore", desc := "(Ljava/lang/Object;Ljava/util/LinkedList$Node;)V" } : Jvm.MethodName)) ∈ lw_all := lw_g (lw_at lw_m12 82 rfl) rfl
theorem q2830 : (Jvm.Cond.code ({ cls := "java/util/LinkedList", name := "linkBefore", desc := "(Ljava/lang/Object;Ljava/util/LinkedList$Node;)V" } : Jvm.MethodName) prog_74_method_5_code (5 : Nat) (Option.none : Option Jvm.ClassFile.FieldType)) ∈ lw_all := lw_g (lw_at lw_m12 83 rfl) rfl
theorem q2920 : (Jvm.Cond.methodLink "java/lang/IllegalStateException" (1 : Nat) ({ cls := "java/lang/RuntimeException", name := "<init>", desc := "()V" } : Jvm.MethodName)) ∈ lw_all := lw_g (lw_at lw_m12 173 rfl) rfl
theorem q2927 : (Jvm.Cond.methodLink "java/lang/StringBuilder" (50 : Nat) ({ cls := "java/lang/AbstractStringBuilder", name := "append", desc := "(C)Ljava/lang/AbstractStringBuilder;" } : Jvm.MethodName)) ∈ lw_all := lw_g (lw_at lw_m12 180 rfl) rfl
theorem q2928 : (Jvm.Cond.instanceMethod ({ cls := "java/lang/AbstractStringBuilder", name := "append", desc := "(C)Ljava/lang/AbstractStringBuilder;" } : Jvm.MethodName)) ∈ lw_all := lw_g (lw_at lw_m12 181 rfl) rfl
theorem q2929 : (Jvm.Cond.code ({ cls := "java/lang/AbstractStringBuilder", name := "append", desc := "(C)Ljava/lang/AbstractStringBuilder;" } : Jvm.MethodName) prog_27_method_31_code (2 : Nat) (Option.some (Jvm.ClassFile.FieldType.object "java/lang/AbstractStringBuilder"))) ∈ lw_all := lw_g (lw_at lw_m12 182 rfl) rfl
theorem q2930 : (Jvm.Cond.methodLink "java/lang/AbstractStringBuilder" (191 : Nat) ({ cls := "java/lang/StringLatin1", name := "canEncode", desc := "(C)Z" } : Jvm.MethodName)) ∈ lw_all := lw_g (lw_at lw_m12 183 rfl) rfl
theorem q2931 : (Jvm.Cond.static ({ cls := "java/lang/StringLatin1", name := "canEncode", desc := "(C)Z" } : Jvm.MethodName)) ∈ lw_all := lw_g (lw_at lw_m12 184 rfl) rfl
theorem q2932 : (Jvm.Cond.code ({ cls := "java/lang/StringLatin1", name := "canEncode", desc := "(C)Z" } : Jvm.MethodName) prog_51_method_3_code (1 : Nat) (Option.some Jvm.ClassFile.FieldType.boolean)) ∈ lw_all := lw_g (lw_at lw_m12 185 rfl) rfl
theorem q2933 : (Jvm.Cond.methodLink "java/lang/AbstractStringBuilder" (197 : Nat) ({ cls := "java/lang/StringUTF16", name := "putCharSB", desc := "([BII)V" } : Jvm.MethodName)) ∈ lw_all := lw_g (lw_at lw_m12 186 rfl) rfl
theorem q2934 : (Jvm.Cond.static ({ cls := "java/lang/StringUTF16", name := "putCharSB", desc := "([BII)V" } : Jvm.MethodName)) ∈ lw_all := lw_g (lw_at lw_m12 187 rfl) rfl
theorem q2935 : (Jvm.Cond.code ({ cls := "java/lang/StringUTF16", name := "putCharSB", desc := "([BII)V" } : Jvm.MethodName) prog_52_method_71_code (3 : Nat) (Option.none : Option Jvm.ClassFile.FieldType)) ∈ lw_all := lw_g (lw_at lw_m12 188 rfl) rfl
theorem q2936 : (Jvm.Cond.methodLink "java/lang/StringUTF16" (67 : Nat) ({ cls := "java/lang/StringUTF16", name := "checkIndex", desc := "(I[B)V" } : Jvm.MethodName)) ∈ lw_all := lw_g (lw_at lw_m12 189 rfl) rfl
theorem q2937 : (Jvm.Cond.static ({ cls := "java/lang/StringUTF16", name := "checkIndex", desc := "(I[B)V" } : Jvm.MethodName)) ∈ lw_all := lw_g (lw_at lw_m12 190 rfl) rfl
theorem q2938 : (Jvm.Cond.code ({ cls := "java/lang/StringUTF16", name := "checkIndex", desc := "(I[B)V" } : Jvm.MethodName) prog_52_method_91_code (2 : Nat) (Option.none : Option Jvm.ClassFile.FieldType)) ∈ lw_all := lw_g (lw_at lw_m12 191 rfl) rfl
theorem q2939 : (Jvm.Cond.methodLink "java/lang/StringUTF16" (414 : Nat) ({ cls := "java/lang/String", name := "checkIndex", desc := "(II)V" } : Jvm.MethodName)) ∈ lw_all := lw_g (lw_at lw_m12 192 rfl) rfl
theorem q2940 : (Jvm.Cond.static ({ cls := "java/lang/String", name := "checkIndex", desc := "(II)V" } : Jvm.MethodName)) ∈ lw_all := lw_g (lw_at lw_m12 193 rfl) rfl
theorem q2941 : (Jvm.Cond.code ({ cls := "java/lang/String", name := "checkIndex", desc := "(II)V" } : Jvm.MethodName) prog_48_method_155_code (2 : Nat) (Option.none : Option Jvm.ClassFile.FieldType)) ∈ lw_all := lw_g (lw_at lw_m12 194 rfl) rfl
theorem q2942 : (Jvm.Cond.methodLink "java/lang/String" (1059 : Nat) ({ cls := "jdk/internal/util/Preconditions", name := "checkIndex", desc := "(IILjava/util/function/BiFunction;)I" } : Jvm.MethodName)) ∈ lw_all := lw_g (lw_at lw_m12 195 rfl) rfl
theorem q2956 : (Jvm.Cond.methodLink "java/lang/StringBuilder" (333 : Nat) ({ cls := "java/lang/AbstractStringBuilder", name := "setLength", desc := "(I)V" } : Jvm.MethodName)) ∈ lw_all := lw_g (lw_at lw_m12 209 rfl) rfl
theorem q2957 : (Jvm.Cond.instanceMethod ({ cls := "java/lang/AbstractStringBuilder", name := "setLength", desc := "(I)V" } : Jvm.MethodName)) ∈ lw_all := lw_g (lw_at lw_m12 210 rfl) rfl
theorem q2958 : (Jvm.Cond.code ({ cls := "java/lang/AbstractStringBuilder", name := "setLength", desc := "(I)V" } : Jvm.MethodName) prog_27_method_13_code (2 : Nat) (Option.none : Option Jvm.ClassFile.FieldType)) ∈ lw_all := lw_g (lw_at lw_m12 211 rfl) rfl
theorem q2978 : (Jvm.Cond.methodLink "java/lang/AbstractStringBuilder" (133 : Nat) ({ cls := "java/lang/StringLatin1", name := "fillNull", desc := "([BII)V" } : Jvm.MethodName)) ∈ lw_all := lw_g (lw_at lw_m12 231 rfl) rfl
theorem q2979 : (Jvm.Cond.static ({ cls := "java/lang/StringLatin1", name := "fillNull", desc := "([BII)V" } : Jvm.MethodName)) ∈ lw_all := lw_g (lw_at lw_m12 232 rfl) rfl
theorem q2980 : (Jvm.Cond.code ({ cls := "java/lang/StringLatin1", name := "fillNull", desc := "([BII)V" } : Jvm.MethodName) prog_51_method_48_code (3 : Nat) (Option.none : Option Jvm.ClassFile.FieldType)) ∈ lw_all := lw_g (lw_at lw_m12 233 rfl) rfl
theorem q2981 : (Jvm.Cond.methodLink "java/lang/StringLatin1" (236 : Nat) ({ cls := "java/util/Arrays", name := "fill", desc := "([BIIB)V" } : Jvm.MethodName)) ∈ lw_all := lw_g (lw_at lw_m12 234 rfl) rfl
theorem q2982 : (Jvm.Cond.static ({ cls := "java/util/Arrays", name := "fill", desc := "([BIIB)V" } : Jvm.MethodName)) ∈ lw_all := lw_g (lw_at lw_m12 235 rfl) rfl
theorem q2983 : (Jvm.Cond.code ({ cls := "java/util/Arrays", name := "fill", desc := "([BIIB)V" } : Jvm.MethodName) prog_69_method_110_code (5 : Nat) (Option.none : Option Jvm.ClassFile.FieldType)) ∈ lw_all := lw_g (lw_at lw_m12 236 rfl) rfl
theorem q2984 : (Jvm.Cond.methodLink "java/util/Arrays" (13 : Nat) ({ cls := "java/util/Arrays", name := "rangeCheck", desc := "(III)V" } : Jvm.MethodName)) ∈ lw_all := lw_g (lw_at lw_m12 237 rfl) rfl
theorem q2985 : (Jvm.Cond.static ({ cls := "java/util/Arrays", name := "rangeCheck", desc := "(III)V" } : Jvm.MethodName)) ∈ lw_all := lw_g (lw_at lw_m12 238 rfl) rfl
theorem q2986 : (Jvm.Cond.code ({ cls := "java/util/Arrays", name := "rangeCheck", desc := "(III)V" } : Jvm.MethodName) prog_69_method_30_code (3 : Nat) (Option.none : Option Jvm.ClassFile.FieldType)) ∈ lw_all := lw_g (lw_at lw_m12 239 rfl) rfl
theorem q3000 : (Jvm.Cond.methodLink "java/lang/AbstractStringBuilder" (137 : Nat) ({ cls := "java/lang/StringUTF16", name := "fillNull", desc := "([BII)V" } : Jvm.MethodName)) ∈ lw_all := lw_g (lw_at lw_m13 13 rfl) rfl
theorem q3001 : (Jvm.Cond.static ({ cls := "java/lang/StringUTF16", name := "fillNull", desc := "([BII)V" } : Jvm.MethodName)) ∈ lw_all := lw_g (lw_at lw_m13 14 rfl) rfl
theorem q3002 : (Jvm.Cond.code ({ cls := "java/lang/StringUTF16", name := "fillNull", desc := "([BII)V" } : Jvm.MethodName) prog_52_method_70_code (3 : Nat) (Option.none : Option Jvm.ClassFile.FieldType)) ∈ lw_all := lw_g (lw_at lw_m13 15 rfl) rfl
theorem q3003 : (Jvm.Cond.methodLink "java/lang/StringUTF16" (380 : Nat) ({ cls := "java/util/Arrays", name := "fill", desc := "([BIIB)V" } : Jvm.MethodName)) ∈ lw_all := lw_g (lw_at lw_m13 16 rfl) rfl
theorem q3042 : (Jvm.Cond.methodLink "java/lang/String" (495 : Nat) ({ cls := "java/lang/StringLatin1", name := "charAt", desc := "([BI)C" } : Jvm.MethodName)) ∈ lw_all := lw_g (lw_at lw_m13 55 rfl) rfl
theorem q3043 : (Jvm.Cond.static ({ cls := "java/lang/StringLatin1", name := "charAt", desc := "([BI)C" } : Jvm.MethodName)) ∈ lw_all := lw_g (lw_at lw_m13 56 rfl) rfl
theorem q3044 : (Jvm.Cond.code ({ cls := "java/lang/StringLatin1", name := "charAt", desc := "([BI)C" } : Jvm.MethodName) prog_51_method_2_code (2 : Nat) (Option.some Jvm.ClassFile.FieldType.char)) ∈ lw_all := lw_g (lw_at lw_m13 57 rfl) rfl
theorem q3045 : (Jvm.Cond.methodLink "java/lang/StringLatin1" (9 : Nat) ({ cls := "java/lang/String", name := "checkIndex", desc := "(II)V" } : Jvm.MethodName)) ∈ lw_all := lw_g (lw_at lw_m13 58 rfl) rfl
theorem q3046 : (Jvm.Cond.methodLink "java/lang/String" (498 : Nat) ({ cls := "java/lang/StringUTF16", name := "charAt", desc := "([BI)C" } : Jvm.MethodName)) ∈ lw_all := lw_g (lw_at lw_m13 59 rfl) rfl
theorem q3047 : (Jvm.Cond.static ({ cls := "java/lang/StringUTF16", name := "charAt", desc := "([BI)C" } : Jvm.MethodName)) ∈ lw_all := lw_g (lw_at lw_m13 60 rfl) rfl
theorem q3048 : (Jvm.Cond.code ({ cls := "java/lang/StringUTF16", name := "charAt", desc := "([BI)C" } : Jvm.MethodName) prog_52_method_83_code (2 : Nat) (Option.some Jvm.ClassFile.FieldType.char)) ∈ lw_all := lw_g (lw_at lw_m13 61 rfl) rfl
theorem q3056 : (Jvm.Cond.methodLink "java/lang/StringBuilder" (17 : Nat) ({ cls := "java/lang/String", name := "valueOf", desc := "(Ljava/lang/Object;)Ljava/lang/String;" } : Jvm.MethodName)) ∈ lw_all := lw_g (lw_at lw_m13 69 rfl) rfl
theorem q3057 : (Jvm.Cond.static ({ cls := "java/lang/String", name := "valueOf", desc := "(Ljava/lang/Object;)Ljava/lang/String;" } : Jvm.MethodName)) ∈ lw_all := lw_g (lw_at lw_m13 70 rfl) rfl
theorem q3058 : (Jvm.Cond.code ({ cls := "java/lang/String", name := "valueOf", desc := "(Ljava/lang/Object;)Ljava/lang/String;" } : Jvm.MethodName) prog_48_method_133_code (1 : Nat) (Option.some (Jvm.ClassFile.FieldType.object "java/lang/String"))) ∈ lw_all := lw_g (lw_at lw_m13 71 rfl) rfl
theorem q3060 : (Jvm.Cond.declares ({ cls := "java/lang/Object", name := "toString", desc := "()Ljava/lang/String;" } : Jvm.MethodName)) ∈ lw_tbl := lw_at lw_m13 73 rfl
theorem mv3060 : (Jvm.Cond.declares ({ cls := "java/lang/Object", name := "toString", desc := "()Ljava/lang/String;" } : Jvm.MethodName)) ∈ lw_mv := List.mem_filter.mpr ⟨q3060, rfl⟩
theorem q3061 : (Jvm.Cond.methodLink "java/lang/String" (1007 : Nat) ({ cls := "java/lang/Object", name := "toString", desc := "()Ljava/lang/String;" } : Jvm.MethodName)) ∈ lw_all := lw_g (lw_at lw_m13 74 rfl) rfl
theorem q3063 : (Jvm.Cond.sameMethod "java/lang/Object" "java/lang/Object" "toString" "()Ljava/lang/String;") ∈ lw_all := lw_g (lw_at lw_m13 76 rfl) rfl
theorem q3105 : (Jvm.Cond.selects "java/lang/StringBuilder" ({ cls := "java/lang/Object", name := "toString", desc := "()Ljava/lang/String;" } : Jvm.MethodName) ({ cls := "java/lang/StringBuilder", name := "toString", desc := "()Ljava/lang/String;" } : Jvm.MethodName)) ∈ lw_all := lw_g (lw_at lw_m13 118 rfl) rfl
theorem q3110 : (Jvm.Cond.methodLink "java/lang/StringBuilder" (23 : Nat) ({ cls := "java/lang/StringBuilder", name := "append", desc := "(Ljava/lang/String;)Ljava/lang/StringBuilder;" } : Jvm.MethodName)) ∈ lw_all := lw_g (lw_at lw_m13 123 rfl) rfl
theorem q3136 : (Jvm.Cond.methodLink "java/lang/StringLatin1" (99 : Nat) ({ cls := "java/lang/StringLatin1", name := "indexOf", desc := "([BI[BII)I" } : Jvm.MethodName)) ∈ lw_all := lw_g (lw_at lw_m13 149 rfl) rfl
theorem q3137 : (Jvm.Cond.static ({ cls := "java/lang/StringLatin1", name := "indexOf", desc := "([BI[BII)I" } : Jvm.MethodName)) ∈ lw_all := lw_g (lw_at lw_m13 150 rfl) rfl
theorem q3138 : (Jvm.Cond.code ({ cls := "java/lang/StringLatin1", name := "indexOf", desc := "([BI[BII)I" } : Jvm.MethodName) prog_51_method_25_code (11 : Nat) (Option.some Jvm.ClassFile.FieldType.int)) ∈ lw_all := lw_g (lw_at lw_m13 151 rfl) rfl
theorem q3142 : (Jvm.Cond.methodLink "java/lang/StringUTF16" (235 : Nat) ({ cls := "java/lang/StringUTF16", name := "indexOfUnsafe", desc := "([BI[BII)I" } : Jvm.MethodName)) ∈ lw_all := lw_g (lw_at lw_m13 155 rfl) rfl
theorem q3143 : (Jvm.Cond.static ({ cls := "java/lang/StringUTF16", name := "indexOfUnsafe", desc := "([BI[BII)I" } : Jvm.MethodName)) ∈ lw_all := lw_g (lw_at lw_m13 156 rfl) rfl
theorem q3144 : (Jvm.Cond.code ({ cls := "java/lang/StringUTF16", name := "indexOfUnsafe", desc := "([BI[BII)I" } : Jvm.MethodName) prog_52_method_43_code (11 : Nat) (Option.some Jvm.ClassFile.FieldType.int)) ∈ lw_all := lw_g (lw_at lw_m13 157 rfl) rfl
theorem q3882 : (Jvm.Cond.sameMethod "java/lang/AbstractStringBuilder" "java/lang/AbstractStringBuilder" "append" "(Ljava/lang/String;)Ljava/lang/AbstractStringBuilder;") ∈ lw_all := lw_g (lw_at lw_m16 175 rfl) rfl
theorem q3883 : (Jvm.Cond.sameMethod "java/lang/AbstractStringBuilder" "java/lang/AbstractStringBuilder" "appendNull" "()Ljava/lang/AbstractStringBuilder;") ∈ lw_all := lw_g (lw_at lw_m16 176 rfl) rfl
theorem q3884 : (Jvm.Cond.sameMethod "java/lang/AbstractStringBuilder" "java/lang/AbstractStringBuilder" "ensureCapacityInternal" "(I)V") ∈ lw_all := lw_g (lw_at lw_m16 177 rfl) rfl
theorem q3885 : (Jvm.Cond.sameMethod "java/lang/AbstractStringBuilder" "java/lang/AbstractStringBuilder" "newCapacity" "(I)I") ∈ lw_all := lw_g (lw_at lw_m16 178 rfl) rfl
theorem q3886 : (Jvm.Cond.sameMethod "java/lang/AbstractStringBuilder" "java/lang/AbstractStringBuilder" "putStringAt" "(ILjava/lang/String;)V") ∈ lw_all := lw_g (lw_at lw_m16 179 rfl) rfl
theorem q3887 : (Jvm.Cond.sameMethod "java/lang/AbstractStringBuilder" "java/lang/AbstractStringBuilder" "inflateIfNeededFor" "(Ljava/lang/String;)V") ∈ lw_all := lw_g (lw_at lw_m16 180 rfl) rfl
theorem q3888 : (Jvm.Cond.sameMethod "java/lang/AbstractStringBuilder" "java/lang/AbstractStringBuilder" "inflate" "()V") ∈ lw_all := lw_g (lw_at lw_m16 181 rfl) rfl
theorem q3911 : (Jvm.Cond.sameMethod "java/lang/AbstractStringBuilder" "java/lang/AbstractStringBuilder" "append" "(C)Ljava/lang/AbstractStringBuilder;") ∈ lw_all := lw_g (lw_at lw_m16 204 rfl) rfl
theorem q3912 : (Jvm.Cond.sameMethod "java/lang/AbstractStringBuilder" "java/lang/AbstractStringBuilder" "setLength" "(I)V") ∈ lw_all := lw_g (lw_at lw_m16 205 rfl) rfl
abbrev ck_J15_signedHashCode : CK := ("jdk/internal/util/ArraysSupport", prog_106_method_5_code, 6, (some .int), "signedHashCode", [], 1)
def f_J15_signedHashCode_L8 (γ : GP) (x1 : Nat) (x4 : Int32) : Nat → Int32 → Int32 → AH → Option (Int32 × AH)
  | 0, _, _, _ => none
  | n + 1, x0, x5, g => (if x4 ≤ x5 then (some (x0, g)) else gA g 102 x1 x5 fun v1 => f_J15_signedHashCode_L8 γ x1 x4 n (((31 : Int32) * x0) + (v1 &&& (255 : Int32))) (x5 + (1 : Int32)) g)
def f_J15_signedHashCode (γ : GP) (x0 : Int32) (x1 : Nat) (x2 : Int32) (x3 : Int32) (g : AH) : Option (Int32 × AH) := f_J15_signedHashCode_L8 γ x1 (x2 + x3) FU x0 x2 g
theorem f_J15_signedHashCode_L8_w (γ : GP) (l : Launch) (hl : l.stackTraces = false) (G0 : AH) (x1 : Nat) (x4 : Int32) : ∀ (n : Nat) (x0 : Int32) (x5 : Int32) (g : AH), AW ρI γ l ck_J15_signedHashCode G0 8 [(0, .int x0), (1, .ref x1), (4, .int x4), (5, .int x5)] [] g (f_J15_signedHashCode_L8 γ x1 x4 n x0 x5 g) := by
  intro n
  induction n with
  | zero => intro x0 x5 g; exact AW_none
  | succ n ih =>
    intro x0 x5 g
    unfold f_J15_signedHashCode_L8
    refine r_iload (pc := 8) dJ15_signedHashCode_8 3 rfl ?_
    refine r_iload (pc := 10) dJ15_signedHashCode_10 2 rfl ?_
    refine r_icmp_ge (tgt := 35) (pc := 12) dJ15_signedHashCode_12 (by decide) ?_ ?_
    · skip
      refine r_iload_n (pc := 35) dJ15_signedHashCode_35 rfl 0 rfl ?_
      exact r_iret (pc := 36) dJ15_signedHashCode_36 rfl
    · skip
      refine r_bipush (v := (31 : Int32)) (pc := 15) dJ15_signedHashCode_15 (by decide) ?_
      refine r_iload_n (pc := 17) dJ15_signedHashCode_17 rfl 0 rfl ?_
      refine r_imul (pc := 18) dJ15_signedHashCode_18 ?_
      refine r_aload_n (pc := 19) dJ15_signedHashCode_19 rfl 1 rfl ?_
      refine r_iload (pc := 20) dJ15_signedHashCode_20 3 rfl ?_
      refine r_bald (pc := 22) dJ15_signedHashCode_22 (fun v1 => ?_)
      refine r_sipush (v := (255 : Int32)) (pc := 23) dJ15_signedHashCode_23 (by decide) ?_
      refine r_iand (pc := 26) dJ15_signedHashCode_26 ?_
      refine r_iadd (pc := 27) dJ15_signedHashCode_27 ?_
      refine r_istore_n (pc := 28) dJ15_signedHashCode_28 rfl (Nat.le_of_ble_eq_true rfl) rfl ?_
      refine r_iinc (j := 3) (v := (x5 + (1 : Int32))) (pc := 29) dJ15_signedHashCode_29 rfl rfl (Nat.le_of_ble_eq_true rfl) rfl ?_
      refine r_goto (tgt := 8) (pc := 32) dJ15_signedHashCode_32 (by decide) ?_
      refine AW_sub [1, 2, 3, 0] rfl ?_
      exact ih (((31 : Int32) * x0) + (v1 &&& (255 : Int32))) (x5 + (1 : Int32)) g
theorem t_J15_signedHashCode (γ : GP) (l : Launch) (hl : l.stackTraces = false) (x0 : Int32) (x1 : Nat) (x2 : Int32) (x3 : Int32) (g : AH) : TrM ρI γ l ⟨"jdk/internal/util/ArraysSupport", "signedHashCode", "(I[BII)I"⟩ (ws_ ⟨"jdk/internal/util/ArraysSupport", "signedHashCode", "(I[BII)I"⟩ prog_106_method_5_code 6 (some .int)) 1 [.int x0, .ref x1, .int x2, .int x3] g (f_J15_signedHashCode γ x0 x1 x2 x3 g) := by
  refine TrM_of (plainFor_of_name (by decide)) (Nat.le_of_ble_eq_true rfl) ?_
  unfold f_J15_signedHashCode
  change AW ρI γ l ck_J15_signedHashCode g 0 [(0, .int x0), (1, .ref x1), (2, .int x2), (3, .int x3)] [] g _
  refine r_iload_n (pc := 0) dJ15_signedHashCode_0 rfl 2 rfl ?_
  refine r_iload_n (pc := 1) dJ15_signedHashCode_1 rfl 3 rfl ?_
  refine r_iadd (pc := 2) dJ15_signedHashCode_2 ?_
  refine r_istore (pc := 3) dJ15_signedHashCode_3 (Nat.le_of_ble_eq_true rfl) rfl ?_
  refine r_iload_n (pc := 5) dJ15_signedHashCode_5 rfl 3 rfl ?_
  refine r_istore (pc := 6) dJ15_signedHashCode_6 (Nat.le_of_ble_eq_true rfl) rfl ?_
  refine AW_sub [2, 3, 1, 0] rfl ?_
  refine f_J15_signedHashCode_L8_w γ l hl _ x1 (x2 + x3) FU x0 x2 g
abbrev ck_J15_hashCode_2 : CK := ("jdk/internal/util/ArraysSupport", prog_106_method_6_code, 6, (some .int), "hashCode", [], 1)
def f_J15_hashCode_2_L8 (γ : GP) (x1 : Nat) (x4 : Int32) : Nat → Int32 → Int32 → AH → Option (Int32 × AH)
  | 0, _, _, _ => none
  | n + 1, x0, x5, g => (if x4 ≤ x5 then (some (x0, g)) else gA g 102 x1 x5 fun v1 => f_J15_hashCode_2_L8 γ x1 x4 n (((31 : Int32) * x0) + v1) (x5 + (1 : Int32)) g)
def f_J15_hashCode_2 (γ : GP) (x0 : Int32) (x1 : Nat) (x2 : Int32) (x3 : Int32) (g : AH) : Option (Int32 × AH) := f_J15_hashCode_2_L8 γ x1 (x2 + x3) FU x0 x2 g
theorem f_J15_hashCode_2_L8_w (γ : GP) (l : Launch) (hl : l.stackTraces = false) (G0 : AH) (x1 : Nat) (x4 : Int32) : ∀ (n : Nat) (x0 : Int32) (x5 : Int32) (g : AH), AW ρI γ l ck_J15_hashCode_2 G0 8 [(0, .int x0), (1, .ref x1), (4, .int x4), (5, .int x5)] [] g (f_J15_hashCode_2_L8 γ x1 x4 n x0 x5 g) := by
  intro n
  induction n with
  | zero => intro x0 x5 g; exact AW_none
  | succ n ih =>
    intro x0 x5 g
    unfold f_J15_hashCode_2_L8
    refine r_iload (pc := 8) dJ15_hashCode_2_8 3 rfl ?_
    refine r_iload (pc := 10) dJ15_hashCode_2_10 2 rfl ?_
    refine r_icmp_ge (tgt := 31) (pc := 12) dJ15_hashCode_2_12 (by decide) ?_ ?_
    · skip
      refine r_iload_n (pc := 31) dJ15_hashCode_2_31 rfl 0 rfl ?_
      exact r_iret (pc := 32) dJ15_hashCode_2_32 rfl
    · skip
      refine r_bipush (v := (31 : Int32)) (pc := 15) dJ15_hashCode_2_15 (by decide) ?_
      refine r_iload_n (pc := 17) dJ15_hashCode_2_17 rfl 0 rfl ?_
      refine r_imul (pc := 18) dJ15_hashCode_2_18 ?_
      refine r_aload_n (pc := 19) dJ15_hashCode_2_19 rfl 1 rfl ?_
      refine r_iload (pc := 20) dJ15_hashCode_2_20 3 rfl ?_
      refine r_bald (pc := 22) dJ15_hashCode_2_22 (fun v1 => ?_)
      refine r_iadd (pc := 23) dJ15_hashCode_2_23 ?_
      refine r_istore_n (pc := 24) dJ15_hashCode_2_24 rfl (Nat.le_of_ble_eq_true rfl) rfl ?_
      refine r_iinc (j := 3) (v := (x5 + (1 : Int32))) (pc := 25) dJ15_hashCode_2_25 rfl rfl (Nat.le_of_ble_eq_true rfl) rfl ?_
      refine r_goto (tgt := 8) (pc := 28) dJ15_hashCode_2_28 (by decide) ?_
      refine AW_sub [1, 2, 3, 0] rfl ?_
      exact ih (((31 : Int32) * x0) + v1) (x5 + (1 : Int32)) g
theorem t_J15_hashCode_2 (γ : GP) (l : Launch) (hl : l.stackTraces = false) (x0 : Int32) (x1 : Nat) (x2 : Int32) (x3 : Int32) (g : AH) : TrM ρI γ l ⟨"jdk/internal/util/ArraysSupport", "hashCode", "(I[BII)I"⟩ (ws_ ⟨"jdk/internal/util/ArraysSupport", "hashCode", "(I[BII)I"⟩ prog_106_method_6_code 6 (some .int)) 1 [.int x0, .ref x1, .int x2, .int x3] g (f_J15_hashCode_2 γ x0 x1 x2 x3 g) := by
  refine TrM_of (plainFor_of_name (by decide)) (Nat.le_of_ble_eq_true rfl) ?_
  unfold f_J15_hashCode_2
  change AW ρI γ l ck_J15_hashCode_2 g 0 [(0, .int x0), (1, .ref x1), (2, .int x2), (3, .int x3)] [] g _
  refine r_iload_n (pc := 0) dJ15_hashCode_2_0 rfl 2 rfl ?_
  refine r_iload_n (pc := 1) dJ15_hashCode_2_1 rfl 3 rfl ?_
  refine r_iadd (pc := 2) dJ15_hashCode_2_2 ?_
  refine r_istore (pc := 3) dJ15_hashCode_2_3 (Nat.le_of_ble_eq_true rfl) rfl ?_
  refine r_iload_n (pc := 5) dJ15_hashCode_2_5 rfl 3 rfl ?_
  refine r_istore (pc := 6) dJ15_hashCode_2_6 (Nat.le_of_ble_eq_true rfl) rfl ?_
  refine AW_sub [2, 3, 1, 0] rfl ?_
  refine f_J15_hashCode_2_L8_w γ l hl _ x1 (x2 + x3) FU x0 x2 g
abbrev ck_J15_vectorizedHashCode : CK := ("jdk/internal/util/ArraysSupport", prog_106_method_4_code, 5, (some .int), "vectorizedHashCode", [], 2)
def f_J15_vectorizedHashCode (γ : GP) (x0 : Nat) (x1 : Int32) (x2 : Int32) (x3 : Int32) (x4 : Int32) (g : AH) : Option (Int32 × AH) := (if x4 = (4 : Int32) then gCA g 102 x0 (bI (f_J15_signedHashCode γ x3 x0 x1 x2 g) fun v2 g1 => (some (v2, g1))) else (if x4 = (5 : Int32) then gInst g [] [] x0 fun v3 => (if v3 = 0 then none else gCA g 102 x0 (none)) else (if x4 = (6 : Int32) then none else (if x4 = (7 : Int32) then none else (if x4 = (8 : Int32) then gCA g 102 x0 (bI (f_J15_hashCode_2 γ x3 x0 x1 x2 g) fun v5 g4 => (some (v5, g4))) else (if x4 = (9 : Int32) then none else (if x4 = (10 : Int32) then none else none)))))))
theorem t_J15_vectorizedHashCode (γ : GP) (l : Launch) (hl : l.stackTraces = false) (x0 : Nat) (x1 : Int32) (x2 : Int32) (x3 : Int32) (x4 : Int32) (g : AH) : TrM ρI γ l ⟨"jdk/internal/util/ArraysSupport", "vectorizedHashCode", "(Ljava/lang/Object;IIII)I"⟩ (ws_ ⟨"jdk/internal/util/ArraysSupport", "vectorizedHashCode", "(Ljava/lang/Object;IIII)I"⟩ prog_106_method_4_code 5 (some .int)) 2 [.ref x0, .int x1, .int x2, .int x3, .int x4] g (f_J15_vectorizedHashCode γ x0 x1 x2 x3 x4 g) := by
  refine TrM_of (plainFor_of_name (by decide)) (Nat.le_of_ble_eq_true rfl) ?_
  unfold f_J15_vectorizedHashCode
  change AW ρI γ l ck_J15_vectorizedHashCode g 0 [(0, .ref x0), (1, .int x1), (2, .int x2), (3, .int x3), (4, .int x4)] [] g _
  refine r_iload (pc := 0) dJ15_vectorizedHashCode_0 4 rfl ?_
  refine r_tabC (v := (4 : Int32)) (tgt := 44) (pc := 2) dJ15_vectorizedHashCode_2 (by decide) (by decide) rfl (by decide) ?_ (fun c4 => ?_)
  · skip
    refine r_iload_n (pc := 44) dJ15_vectorizedHashCode_44 rfl 3 rfl ?_
    refine r_aload_n (pc := 45) dJ15_vectorizedHashCode_45 rfl 0 rfl ?_
    refine r_castA (kd := 102) (nm := "[B") (by decide) rfl (pc := 46) dJ15_vectorizedHashCode_46 q2296 ?_
    refine r_iload_n (pc := 49) dJ15_vectorizedHashCode_49 rfl 1 rfl ?_
    refine r_iload_n (pc := 50) dJ15_vectorizedHashCode_50 rfl 2 rfl ?_
    refine r_cI (pc := 51) (rest := []) (run_S (n := 4) (As := [.int x3, .ref x0, .int x1, .int x2]) (rest := []) (t_J15_signedHashCode γ l hl x3 x0 x1 x2 g) dJ15_vectorizedHashCode_51 q2297 q2298 q128 q2299 (by decide +kernel) rfl (Nat.le_of_ble_eq_true rfl) (Nat.le_of_ble_eq_true rfl) rfl (Nat.le_of_ble_eq_true rfl)) (fun v2 g1 => ?_)
    refine r_goto (tgt := 157) (pc := 54) dJ15_vectorizedHashCode_54 (by decide) ?_
    exact r_iret (pc := 157) dJ15_vectorizedHashCode_157 rfl
  · skip
    refine r_tabC (v := (5 : Int32)) (tgt := 57) (pc := 2) dJ15_vectorizedHashCode_2 (by decide) (by decide) rfl (by decide) ?_ (fun c5 => ?_)
    · skip
      refine r_aload_n (pc := 57) dJ15_vectorizedHashCode_57 rfl 0 rfl ?_
      refine r_inst (L1 := []) (L0 := []) (pc := 58) dJ15_vectorizedHashCode_58 q2296 ((fun _ h => absurd h List.not_mem_nil)) ((fun _ h => absurd h List.not_mem_nil)) (fun v3 => ?_)
      refine r_if_eq (tgt := 77) (pc := 61) dJ15_vectorizedHashCode_61 (by decide) ?_ ?_
      · skip
        refine r_iload_n (pc := 77) dJ15_vectorizedHashCode_77 rfl 3 rfl ?_
        refine r_aload_n (pc := 78) dJ15_vectorizedHashCode_78 rfl 0 rfl ?_
        exact AW_none
      · skip
        refine r_iload_n (pc := 64) dJ15_vectorizedHashCode_64 rfl 3 rfl ?_
        refine r_aload_n (pc := 65) dJ15_vectorizedHashCode_65 rfl 0 rfl ?_
        refine r_castA (kd := 102) (nm := "[B") (by decide) rfl (pc := 66) dJ15_vectorizedHashCode_66 q2296 ?_
        refine r_iload_n (pc := 69) dJ15_vectorizedHashCode_69 rfl 1 rfl ?_
        refine r_iload_n (pc := 70) dJ15_vectorizedHashCode_70 rfl 2 rfl ?_
        exact AW_none
    · skip
      refine r_tabC (v := (6 : Int32)) (tgt := 129) (pc := 2) dJ15_vectorizedHashCode_2 (by decide) (by decide) rfl (by decide) ?_ (fun c6 => ?_)
      · skip
        exact AW_none
      · skip
        refine r_tabC (v := (7 : Int32)) (tgt := 129) (pc := 2) dJ15_vectorizedHashCode_2 (by decide) (by decide) rfl (by decide) ?_ (fun c7 => ?_)
        · skip
          exact AW_none
        · skip
          refine r_tabC (v := (8 : Int32)) (tgt := 90) (pc := 2) dJ15_vectorizedHashCode_2 (by decide) (by decide) rfl (by decide) ?_ (fun c8 => ?_)
          · skip
            refine r_iload_n (pc := 90) dJ15_vectorizedHashCode_90 rfl 3 rfl ?_
            refine r_aload_n (pc := 91) dJ15_vectorizedHashCode_91 rfl 0 rfl ?_
            refine r_castA (kd := 102) (nm := "[B") (by decide) rfl (pc := 92) dJ15_vectorizedHashCode_92 q2296 ?_
            refine r_iload_n (pc := 95) dJ15_vectorizedHashCode_95 rfl 1 rfl ?_
            refine r_iload_n (pc := 96) dJ15_vectorizedHashCode_96 rfl 2 rfl ?_
            refine r_cI (pc := 97) (rest := []) (run_S (n := 4) (As := [.int x3, .ref x0, .int x1, .int x2]) (rest := []) (t_J15_hashCode_2 γ l hl x3 x0 x1 x2 g) dJ15_vectorizedHashCode_97 q2320 q2321 q128 q2322 (by decide +kernel) rfl (Nat.le_of_ble_eq_true rfl) (Nat.le_of_ble_eq_true rfl) rfl (Nat.le_of_ble_eq_true rfl)) (fun v5 g4 => ?_)
            refine r_goto (tgt := 157) (pc := 100) dJ15_vectorizedHashCode_100 (by decide) ?_
            exact r_iret (pc := 157) dJ15_vectorizedHashCode_157 rfl
          · skip
            refine r_tabC (v := (9 : Int32)) (tgt := 103) (pc := 2) dJ15_vectorizedHashCode_2 (by decide) (by decide) rfl (by decide) ?_ (fun c9 => ?_)
            · skip
              refine r_iload_n (pc := 103) dJ15_vectorizedHashCode_103 rfl 3 rfl ?_
              refine r_aload_n (pc := 104) dJ15_vectorizedHashCode_104 rfl 0 rfl ?_
              exact AW_none
            · skip
              refine r_tabC (v := (10 : Int32)) (tgt := 116) (pc := 2) dJ15_vectorizedHashCode_2 (by decide) (by decide) rfl (by decide) ?_ (fun c10 => ?_)
              · skip
                refine r_iload_n (pc := 116) dJ15_vectorizedHashCode_116 rfl 3 rfl ?_
                refine r_aload_n (pc := 117) dJ15_vectorizedHashCode_117 rfl 0 rfl ?_
                exact AW_none
              · skip
                refine r_tabD (tgt := 129) (pc := 2) dJ15_vectorizedHashCode_2 (by have e4 := lv_neT c4 (a := 4) rfl; have e5 := lv_neT c5 (a := 5) rfl; have e6 := lv_neT c6 (a := 6) rfl; have e7 := lv_neT c7 (a := 7) rfl; have e8 := lv_neT c8 (a := 8) rfl; have e9 := lv_neT c9 (a := 9) rfl; have e10 := lv_neT c10 (a := 10) rfl; omega) (by decide) ?_
                exact AW_none
abbrev ck_J19_hashCode : CK := ("java/lang/StringLatin1", prog_51_method_21_code, 1, (some .int), "hashCode", [], 3)
def f_J19_hashCode (γ : GP) (x0 : Nat) (g : AH) : Option (Int32 × AH) := gL g x0 fun v1 => (if v1 = (0 : Int32) then (some ((0 : Int32), g)) else (if v1 = (1 : Int32) then gA g 102 x0 (0 : Int32) fun v2 => (some ((v2 &&& (255 : Int32)), g)) else gL g x0 fun v3 => bI (f_J15_vectorizedHashCode γ x0 (0 : Int32) v3 (0 : Int32) (4 : Int32) g) fun v5 g4 => (some (v5, g4))))
theorem t_J19_hashCode (γ : GP) (l : Launch) (hl : l.stackTraces = false) (x0 : Nat) (g : AH) : TrM ρI γ l ⟨"java/lang/StringLatin1", "hashCode", "([B)I"⟩ (ws_ ⟨"java/lang/StringLatin1", "hashCode", "([B)I"⟩ prog_51_method_21_code 1 (some .int)) 3 [.ref x0] g (f_J19_hashCode γ x0 g) := by
  refine TrM_of (plainFor_of_name (by decide)) (Nat.le_of_ble_eq_true rfl) ?_
  unfold f_J19_hashCode
  change AW ρI γ l ck_J19_hashCode g 0 [(0, .ref x0)] [] g _
  refine r_aload_n (pc := 0) dJ19_hashCode_0 rfl 0 rfl ?_
  refine r_alen (pc := 1) dJ19_hashCode_1 (fun v1 => ?_)
  refine r_lookC (v := (0 : Int32)) (tgt := 28) (pc := 2) dJ19_hashCode_2 rfl rfl (by decide) ?_ (fun c0 => ?_)
  · skip
    refine r_iconst (v := (0 : Int32)) (pc := 28) dJ19_hashCode_28 (by decide) ?_
    refine r_goto (tgt := 51) (pc := 29) dJ19_hashCode_29 (by decide) ?_
    exact r_iret (pc := 51) dJ19_hashCode_51 rfl
  · skip
    refine r_lookC (v := (1 : Int32)) (tgt := 32) (pc := 2) dJ19_hashCode_2 rfl rfl (by decide) ?_ (fun c1 => ?_)
    · skip
      refine r_aload_n (pc := 32) dJ19_hashCode_32 rfl 0 rfl ?_
      refine r_iconst (v := (0 : Int32)) (pc := 33) dJ19_hashCode_33 (by decide) ?_
      refine r_bald (pc := 34) dJ19_hashCode_34 (fun v2 => ?_)
      refine r_sipush (v := (255 : Int32)) (pc := 35) dJ19_hashCode_35 (by decide) ?_
      refine r_iand (pc := 38) dJ19_hashCode_38 ?_
      refine r_goto (tgt := 51) (pc := 39) dJ19_hashCode_39 (by decide) ?_
      exact r_iret (pc := 51) dJ19_hashCode_51 rfl
    · skip
      refine r_lookD (tgt := 42) (pc := 2) dJ19_hashCode_2 rfl (by refine (lv_osw c0 rfl).trans ?_; refine (lv_osw c1 rfl).trans ?_; rfl) (by decide) ?_
      refine r_aload_n (pc := 42) dJ19_hashCode_42 rfl 0 rfl ?_
      refine r_iconst (v := (0 : Int32)) (pc := 43) dJ19_hashCode_43 (by decide) ?_
      refine r_aload_n (pc := 44) dJ19_hashCode_44 rfl 0 rfl ?_
      refine r_alen (pc := 45) dJ19_hashCode_45 (fun v3 => ?_)
      refine r_iconst (v := (0 : Int32)) (pc := 46) dJ19_hashCode_46 (by decide) ?_
      refine r_iconst (v := (4 : Int32)) (pc := 47) dJ19_hashCode_47 (by decide) ?_
      refine r_cI (pc := 48) (rest := []) (run_S (n := 5) (As := [.ref x0, .int (0 : Int32), .int v3, .int (0 : Int32), .int (4 : Int32)]) (rest := []) (t_J15_vectorizedHashCode γ l hl x0 (0 : Int32) v3 (0 : Int32) (4 : Int32) g) dJ19_hashCode_48 q2293 q2294 q128 q2295 (by decide +kernel) rfl (Nat.le_of_ble_eq_true rfl) (Nat.le_of_ble_eq_true rfl) rfl (Nat.le_of_ble_eq_true rfl)) (fun v5 g4 => ?_)
      exact r_iret (pc := 51) dJ19_hashCode_51 rfl
abbrev ck_J8_length : CK := ("java/lang/StringUTF16", prog_52_method_6_code, 1, (some .int), "length", [], 1)
def f_J8_length (γ : GP) (x0 : Nat) (g : AH) : Option (Int32 × AH) := gL g x0 fun v1 => (some ((v1 >>> ((1 : Int32) &&& 31)), g))
theorem t_J8_length (γ : GP) (l : Launch) (hl : l.stackTraces = false) (x0 : Nat) (g : AH) : TrM ρI γ l ⟨"java/lang/StringUTF16", "length", "([B)I"⟩ (ws_ ⟨"java/lang/StringUTF16", "length", "([B)I"⟩ prog_52_method_6_code 1 (some .int)) 1 [.ref x0] g (f_J8_length γ x0 g) := by
  refine TrM_of (plainFor_of_name (by decide)) (Nat.le_of_ble_eq_true rfl) ?_
  unfold f_J8_length
  change AW ρI γ l ck_J8_length g 0 [(0, .ref x0)] [] g _
  refine r_aload_n (pc := 0) dJ8_length_0 rfl 0 rfl ?_
  refine r_alen (pc := 1) dJ8_length_1 (fun v1 => ?_)
  refine r_iconst (v := (1 : Int32)) (pc := 2) dJ8_length_2 (by decide) ?_
  refine r_ishr (pc := 3) dJ8_length_3 ?_
  exact r_iret (pc := 4) dJ8_length_4 rfl
abbrev ck_J8_getChar : CK := ("java/lang/StringUTF16", prog_52_method_5_code, 2, (some .char), "getChar", [], 2)
def f_J8_getChar (γ : GP) (x0 : Nat) (x1 : Int32) (g : AH) : Option (Int32 × AH) := jn (fun (g1 : AH) => gA g1 102 x0 (x1 <<< ((1 : Int32) &&& 31)) fun v3 => gA g1 102 x0 ((x1 <<< ((1 : Int32) &&& 31)) + (1 : Int32)) fun v4 => (rtN .char (((((v3 &&& (255 : Int32)) <<< ((0 : Int32) &&& 31)) ||| ((v4 &&& (255 : Int32)) <<< ((8 : Int32) &&& 31)))).toUInt32 % 65536).toInt32 g1)) (fun (j2 : AH → Option (Int32 × AH)) => (if (1 : Int32) = 0 then (if x1 < 0 then none else bI (f_J8_length γ x0 g) fun v6 g5 => (if x1 < v6 then j2 g5 else none)) else j2 g))
theorem t_J8_getChar (γ : GP) (l : Launch) (hl : l.stackTraces = false) (x0 : Nat) (x1 : Int32) (g : AH) : TrM ρI γ l ⟨"java/lang/StringUTF16", "getChar", "([BI)C"⟩ (ws_ ⟨"java/lang/StringUTF16", "getChar", "([BI)C"⟩ prog_52_method_5_code 2 (some .char)) 2 [.ref x0, .int x1] g (f_J8_getChar γ x0 x1 g) := by
  refine TrM_of (plainFor_of_name (by decide)) (Nat.le_of_ble_eq_true rfl) ?_
  unfold f_J8_getChar
  change AW ρI γ l ck_J8_getChar g 0 [(0, .ref x0), (1, .int x1)] [] g _
  refine r_getsI (v := (1 : Int32)) (pc := 0) dJ8_getChar_0 q532 (List.mem_of_getElem? (i := 1) rfl) rfl ?_
  refine AW_jn (P := fun (j : AH → Option (Int32 × AH)) => ∀ (g1 : AH), AW ρI γ l ck_J8_getChar g 28 [(0, .ref x0), (1, .int x1)] [] g1 (j g1)) (fun g1 => ?_) (fun j2 h_j2 => ?_)
  · skip
    refine r_iload_n (pc := 28) dJ8_getChar_28 rfl 1 rfl ?_
    refine r_iconst (v := (1 : Int32)) (pc := 29) dJ8_getChar_29 (by decide) ?_
    refine r_ishl (pc := 30) dJ8_getChar_30 ?_
    refine r_istore_n (pc := 31) dJ8_getChar_31 rfl (Nat.le_of_ble_eq_true rfl) rfl ?_
    refine r_aload_n (pc := 32) dJ8_getChar_32 rfl 1 rfl ?_
    refine r_iload_n (pc := 33) dJ8_getChar_33 rfl 0 rfl ?_
    refine r_iinc (j := 0) (v := ((x1 <<< ((1 : Int32) &&& 31)) + (1 : Int32))) (pc := 34) dJ8_getChar_34 rfl rfl (Nat.le_of_ble_eq_true rfl) rfl ?_
    refine r_bald (pc := 37) dJ8_getChar_37 (fun v3 => ?_)
    refine r_sipush (v := (255 : Int32)) (pc := 38) dJ8_getChar_38 (by decide) ?_
    refine r_iand (pc := 41) dJ8_getChar_41 ?_
    refine r_getsI (v := (0 : Int32)) (pc := 42) dJ8_getChar_42 q534 (List.mem_of_getElem? (i := 2) rfl) rfl ?_
    refine r_ishl (pc := 45) dJ8_getChar_45 ?_
    refine r_aload_n (pc := 46) dJ8_getChar_46 rfl 1 rfl ?_
    refine r_iload_n (pc := 47) dJ8_getChar_47 rfl 0 rfl ?_
    refine r_bald (pc := 48) dJ8_getChar_48 (fun v4 => ?_)
    refine r_sipush (v := (255 : Int32)) (pc := 49) dJ8_getChar_49 (by decide) ?_
    refine r_iand (pc := 52) dJ8_getChar_52 ?_
    refine r_getsI (v := (8 : Int32)) (pc := 53) dJ8_getChar_53 q536 (List.mem_of_getElem? (i := 3) rfl) rfl ?_
    refine r_ishl (pc := 56) dJ8_getChar_56 ?_
    refine r_ior (pc := 57) dJ8_getChar_57 ?_
    refine r_i2c (pc := 58) dJ8_getChar_58 ?_
    exact r_zret (ty := .char) (pc := 59) dJ8_getChar_59 rfl
  · skip
    refine r_if_ne (tgt := 28) (pc := 3) dJ8_getChar_3 (by decide) ?_ ?_
    · skip
      refine r_iload_n (pc := 6) dJ8_getChar_6 rfl 1 rfl ?_
      refine r_if_lt (tgt := 18) (pc := 7) dJ8_getChar_7 (by decide) ?_ ?_
      · skip
        exact AW_none
      · skip
        refine r_iload_n (pc := 10) dJ8_getChar_10 rfl 1 rfl ?_
        refine r_aload_n (pc := 11) dJ8_getChar_11 rfl 0 rfl ?_
        refine r_cI (pc := 12) (rest := [.int x1]) (run_S (n := 1) (As := [.ref x0]) (rest := [.int x1]) (t_J8_length γ l hl x0 g) dJ8_getChar_12 q518 q519 q120 q520 (by decide +kernel) rfl (Nat.le_of_ble_eq_true rfl) (Nat.le_of_ble_eq_true rfl) rfl (Nat.le_of_ble_eq_true rfl)) (fun v6 g5 => ?_)
        refine r_icmp_lt (tgt := 28) (pc := 15) dJ8_getChar_15 (by decide) ?_ ?_
        · skip
          exact h_j2 g5
        · skip
          exact AW_none
    · skip
      exact h_j2 g
abbrev ck_J8_hashCode : CK := ("java/lang/StringUTF16", prog_52_method_39_code, 1, (some .int), "hashCode", [], 3)
def f_J8_hashCode (γ : GP) (x0 : Nat) (g : AH) : Option (Int32 × AH) := gL g x0 fun v1 => (if v1 = (0 : Int32) then (some ((0 : Int32), g)) else (if v1 = (2 : Int32) then bI (f_J8_getChar γ x0 (0 : Int32) g) fun v3 g2 => (some (v3, g2)) else gL g x0 fun v4 => bI (f_J15_vectorizedHashCode γ x0 (0 : Int32) (v4 >>> ((1 : Int32) &&& 31)) (0 : Int32) (5 : Int32) g) fun v6 g5 => (some (v6, g5))))
theorem t_J8_hashCode (γ : GP) (l : Launch) (hl : l.stackTraces = false) (x0 : Nat) (g : AH) : TrM ρI γ l ⟨"java/lang/StringUTF16", "hashCode", "([B)I"⟩ (ws_ ⟨"java/lang/StringUTF16", "hashCode", "([B)I"⟩ prog_52_method_39_code 1 (some .int)) 3 [.ref x0] g (f_J8_hashCode γ x0 g) := by
  refine TrM_of (plainFor_of_name (by decide)) (Nat.le_of_ble_eq_true rfl) ?_
  unfold f_J8_hashCode
  change AW ρI γ l ck_J8_hashCode g 0 [(0, .ref x0)] [] g _
  refine r_aload_n (pc := 0) dJ8_hashCode_0 rfl 0 rfl ?_
  refine r_alen (pc := 1) dJ8_hashCode_1 (fun v1 => ?_)
  refine r_lookC (v := (0 : Int32)) (tgt := 28) (pc := 2) dJ8_hashCode_2 rfl rfl (by decide) ?_ (fun c0 => ?_)
  · skip
    refine r_iconst (v := (0 : Int32)) (pc := 28) dJ8_hashCode_28 (by decide) ?_
    refine r_goto (tgt := 51) (pc := 29) dJ8_hashCode_29 (by decide) ?_
    exact r_iret (pc := 51) dJ8_hashCode_51 rfl
  · skip
    refine r_lookC (v := (2 : Int32)) (tgt := 32) (pc := 2) dJ8_hashCode_2 rfl rfl (by decide) ?_ (fun c1 => ?_)
    · skip
      refine r_aload_n (pc := 32) dJ8_hashCode_32 rfl 0 rfl ?_
      refine r_iconst (v := (0 : Int32)) (pc := 33) dJ8_hashCode_33 (by decide) ?_
      refine r_cI (pc := 34) (rest := []) (run_S (n := 2) (As := [.ref x0, .int (0 : Int32)]) (rest := []) (t_J8_getChar γ l hl x0 (0 : Int32) g) dJ8_hashCode_34 q689 q690 q120 q691 (by decide +kernel) rfl (Nat.le_of_ble_eq_true rfl) (Nat.le_of_ble_eq_true rfl) rfl (Nat.le_of_ble_eq_true rfl)) (fun v3 g2 => ?_)
      refine r_goto (tgt := 51) (pc := 37) dJ8_hashCode_37 (by decide) ?_
      exact r_iret (pc := 51) dJ8_hashCode_51 rfl
    · skip
      refine r_lookD (tgt := 40) (pc := 2) dJ8_hashCode_2 rfl (by refine (lv_osw c0 rfl).trans ?_; refine (lv_osw c1 rfl).trans ?_; rfl) (by decide) ?_
      refine r_aload_n (pc := 40) dJ8_hashCode_40 rfl 0 rfl ?_
      refine r_iconst (v := (0 : Int32)) (pc := 41) dJ8_hashCode_41 (by decide) ?_
      refine r_aload_n (pc := 42) dJ8_hashCode_42 rfl 0 rfl ?_
      refine r_alen (pc := 43) dJ8_hashCode_43 (fun v4 => ?_)
      refine r_iconst (v := (1 : Int32)) (pc := 44) dJ8_hashCode_44 (by decide) ?_
      refine r_ishr (pc := 45) dJ8_hashCode_45 ?_
      refine r_iconst (v := (0 : Int32)) (pc := 46) dJ8_hashCode_46 (by decide) ?_
      refine r_iconst (v := (5 : Int32)) (pc := 47) dJ8_hashCode_47 (by decide) ?_
      refine r_cI (pc := 48) (rest := []) (run_S (n := 5) (As := [.ref x0, .int (0 : Int32), .int (v4 >>> ((1 : Int32) &&& 31)), .int (0 : Int32), .int (5 : Int32)]) (rest := []) (t_J15_vectorizedHashCode γ l hl x0 (0 : Int32) (v4 >>> ((1 : Int32) &&& 31)) (0 : Int32) (5 : Int32) g) dJ8_hashCode_48 q2342 q2294 q128 q2295 (by decide +kernel) rfl (Nat.le_of_ble_eq_true rfl) (Nat.le_of_ble_eq_true rfl) rfl (Nat.le_of_ble_eq_true rfl)) (fun v6 g5 => ?_)
      exact r_iret (pc := 51) dJ8_hashCode_51 rfl
abbrev ck_J7_hashCode : CK := ("java/lang/String", prog_48_method_78_code, 2, (some .int), "hashCode", [], 4)
def f_J7_hashCode (γ : GP) (x0 : Nat) (g : AH) : Option (Int32 × AH) := gI g x0 28 fun v1 => (if v1 = 0 then gI g x0 29 fun v2 => (if v2 = 0 then bI ((if hK g x0 = 7 then f_J7_isLatin1 γ x0 g else none)) fun v4 g3 => jn (fun (z5 : Int32) (g6 : AH) => (if z5 = 0 then pI γ g6 x0 29 (1 : Int32) fun g8 => (some (z5, g8)) else pI γ g6 x0 28 z5 fun g9 => (some (z5, g9)))) (fun (j7 : Int32 → AH → Option (Int32 × AH)) => (if v4 = 0 then gR g3 x0 26 fun v10 => bI (f_J8_hashCode γ v10 g3) fun v12 g11 => j7 v12 g11 else gR g3 x0 26 fun v13 => bI (f_J19_hashCode γ v13 g3) fun v15 g14 => j7 v15 g14)) else (some (v1, g))) else (some (v1, g)))
theorem t_J7_hashCode (γ : GP) (l : Launch) (hl : l.stackTraces = false) (x0 : Nat) (g : AH) : TrM ρI γ l ⟨"java/lang/String", "hashCode", "()I"⟩ (ws_ ⟨"java/lang/String", "hashCode", "()I"⟩ prog_48_method_78_code 2 (some .int)) 4 [.ref x0] g (f_J7_hashCode γ x0 g) := by
  refine TrM_of (plainFor_of_name (by decide)) (Nat.le_of_ble_eq_true rfl) ?_
  unfold f_J7_hashCode
  change AW ρI γ l ck_J7_hashCode g 0 [(0, .ref x0)] [] g _
  refine r_aload_n (pc := 0) dJ7_hashCode_0 rfl 0 rfl ?_
  refine r_getI (f := 28) (pc := 1) dJ7_hashCode_1 q698 (Or.inl rfl) rfl (fun v1 => ?_)
  refine r_istore_n (pc := 4) dJ7_hashCode_4 rfl (Nat.le_of_ble_eq_true rfl) rfl ?_
  refine r_iload_n (pc := 5) dJ7_hashCode_5 rfl 0 rfl ?_
  refine r_if_ne (tgt := 58) (pc := 6) dJ7_hashCode_6 (by decide) ?_ ?_
  · skip
    refine r_aload_n (pc := 9) dJ7_hashCode_9 rfl 1 rfl ?_
    refine r_getI (f := 29) (pc := 10) dJ7_hashCode_10 q699 (Or.inl rfl) rfl (fun v2 => ?_)
    refine r_if_ne (tgt := 58) (pc := 13) dJ7_hashCode_13 (by decide) ?_ ?_
    · skip
      refine r_aload_n (pc := 16) dJ7_hashCode_16 rfl 1 rfl ?_
      refine r_cI (pc := 17) (rest := []) (RunOK_chk (fun h => run_V (n := 0) (c9 := 7) (As := []) (rest := []) (t_J7_isLatin1 γ l hl x0 g) dJ7_hashCode_17 q2286 q2287 q2288 q119 q2289 (by decide +kernel) rfl h ⟨rfl, by decide, by decide⟩ (Nat.le_of_ble_eq_true rfl) (Nat.le_of_ble_eq_true rfl) rfl (Nat.le_of_ble_eq_true rfl))) (fun v4 g3 => ?_)
      refine AW_jn (P := fun (j : Int32 → AH → Option (Int32 × AH)) => ∀ (z5 : Int32) (g6 : AH), AW ρI γ l ck_J7_hashCode g 40 [(0, .ref x0)] [.int z5] g6 (j z5 g6)) (fun z5 g6 => ?_) (fun j7 h_j7 => ?_)
      · skip
        refine r_istore_n (pc := 40) dJ7_hashCode_40 rfl (Nat.le_of_ble_eq_true rfl) rfl ?_
        refine r_iload_n (pc := 41) dJ7_hashCode_41 rfl 0 rfl ?_
        refine r_if_ne (tgt := 53) (pc := 42) dJ7_hashCode_42 (by decide) ?_ ?_
        · skip
          refine r_aload_n (pc := 45) dJ7_hashCode_45 rfl 1 rfl ?_
          refine r_iconst (v := (1 : Int32)) (pc := 46) dJ7_hashCode_46 (by decide) ?_
          refine r_putI (f := 29) (pc := 47) dJ7_hashCode_47 q699 (Or.inl rfl) (Or.inl rfl) rfl (fun g8 => ?_)
          refine r_goto (tgt := 58) (pc := 50) dJ7_hashCode_50 (by decide) ?_
          refine r_iload_n (pc := 58) dJ7_hashCode_58 rfl 0 rfl ?_
          exact r_iret (pc := 59) dJ7_hashCode_59 rfl
        · skip
          refine r_aload_n (pc := 53) dJ7_hashCode_53 rfl 1 rfl ?_
          refine r_iload_n (pc := 54) dJ7_hashCode_54 rfl 0 rfl ?_
          refine r_putI (f := 28) (pc := 55) dJ7_hashCode_55 q698 (Or.inl rfl) (Or.inl rfl) rfl (fun g9 => ?_)
          refine r_iload_n (pc := 58) dJ7_hashCode_58 rfl 0 rfl ?_
          exact r_iret (pc := 59) dJ7_hashCode_59 rfl
      · skip
        refine r_if_eq (tgt := 33) (pc := 20) dJ7_hashCode_20 (by decide) ?_ ?_
        · skip
          refine r_aload_n (pc := 33) dJ7_hashCode_33 rfl 1 rfl ?_
          refine r_getR (f := 26) (pc := 34) dJ7_hashCode_34 q696 (Or.inl rfl) rfl (fun v10 => ?_)
          refine r_cI (pc := 37) (rest := []) (run_S (n := 1) (As := [.ref v10]) (rest := []) (t_J8_hashCode γ l hl v10 g3) dJ7_hashCode_37 q2339 q2340 q120 q2341 (by decide +kernel) rfl (Nat.le_of_ble_eq_true rfl) (Nat.le_of_ble_eq_true rfl) rfl (Nat.le_of_ble_eq_true rfl)) (fun v12 g11 => ?_)
          refine AW_sub [1] rfl ?_
          exact h_j7 v12 g11
        · skip
          refine r_aload_n (pc := 23) dJ7_hashCode_23 rfl 1 rfl ?_
          refine r_getR (f := 26) (pc := 24) dJ7_hashCode_24 q696 (Or.inl rfl) rfl (fun v13 => ?_)
          refine r_cI (pc := 27) (rest := []) (run_S (n := 1) (As := [.ref v13]) (rest := []) (t_J19_hashCode γ l hl v13 g3) dJ7_hashCode_27 q2290 q2291 q133 q2292 (by decide +kernel) rfl (Nat.le_of_ble_eq_true rfl) (Nat.le_of_ble_eq_true rfl) rfl (Nat.le_of_ble_eq_true rfl)) (fun v15 g14 => ?_)
          refine r_goto (tgt := 40) (pc := 30) dJ7_hashCode_30 (by decide) ?_
          refine AW_sub [1] rfl ?_
          exact h_j7 v15 g14
    · skip
      refine r_iload_n (pc := 58) dJ7_hashCode_58 rfl 0 rfl ?_
      exact r_iret (pc := 59) dJ7_hashCode_59 rfl
  · skip
    refine r_iload_n (pc := 58) dJ7_hashCode_58 rfl 0 rfl ?_
    exact r_iret (pc := 59) dJ7_hashCode_59 rfl
abbrev ck_J19_equals : CK := ("java/lang/StringLatin1", prog_51_method_13_code, 3, (some .boolean), "equals", [], 1)
def f_J19_equals_L9 (γ : GP) (x0 : Nat) (x1 : Nat) : Nat → Int32 → AH → Option (Int32 × AH)
  | 0, _, _ => none
  | n + 1, x2, g => gL g x0 fun v3 => (if v3 ≤ x2 then (rtN .boolean (1 : Int32) g) else gA g 102 x0 x2 fun v4 => gA g 102 x1 x2 fun v5 => (if v4 = v5 then f_J19_equals_L9 γ x0 x1 n (x2 + (1 : Int32)) g else (rtN .boolean (0 : Int32) g)))
def f_J19_equals (γ : GP) (x0 : Nat) (x1 : Nat) (g : AH) : Option (Int32 × AH) := gL g x0 fun v1 => gL g x1 fun v2 => (if v1 = v2 then f_J19_equals_L9 γ x0 x1 FU (0 : Int32) g else (rtN .boolean (0 : Int32) g))
theorem f_J19_equals_L9_w (γ : GP) (l : Launch) (hl : l.stackTraces = false) (G0 : AH) (x0 : Nat) (x1 : Nat) : ∀ (n : Nat) (x2 : Int32) (g : AH), AW ρI γ l ck_J19_equals G0 9 [(0, .ref x0), (1, .ref x1), (2, .int x2)] [] g (f_J19_equals_L9 γ x0 x1 n x2 g) := by
  intro n
  induction n with
  | zero => intro x2 g; exact AW_none
  | succ n ih =>
    intro x2 g
    unfold f_J19_equals_L9
    refine r_iload_n (pc := 9) dJ19_equals_9 rfl 2 rfl ?_
    refine r_aload_n (pc := 10) dJ19_equals_10 rfl 0 rfl ?_
    refine r_alen (pc := 11) dJ19_equals_11 (fun v3 => ?_)
    refine r_icmp_ge (tgt := 32) (pc := 12) dJ19_equals_12 (by decide) ?_ ?_
    · skip
      refine r_iconst (v := (1 : Int32)) (pc := 32) dJ19_equals_32 (by decide) ?_
      exact r_zret (ty := .boolean) (pc := 33) dJ19_equals_33 rfl
    · skip
      refine r_aload_n (pc := 15) dJ19_equals_15 rfl 0 rfl ?_
      refine r_iload_n (pc := 16) dJ19_equals_16 rfl 2 rfl ?_
      refine r_bald (pc := 17) dJ19_equals_17 (fun v4 => ?_)
      refine r_aload_n (pc := 18) dJ19_equals_18 rfl 1 rfl ?_
      refine r_iload_n (pc := 19) dJ19_equals_19 rfl 2 rfl ?_
      refine r_bald (pc := 20) dJ19_equals_20 (fun v5 => ?_)
      refine r_icmp_eq (tgt := 26) (pc := 21) dJ19_equals_21 (by decide) ?_ ?_
      · skip
        refine r_iinc (j := 2) (v := (x2 + (1 : Int32))) (pc := 26) dJ19_equals_26 rfl rfl (Nat.le_of_ble_eq_true rfl) rfl ?_
        refine r_goto (tgt := 9) (pc := 29) dJ19_equals_29 (by decide) ?_
        refine AW_sub [1, 2, 0] rfl ?_
        exact ih (x2 + (1 : Int32)) g
      · skip
        refine r_iconst (v := (0 : Int32)) (pc := 24) dJ19_equals_24 (by decide) ?_
        exact r_zret (ty := .boolean) (pc := 25) dJ19_equals_25 rfl
theorem t_J19_equals (γ : GP) (l : Launch) (hl : l.stackTraces = false) (x0 : Nat) (x1 : Nat) (g : AH) : TrM ρI γ l ⟨"java/lang/StringLatin1", "equals", "([B[B)Z"⟩ (ws_ ⟨"java/lang/StringLatin1", "equals", "([B[B)Z"⟩ prog_51_method_13_code 3 (some .boolean)) 1 [.ref x0, .ref x1] g (f_J19_equals γ x0 x1 g) := by
  refine TrM_of (plainFor_of_name (by decide)) (Nat.le_of_ble_eq_true rfl) ?_
  unfold f_J19_equals
  change AW ρI γ l ck_J19_equals g 0 [(0, .ref x0), (1, .ref x1)] [] g _
  refine r_aload_n (pc := 0) dJ19_equals_0 rfl 0 rfl ?_
  refine r_alen (pc := 1) dJ19_equals_1 (fun v1 => ?_)
  refine r_aload_n (pc := 2) dJ19_equals_2 rfl 1 rfl ?_
  refine r_alen (pc := 3) dJ19_equals_3 (fun v2 => ?_)
  refine r_icmp_ne (tgt := 34) (pc := 4) dJ19_equals_4 (by decide) ?_ ?_
  · skip
    refine r_iconst (v := (0 : Int32)) (pc := 7) dJ19_equals_7 (by decide) ?_
    refine r_istore_n (pc := 8) dJ19_equals_8 rfl (Nat.le_of_ble_eq_true rfl) rfl ?_
    refine AW_sub [1, 2, 0] rfl ?_
    refine f_J19_equals_L9_w γ l hl _ x0 x1 FU (0 : Int32) g
  · skip
    refine r_iconst (v := (0 : Int32)) (pc := 34) dJ19_equals_34 (by decide) ?_
    exact r_zret (ty := .boolean) (pc := 35) dJ19_equals_35 rfl
abbrev ck_J7_equals : CK := ("java/lang/String", prog_48_method_66_code, 3, (some .boolean), "equals", [], 2)
def f_J7_equals (γ : GP) (x0 : Nat) (x1 : Nat) (g : AH) : Option (Int32 × AH) := (if x0 = x1 then (rtN .boolean (1 : Int32) g) else gInst g [7] [] x1 fun v1 => (if v1 = 0 then (rtN .boolean (0 : Int32) g) else gC g [7] x1 (jn (fun (g2 : AH) => gR g2 x0 26 fun v4 => gR g2 x1 26 fun v5 => bI (f_J19_equals γ v4 v5 g2) fun v7 g6 => (if v7 = 0 then (rtN .boolean (0 : Int32) g6) else (rtN .boolean (1 : Int32) g6))) (fun (j3 : AH → Option (Int32 × AH)) => (if (1 : Int32) = 0 then j3 g else gI g x0 27 fun v8 => gI g x1 27 fun v9 => (if v8 = v9 then j3 g else (rtN .boolean (0 : Int32) g)))))))
theorem t_J7_equals (γ : GP) (l : Launch) (hl : l.stackTraces = false) (x0 : Nat) (x1 : Nat) (g : AH) : TrM ρI γ l ⟨"java/lang/String", "equals", "(Ljava/lang/Object;)Z"⟩ (ws_ ⟨"java/lang/String", "equals", "(Ljava/lang/Object;)Z"⟩ prog_48_method_66_code 3 (some .boolean)) 2 [.ref x0, .ref x1] g (f_J7_equals γ x0 x1 g) := by
  refine TrM_of (plainFor_of_name (by decide)) (Nat.le_of_ble_eq_true rfl) ?_
  unfold f_J7_equals
  change AW ρI γ l ck_J7_equals g 0 [(0, .ref x0), (1, .ref x1)] [] g _
  refine r_aload_n (pc := 0) dJ7_equals_0 rfl 0 rfl ?_
  refine r_aload_n (pc := 1) dJ7_equals_1 rfl 1 rfl ?_
  refine r_acmp_ne (tgt := 7) (pc := 2) dJ7_equals_2 (by decide) ?_ ?_
  · skip
    refine r_iconst (v := (1 : Int32)) (pc := 5) dJ7_equals_5 (by decide) ?_
    exact r_zret (ty := .boolean) (pc := 6) dJ7_equals_6 rfl
  · skip
    refine r_aload_n (pc := 7) dJ7_equals_7 rfl 1 rfl ?_
    refine r_inst (L1 := [7]) (L0 := []) (pc := 8) dJ7_equals_8 q1603 (List.forall_mem_cons.mpr ⟨⟨by decide, by decide, Or.inl rfl⟩, (fun _ h => absurd h List.not_mem_nil)⟩) ((fun _ h => absurd h List.not_mem_nil)) (fun v1 => ?_)
    refine r_if_eq (tgt := 54) (pc := 11) dJ7_equals_11 (by decide) ?_ ?_
    · skip
      refine r_iconst (v := (0 : Int32)) (pc := 54) dJ7_equals_54 (by decide) ?_
      exact r_zret (ty := .boolean) (pc := 55) dJ7_equals_55 rfl
    · skip
      refine r_aload_n (pc := 14) dJ7_equals_14 rfl 1 rfl ?_
      refine r_cast_ (L := [7]) (pc := 15) dJ7_equals_15 q1603 (List.forall_mem_cons.mpr ⟨⟨by decide, by decide, Or.inl rfl⟩, (fun _ h => absurd h List.not_mem_nil)⟩) ?_
      refine r_astore_n (pc := 18) dJ7_equals_18 rfl (Nat.le_of_ble_eq_true rfl) rfl ?_
      refine r_getsI (v := (1 : Int32)) (pc := 19) dJ7_equals_19 q546 (List.mem_of_getElem? (i := 0) rfl) rfl ?_
      refine AW_jn (P := fun (j : AH → Option (Int32 × AH)) => ∀ (g2 : AH), AW ρI γ l ck_J7_equals g 36 [(0, .ref x0), (2, .ref x1)] [] g2 (j g2)) (fun g2 => ?_) (fun j3 h_j3 => ?_)
      · skip
        refine r_aload_n (pc := 36) dJ7_equals_36 rfl 0 rfl ?_
        refine r_getR (f := 26) (pc := 37) dJ7_equals_37 q696 (Or.inl rfl) rfl (fun v4 => ?_)
        refine r_aload_n (pc := 40) dJ7_equals_40 rfl 1 rfl ?_
        refine r_getR (f := 26) (pc := 41) dJ7_equals_41 q696 (Or.inl rfl) rfl (fun v5 => ?_)
        refine r_cI (pc := 44) (rest := []) (run_S (n := 2) (As := [.ref v4, .ref v5]) (rest := []) (t_J19_equals γ l hl v4 v5 g2) dJ7_equals_44 q2348 q2349 q133 q2350 (by decide +kernel) rfl (Nat.le_of_ble_eq_true rfl) (Nat.le_of_ble_eq_true rfl) rfl (Nat.le_of_ble_eq_true rfl)) (fun v7 g6 => ?_)
        refine r_if_eq (tgt := 54) (pc := 47) dJ7_equals_47 (by decide) ?_ ?_
        · skip
          refine r_iconst (v := (0 : Int32)) (pc := 54) dJ7_equals_54 (by decide) ?_
          exact r_zret (ty := .boolean) (pc := 55) dJ7_equals_55 rfl
        · skip
          refine r_iconst (v := (1 : Int32)) (pc := 50) dJ7_equals_50 (by decide) ?_
          refine r_goto (tgt := 55) (pc := 51) dJ7_equals_51 (by decide) ?_
          exact r_zret (ty := .boolean) (pc := 55) dJ7_equals_55 rfl
      · skip
        refine r_if_eq (tgt := 36) (pc := 22) dJ7_equals_22 (by decide) ?_ ?_
        · skip
          refine AW_sub [1, 0] rfl ?_
          exact h_j3 g
        · skip
          refine r_aload_n (pc := 25) dJ7_equals_25 rfl 1 rfl ?_
          refine r_getI (f := 27) (pc := 26) dJ7_equals_26 q697 (Or.inl rfl) rfl (fun v8 => ?_)
          refine r_aload_n (pc := 29) dJ7_equals_29 rfl 0 rfl ?_
          refine r_getI (f := 27) (pc := 30) dJ7_equals_30 q697 (Or.inl rfl) rfl (fun v9 => ?_)
          refine r_icmp_ne (tgt := 54) (pc := 33) dJ7_equals_33 (by decide) ?_ ?_
          · skip
            refine AW_sub [1, 0] rfl ?_
            exact h_j3 g
          · skip
            refine r_iconst (v := (0 : Int32)) (pc := 54) dJ7_equals_54 (by decide) ?_
            exact r_zret (ty := .boolean) (pc := 55) dJ7_equals_55 rfl
abbrev ck_J27_isEmpty : CK := ("java/util/AbstractMap", prog_63_method_3_code, 1, (some .boolean), "isEmpty", [], 2)
def f_J27_isEmpty (γ : GP) (x0 : Nat) (g : AH) : Option (Int32 × AH) := bI ((if hK g x0 = 15 then f_J28_size γ x0 g else none)) fun v2 g1 => (if v2 = 0 then (rtN .boolean (1 : Int32) g1) else (rtN .boolean (0 : Int32) g1))
theorem t_J27_isEmpty (γ : GP) (l : Launch) (hl : l.stackTraces = false) (x0 : Nat) (g : AH) : TrM ρI γ l ⟨"java/util/AbstractMap", "isEmpty", "()Z"⟩ (ws_ ⟨"java/util/AbstractMap", "isEmpty", "()Z"⟩ prog_63_method_3_code 1 (some .boolean)) 2 [.ref x0] g (f_J27_isEmpty γ x0 g) := by
  refine TrM_of (plainFor_of_name (by decide)) (Nat.le_of_ble_eq_true rfl) ?_
  unfold f_J27_isEmpty
  change AW ρI γ l ck_J27_isEmpty g 0 [(0, .ref x0)] [] g _
  refine r_aload_n (pc := 0) dJ27_isEmpty_0 rfl 0 rfl ?_
  refine r_cI (pc := 1) (rest := []) (RunOK_chk (fun h => run_A (n := 0) (c9 := 15) (As := []) (rest := []) (owner := "java/util/AbstractMap") (t_J28_size γ l hl x0 g) dJ27_isEmpty_1 q2368 q2370 q2371 q1301 q143 q1303 mv2372 ⟨by decide, by decide, by decide +kernel⟩ rfl h ⟨by decide, by decide⟩ (Nat.le_of_ble_eq_true rfl) (Nat.le_of_ble_eq_true rfl) rfl (Nat.le_of_ble_eq_true rfl))) (fun v2 g1 => ?_)
  refine r_if_ne (tgt := 11) (pc := 4) dJ27_isEmpty_4 (by decide) ?_ ?_
  · skip
    refine r_iconst (v := (1 : Int32)) (pc := 7) dJ27_isEmpty_7 (by decide) ?_
    refine r_goto (tgt := 12) (pc := 8) dJ27_isEmpty_8 (by decide) ?_
    exact r_zret (ty := .boolean) (pc := 12) dJ27_isEmpty_12 rfl
  · skip
    refine r_iconst (v := (0 : Int32)) (pc := 11) dJ27_isEmpty_11 (by decide) ?_
    exact r_zret (ty := .boolean) (pc := 12) dJ27_isEmpty_12 rfl
abbrev ck_J44_init : CK := ("java/lang/Record", prog_46_method_1_code, 1, none, "<init>", [], 2)
def f_J44_init (γ : GP) (x0 : Nat) (g : AH) : Option (AH) := (if x0 ≠ 0 then (some g) else none)
theorem t_J44_init (γ : GP) (l : Launch) (hl : l.stackTraces = false) (x0 : Nat) (g : AH) : TrM ρV γ l ⟨"java/lang/Record", "<init>", "()V"⟩ (ws_ ⟨"java/lang/Record", "<init>", "()V"⟩ prog_46_method_1_code 1 none) 2 [.ref x0] g (f_J44_init γ x0 g) := by
  refine TrM_of (plainFor_of_name (by decide)) (Nat.le_of_ble_eq_true rfl) ?_
  unfold f_J44_init
  change AW ρV γ l ck_J44_init g 0 [(0, .ref x0)] [] g _
  refine r_aload_n (pc := 0) dJ44_init_0 rfl 0 rfl ?_
  refine r_objInit (pc := 1) dJ44_init_1 q2419 q185 q186 (by decide) (Nat.le_of_ble_eq_true rfl) ?_
  exact r_vret (pc := 4) dJ44_init_4 rfl
abbrev ck_J4_add : CK := ("java/util/LinkedList", prog_74_method_17_code, 2, (some .boolean), "add", [], 4)
def f_J4_add (γ : GP) (x0 : Nat) (x1 : Nat) (g : AH) : Option (Int32 × AH) := bV ((if hK g x0 = 5 then f_J4_linkLast γ x0 x1 g else none)) fun g1 => (rtN .boolean (1 : Int32) g1)
theorem t_J4_add (γ : GP) (l : Launch) (hl : l.stackTraces = false) (x0 : Nat) (x1 : Nat) (g : AH) : TrM ρI γ l ⟨"java/util/LinkedList", "add", "(Ljava/lang/Object;)Z"⟩ (ws_ ⟨"java/util/LinkedList", "add", "(Ljava/lang/Object;)Z"⟩ prog_74_method_17_code 2 (some .boolean)) 4 [.ref x0, .ref x1] g (f_J4_add γ x0 x1 g) := by
  refine TrM_of (plainFor_of_name (by decide)) (Nat.le_of_ble_eq_true rfl) ?_
  unfold f_J4_add
  change AW ρI γ l ck_J4_add g 0 [(0, .ref x0), (1, .ref x1)] [] g _
  refine r_aload_n (pc := 0) dJ4_add_0 rfl 0 rfl ?_
  refine r_aload_n (pc := 1) dJ4_add_1 rfl 1 rfl ?_
  refine r_cV (pc := 2) (rest := []) (RunOK_chk (fun h => run_V (n := 1) (c9 := 5) (As := [.ref x1]) (rest := []) (t_J4_linkLast γ l hl x0 x1 g) dJ4_add_2 q1401 q1402 q1403 q116 q1404 (by decide +kernel) rfl h ⟨rfl, by decide, by decide⟩ (Nat.le_of_ble_eq_true rfl) (Nat.le_of_ble_eq_true rfl) rfl (Nat.le_of_ble_eq_true rfl))) (fun g1 => ?_)
  refine r_iconst (v := (1 : Int32)) (pc := 5) dJ4_add_5 (by decide) ?_
  exact r_zret (ty := .boolean) (pc := 6) dJ4_add_6 rfl
abbrev ck_J24_init : CK := ("java/util/LinkedList$ListItr", prog_75_method_1_code, 3, none, "<init>", [], 2)
def f_J24_init (γ : GP) (x0 : Nat) (x1 : Nat) (x2 : Int32) (g : AH) : Option (AH) := pR γ g x0 66 x1 fun g1 => (if x0 ≠ 0 then gR g1 x0 66 fun v2 => gI g1 v2 14 fun v3 => pI γ g1 x0 65 v3 fun g4 => gI g4 x1 19 fun v5 => (if x2 = v5 then pR γ g4 x0 63 0 fun g6 => pI γ g6 x0 64 x2 fun g7 => (some g7) else bR ((if hK g4 x1 = 5 then f_J4_node γ x1 x2 g4 else none)) fun v9 g8 => pR γ g8 x0 63 v9 fun g10 => pI γ g10 x0 64 x2 fun g11 => (some g11)) else none)
theorem t_J24_init (γ : GP) (l : Launch) (hl : l.stackTraces = false) (x0 : Nat) (x1 : Nat) (x2 : Int32) (g : AH) : TrM ρV γ l ⟨"java/util/LinkedList$ListItr", "<init>", "(Ljava/util/LinkedList;I)V"⟩ (ws_ ⟨"java/util/LinkedList$ListItr", "<init>", "(Ljava/util/LinkedList;I)V"⟩ prog_75_method_1_code 3 none) 2 [.ref x0, .ref x1, .int x2] g (f_J24_init γ x0 x1 x2 g) := by
  refine TrM_of (plainFor_of_name (by decide)) (Nat.le_of_ble_eq_true rfl) ?_
  unfold f_J24_init
  change AW ρV γ l ck_J24_init g 0 [(0, .ref x0), (1, .ref x1), (2, .int x2)] [] g _
  refine r_aload_n (pc := 0) dJ24_init_0 rfl 0 rfl ?_
  refine r_aload_n (pc := 1) dJ24_init_1 rfl 1 rfl ?_
  refine r_putR (f := 66) (pc := 2) dJ24_init_2 q767 (Or.inl rfl) (Or.inr ⟨rfl, rfl⟩) rfl (fun g1 => ?_)
  refine r_aload_n (pc := 5) dJ24_init_5 rfl 0 rfl ?_
  refine r_objInit (pc := 6) dJ24_init_6 q758 q185 q186 (by decide) (Nat.le_of_ble_eq_true rfl) ?_
  refine r_aload_n (pc := 9) dJ24_init_9 rfl 0 rfl ?_
  refine r_aload_n (pc := 10) dJ24_init_10 rfl 0 rfl ?_
  refine r_getR (f := 66) (pc := 11) dJ24_init_11 q767 (Or.inl rfl) rfl (fun v2 => ?_)
  refine r_getI (f := 14) (pc := 14) dJ24_init_14 q212 (Or.inr q213) rfl (fun v3 => ?_)
  refine r_putI (f := 65) (pc := 17) dJ24_init_17 q766 (Or.inl rfl) (Or.inl rfl) rfl (fun g4 => ?_)
  refine r_aload_n (pc := 20) dJ24_init_20 rfl 0 rfl ?_
  refine r_iload_n (pc := 21) dJ24_init_21 rfl 2 rfl ?_
  refine r_aload_n (pc := 22) dJ24_init_22 rfl 1 rfl ?_
  refine r_getI (f := 19) (pc := 23) dJ24_init_23 q254 (Or.inl rfl) rfl (fun v5 => ?_)
  refine r_icmp_ne (tgt := 33) (pc := 26) dJ24_init_26 (by decide) ?_ ?_
  · skip
    refine r_null (pc := 29) dJ24_init_29 ?_
    refine r_goto (tgt := 38) (pc := 30) dJ24_init_30 (by decide) ?_
    refine r_putR (f := 63) (pc := 38) dJ24_init_38 q764 (Or.inl rfl) (Or.inl rfl) rfl (fun g6 => ?_)
    refine r_aload_n (pc := 41) dJ24_init_41 rfl 0 rfl ?_
    refine r_iload_n (pc := 42) dJ24_init_42 rfl 2 rfl ?_
    refine r_putI (f := 64) (pc := 43) dJ24_init_43 q765 (Or.inl rfl) (Or.inl rfl) rfl (fun g7 => ?_)
    exact r_vret (pc := 46) dJ24_init_46 rfl
  · skip
    refine r_aload_n (pc := 33) dJ24_init_33 rfl 1 rfl ?_
    refine r_iload_n (pc := 34) dJ24_init_34 rfl 2 rfl ?_
    refine r_cR (pc := 35) (rest := [.ref x0]) (RunOK_chk (fun h => run_V (n := 1) (c9 := 5) (As := [.int x2]) (rest := [.ref x0]) (t_J4_node γ l hl x1 x2 g4) dJ24_init_35 q759 q760 q761 q116 q762 (by decide +kernel) rfl h ⟨rfl, by decide, by decide⟩ (Nat.le_of_ble_eq_true rfl) (Nat.le_of_ble_eq_true rfl) rfl (Nat.le_of_ble_eq_true rfl))) (fun v9 g8 => ?_)
    refine r_putR (f := 63) (pc := 38) dJ24_init_38 q764 (Or.inl rfl) (Or.inl rfl) rfl (fun g10 => ?_)
    refine r_aload_n (pc := 41) dJ24_init_41 rfl 0 rfl ?_
    refine r_iload_n (pc := 42) dJ24_init_42 rfl 2 rfl ?_
    refine r_putI (f := 64) (pc := 43) dJ24_init_43 q765 (Or.inl rfl) (Or.inl rfl) rfl (fun g11 => ?_)
    exact r_vret (pc := 46) dJ24_init_46 rfl
abbrev ck_J4_listIterator : CK := ("java/util/LinkedList", prog_74_method_49_code, 2, (some (.object "java/util/ListIterator")), "listIterator", [], 3)
def f_J4_listIterator (γ : GP) (x0 : Nat) (x1 : Int32) (g : AH) : Option (Nat × AH) := bV ((if hK g x0 = 5 then f_J4_checkPositionIndex γ x0 x1 g else none)) fun g1 => mO g1 13 fun q2 g3 => bV ((if q2 ≠ 0 then f_J24_init γ q2 x0 x1 g3 else none)) fun g4 => (some (q2, g4))
theorem t_J4_listIterator (γ : GP) (l : Launch) (hl : l.stackTraces = false) (x0 : Nat) (x1 : Int32) (g : AH) : TrM ρR γ l ⟨"java/util/LinkedList", "listIterator", "(I)Ljava/util/ListIterator;"⟩ (ws_ ⟨"java/util/LinkedList", "listIterator", "(I)Ljava/util/ListIterator;"⟩ prog_74_method_49_code 2 (some (.object "java/util/ListIterator"))) 3 [.ref x0, .int x1] g (f_J4_listIterator γ x0 x1 g) := by
  refine TrM_of (plainFor_of_name (by decide)) (Nat.le_of_ble_eq_true rfl) ?_
  unfold f_J4_listIterator
  change AW ρR γ l ck_J4_listIterator g 0 [(0, .ref x0), (1, .int x1)] [] g _
  refine r_aload_n (pc := 0) dJ4_listIterator_0 rfl 0 rfl ?_
  refine r_iload_n (pc := 1) dJ4_listIterator_1 rfl 1 rfl ?_
  refine r_cV (pc := 2) (rest := []) (RunOK_chk (fun h => run_V (n := 1) (c9 := 5) (As := [.int x1]) (rest := []) (t_J4_checkPositionIndex γ l hl x0 x1 g) dJ4_listIterator_2 q732 q734 qs3 q116 q735 (by decide +kernel) rfl h ⟨rfl, by decide, by decide⟩ (Nat.le_of_ble_eq_true rfl) (Nat.le_of_ble_eq_true rfl) rfl (Nat.le_of_ble_eq_true rfl))) (fun g1 => ?_)
  refine r_new (c := 13) (pc := 5) dJ4_listIterator_5 q753 (by decide) (by decide) (fun q2 g3 => ?_)
  refine r_dup (pc := 8) dJ4_listIterator_8 rfl ?_
  refine r_aload_n (pc := 9) dJ4_listIterator_9 rfl 0 rfl ?_
  refine r_iload_n (pc := 10) dJ4_listIterator_10 rfl 1 rfl ?_
  refine r_cV (pc := 11) (rest := [.ref q2]) (RunOK_chk (fun h => run_I (n := 2) (As := [.ref x0, .int x1]) (rest := [.ref q2]) (t_J24_init γ l hl q2 x0 x1 g3) dJ4_listIterator_11 q755 q756 q139 q757 rfl (by decide +kernel) rfl h (Nat.le_of_ble_eq_true rfl) (Nat.le_of_ble_eq_true rfl) rfl (Nat.le_of_ble_eq_true rfl))) (fun g4 => ?_)
  exact r_aret (pc := 14) dJ4_listIterator_14 rfl (by first | exact Or.inl ⟨_, rfl⟩ | exact Or.inr ⟨_, rfl⟩)
abbrev ck_J1_listIterator : CK := ("java/util/AbstractList", prog_60_method_12_code, 1, (some (.object "java/util/ListIterator")), "listIterator", [], 4)
def f_J1_listIterator (γ : GP) (x0 : Nat) (g : AH) : Option (Nat × AH) := bR ((if hK g x0 = 5 then f_J4_listIterator γ x0 (0 : Int32) g else none)) fun v2 g1 => (some (v2, g1))
theorem t_J1_listIterator (γ : GP) (l : Launch) (hl : l.stackTraces = false) (x0 : Nat) (g : AH) : TrM ρR γ l ⟨"java/util/AbstractList", "listIterator", "()Ljava/util/ListIterator;"⟩ (ws_ ⟨"java/util/AbstractList", "listIterator", "()Ljava/util/ListIterator;"⟩ prog_60_method_12_code 1 (some (.object "java/util/ListIterator"))) 4 [.ref x0] g (f_J1_listIterator γ x0 g) := by
  refine TrM_of (plainFor_of_name (by decide)) (Nat.le_of_ble_eq_true rfl) ?_
  unfold f_J1_listIterator
  change AW ρR γ l ck_J1_listIterator g 0 [(0, .ref x0)] [] g _
  refine r_aload_n (pc := 0) dJ1_listIterator_0 rfl 0 rfl ?_
  refine r_iconst (v := (0 : Int32)) (pc := 1) dJ1_listIterator_1 (by decide) ?_
  refine r_cR (pc := 2) (rest := []) (RunOK_chk (fun h => run_A (n := 1) (c9 := 5) (As := [.int (0 : Int32)]) (rest := []) (owner := "java/util/AbstractList") (t_J4_listIterator γ l hl x0 (0 : Int32) g) dJ1_listIterator_2 q396 q398 q729 q730 q116 q731 mv779 ⟨by decide, by decide, by decide +kernel⟩ rfl h ⟨by decide, by decide⟩ (Nat.le_of_ble_eq_true rfl) (Nat.le_of_ble_eq_true rfl) rfl (Nat.le_of_ble_eq_true rfl))) (fun v2 g1 => ?_)
  exact r_aret (pc := 5) dJ1_listIterator_5 rfl (by first | exact Or.inl ⟨_, rfl⟩ | exact Or.inr ⟨_, rfl⟩)
abbrev ck_J3_iterator : CK := ("java/util/AbstractSequentialList", prog_64_method_7_code, 1, (some (.object "java/util/Iterator")), "iterator", [], 5)
def f_J3_iterator (γ : GP) (x0 : Nat) (g : AH) : Option (Nat × AH) := bR ((if hK g x0 = 5 then f_J1_listIterator γ x0 g else none)) fun v2 g1 => (some (v2, g1))
theorem t_J3_iterator (γ : GP) (l : Launch) (hl : l.stackTraces = false) (x0 : Nat) (g : AH) : TrM ρR γ l ⟨"java/util/AbstractSequentialList", "iterator", "()Ljava/util/Iterator;"⟩ (ws_ ⟨"java/util/AbstractSequentialList", "iterator", "()Ljava/util/Iterator;"⟩ prog_64_method_7_code 1 (some (.object "java/util/Iterator"))) 5 [.ref x0] g (f_J3_iterator γ x0 g) := by
  refine TrM_of (plainFor_of_name (by decide)) (Nat.le_of_ble_eq_true rfl) ?_
  unfold f_J3_iterator
  change AW ρR γ l ck_J3_iterator g 0 [(0, .ref x0)] [] g _
  refine r_aload_n (pc := 0) dJ3_iterator_0 rfl 0 rfl ?_
  refine r_cR (pc := 1) (rest := []) (RunOK_chk (fun h => run_U (n := 0) (c9 := 5) (As := []) (rest := []) (owner := "java/util/AbstractList") (t_J1_listIterator γ l hl x0 g) dJ3_iterator_1 q390 q391 q393 q394 q111 q395 rfl ⟨by decide, by decide, by decide +kernel⟩ rfl h ⟨by decide, by decide⟩ (Nat.le_of_ble_eq_true rfl) (Nat.le_of_ble_eq_true rfl) rfl (Nat.le_of_ble_eq_true rfl))) (fun v2 g1 => ?_)
  exact r_aret (pc := 4) dJ3_iterator_4 rfl (by first | exact Or.inl ⟨_, rfl⟩ | exact Or.inr ⟨_, rfl⟩)
abbrev ck_J4_clear : CK := ("java/util/LinkedList", prog_74_method_21_code, 3, none, "clear", [], 1)
def f_J4_clear_L5 (γ : GP) (x0 : Nat) (K34 : AH → Option (AH)) : Nat → Nat → AH → Option (AH)
  | 0, _, _ => none
  | n + 1, x1, g => (if x1 = 0 then K34 g else gR g x1 85 fun v2 => pR γ g x1 84 0 fun g3 => pR γ g3 x1 85 0 fun g4 => pR γ g4 x1 86 0 fun g5 => f_J4_clear_L5 γ x0 K34 n v2 g5)
def f_J4_clear (γ : GP) (x0 : Nat) (g : AH) : Option (AH) := gR g x0 20 fun v1 => f_J4_clear_L5 γ x0 (fun (g6 : AH) => pR γ g6 x0 21 0 fun g7 => pR γ g7 x0 20 0 fun g8 => pI γ g8 x0 19 (0 : Int32) fun g9 => gI g9 x0 14 fun v10 => pI γ g9 x0 14 (v10 + (1 : Int32)) fun g11 => (some g11)) FU v1 g
theorem f_J4_clear_L5_w (γ : GP) (l : Launch) (hl : l.stackTraces = false) (G0 : AH) (x0 : Nat) (K34 : AH → Option (AH)) (h_K34 : ∀ (g : AH), AW ρV γ l ck_J4_clear G0 34 [(0, .ref x0)] [] g (K34 g)) : ∀ (n : Nat) (x1 : Nat) (g : AH), AW ρV γ l ck_J4_clear G0 5 [(0, .ref x0), (1, .ref x1)] [] g (f_J4_clear_L5 γ x0 K34 n x1 g) := by
  intro n
  induction n with
  | zero => intro x1 g; exact AW_none
  | succ n ih =>
    intro x1 g
    unfold f_J4_clear_L5
    refine r_aload_n (pc := 5) dJ4_clear_5 rfl 1 rfl ?_
    refine r_ifnull (tgt := 34) (pc := 6) dJ4_clear_6 (by decide) ?_ ?_
    · skip
      refine AW_sub [0] rfl ?_
      exact h_K34 g
    · skip
      refine r_aload_n (pc := 9) dJ4_clear_9 rfl 1 rfl ?_
      refine r_getR (f := 85) (pc := 10) dJ4_clear_10 q1368 (Or.inl rfl) rfl (fun v2 => ?_)
      refine r_astore_n (pc := 13) dJ4_clear_13 rfl (Nat.le_of_ble_eq_true rfl) rfl ?_
      refine r_aload_n (pc := 14) dJ4_clear_14 rfl 2 rfl ?_
      refine r_null (pc := 15) dJ4_clear_15 ?_
      refine r_putR (f := 84) (pc := 16) dJ4_clear_16 q1365 (Or.inl rfl) (Or.inl rfl) rfl (fun g3 => ?_)
      refine r_aload_n (pc := 19) dJ4_clear_19 rfl 2 rfl ?_
      refine r_null (pc := 20) dJ4_clear_20 ?_
      refine r_putR (f := 85) (pc := 21) dJ4_clear_21 q1368 (Or.inl rfl) (Or.inl rfl) rfl (fun g4 => ?_)
      refine r_aload_n (pc := 24) dJ4_clear_24 rfl 2 rfl ?_
      refine r_null (pc := 25) dJ4_clear_25 ?_
      refine r_putR (f := 86) (pc := 26) dJ4_clear_26 q1370 (Or.inl rfl) (Or.inl rfl) rfl (fun g5 => ?_)
      refine r_aload_n (pc := 29) dJ4_clear_29 rfl 0 rfl ?_
      refine r_astore_n (pc := 30) dJ4_clear_30 rfl (Nat.le_of_ble_eq_true rfl) rfl ?_
      refine r_goto (tgt := 5) (pc := 31) dJ4_clear_31 (by decide) ?_
      refine AW_sub [2, 0] rfl ?_
      exact ih v2 g5
theorem t_J4_clear (γ : GP) (l : Launch) (hl : l.stackTraces = false) (x0 : Nat) (g : AH) : TrM ρV γ l ⟨"java/util/LinkedList", "clear", "()V"⟩ (ws_ ⟨"java/util/LinkedList", "clear", "()V"⟩ prog_74_method_21_code 3 none) 1 [.ref x0] g (f_J4_clear γ x0 g) := by
  refine TrM_of (plainFor_of_name (by decide)) (Nat.le_of_ble_eq_true rfl) ?_
  unfold f_J4_clear
  change AW ρV γ l ck_J4_clear g 0 [(0, .ref x0)] [] g _
  refine r_aload_n (pc := 0) dJ4_clear_0 rfl 0 rfl ?_
  refine r_getR (f := 20) (pc := 1) dJ4_clear_1 q255 (Or.inl rfl) rfl (fun v1 => ?_)
  refine r_astore_n (pc := 4) dJ4_clear_4 rfl (Nat.le_of_ble_eq_true rfl) rfl ?_
  refine AW_sub [1, 0] rfl ?_
  refine f_J4_clear_L5_w γ l hl _ x0 _ ?_ FU v1 g
  · intro g6
    refine r_aload_n (pc := 34) dJ4_clear_34 rfl 0 rfl ?_
    refine r_aload_n (pc := 35) dJ4_clear_35 rfl 0 rfl ?_
    refine r_null (pc := 36) dJ4_clear_36 ?_
    refine r_dup_x1 (pc := 37) dJ4_clear_37 rfl rfl ?_
    refine r_putR (f := 21) (pc := 38) dJ4_clear_38 q256 (Or.inl rfl) (Or.inl rfl) rfl (fun g7 => ?_)
    refine r_putR (f := 20) (pc := 41) dJ4_clear_41 q255 (Or.inl rfl) (Or.inl rfl) rfl (fun g8 => ?_)
    refine r_aload_n (pc := 44) dJ4_clear_44 rfl 0 rfl ?_
    refine r_iconst (v := (0 : Int32)) (pc := 45) dJ4_clear_45 (by decide) ?_
    refine r_putI (f := 19) (pc := 46) dJ4_clear_46 q253 (Or.inl rfl) (Or.inl rfl) rfl (fun g9 => ?_)
    refine r_aload_n (pc := 49) dJ4_clear_49 rfl 0 rfl ?_
    refine r_dup (pc := 50) dJ4_clear_50 rfl ?_
    refine r_getI (f := 14) (pc := 51) dJ4_clear_51 q217 (Or.inr q213) rfl (fun v10 => ?_)
    refine r_iconst (v := (1 : Int32)) (pc := 54) dJ4_clear_54 (by decide) ?_
    refine r_iadd (pc := 55) dJ4_clear_55 ?_
    refine r_putI (f := 14) (pc := 56) dJ4_clear_56 q217 (Or.inr q213) (Or.inl rfl) rfl (fun g11 => ?_)
    exact r_vret (pc := 59) dJ4_clear_59 rfl
abbrev ck_J4_linkBefore : CK := ("java/util/LinkedList", prog_74_method_5_code, 5, none, "linkBefore", [], 3)
def f_J4_linkBefore (γ : GP) (x0 : Nat) (x1 : Nat) (x2 : Nat) (g : AH) : Option (AH) := gR g x2 86 fun v1 => mO g 19 fun q2 g3 => bV ((if q2 ≠ 0 then f_J33_init γ q2 v1 x1 x2 g3 else none)) fun g4 => pR γ g4 x2 86 q2 fun g5 => jn (fun (g6 : AH) => gI g6 x0 19 fun v8 => pI γ g6 x0 19 (v8 + (1 : Int32)) fun g9 => gI g9 x0 14 fun v10 => pI γ g9 x0 14 (v10 + (1 : Int32)) fun g11 => (some g11)) (fun (j7 : AH → Option (AH)) => (if v1 = 0 then pR γ g5 x0 20 q2 fun g12 => j7 g12 else pR γ g5 v1 85 q2 fun g13 => j7 g13))
theorem t_J4_linkBefore (γ : GP) (l : Launch) (hl : l.stackTraces = false) (x0 : Nat) (x1 : Nat) (x2 : Nat) (g : AH) : TrM ρV γ l ⟨"java/util/LinkedList", "linkBefore", "(Ljava/lang/Object;Ljava/util/LinkedList$Node;)V"⟩ (ws_ ⟨"java/util/LinkedList", "linkBefore", "(Ljava/lang/Object;Ljava/util/LinkedList$Node;)V"⟩ prog_74_method_5_code 5 none) 3 [.ref x0, .ref x1, .ref x2] g (f_J4_linkBefore γ x0 x1 x2 g) := by
  refine TrM_of (plainFor_of_name (by decide)) (Nat.le_of_ble_eq_true rfl) ?_
  unfold f_J4_linkBefore
  change AW ρV γ l ck_J4_linkBefore g 0 [(0, .ref x0), (1, .ref x1), (2, .ref x2)] [] g _
  refine r_aload_n (pc := 0) dJ4_linkBefore_0 rfl 2 rfl ?_
  refine r_getR (f := 86) (pc := 1) dJ4_linkBefore_1 q1370 (Or.inl rfl) rfl (fun v1 => ?_)
  refine r_astore_n (pc := 4) dJ4_linkBefore_4 rfl (Nat.le_of_ble_eq_true rfl) rfl ?_
  refine r_new (c := 19) (pc := 5) dJ4_linkBefore_5 q1357 (by decide) (by decide) (fun q2 g3 => ?_)
  refine r_dup (pc := 8) dJ4_linkBefore_8 rfl ?_
  refine r_aload_n (pc := 9) dJ4_linkBefore_9 rfl 0 rfl ?_
  refine r_aload_n (pc := 10) dJ4_linkBefore_10 rfl 2 rfl ?_
  refine r_aload_n (pc := 11) dJ4_linkBefore_11 rfl 3 rfl ?_
  refine r_cV (pc := 12) (rest := [.ref q2]) (RunOK_chk (fun h => run_I (n := 3) (As := [.ref v1, .ref x1, .ref x2]) (rest := [.ref q2]) (t_J33_init γ l hl q2 v1 x1 x2 g3) dJ4_linkBefore_12 q1359 q1360 q149 q1361 rfl (by decide +kernel) rfl h (Nat.le_of_ble_eq_true rfl) (Nat.le_of_ble_eq_true rfl) rfl (Nat.le_of_ble_eq_true rfl))) (fun g4 => ?_)
  refine r_astore (pc := 15) dJ4_linkBefore_15 (Nat.le_of_ble_eq_true rfl) rfl ?_
  refine r_aload_n (pc := 17) dJ4_linkBefore_17 rfl 4 rfl ?_
  refine r_aload (pc := 18) dJ4_linkBefore_18 0 rfl ?_
  refine r_putR (f := 86) (pc := 20) dJ4_linkBefore_20 q1370 (Or.inl rfl) (Or.inl rfl) rfl (fun g5 => ?_)
  refine r_aload_n (pc := 23) dJ4_linkBefore_23 rfl 1 rfl ?_
  refine AW_jn (P := fun (j : AH → Option (AH)) => ∀ (g6 : AH), AW ρV γ l ck_J4_linkBefore g 42 [(0, .ref x0)] [] g6 (j g6)) (fun g6 => ?_) (fun j7 h_j7 => ?_)
  · skip
    refine r_aload_n (pc := 42) dJ4_linkBefore_42 rfl 0 rfl ?_
    refine r_dup (pc := 43) dJ4_linkBefore_43 rfl ?_
    refine r_getI (f := 19) (pc := 44) dJ4_linkBefore_44 q253 (Or.inl rfl) rfl (fun v8 => ?_)
    refine r_iconst (v := (1 : Int32)) (pc := 47) dJ4_linkBefore_47 (by decide) ?_
    refine r_iadd (pc := 48) dJ4_linkBefore_48 ?_
    refine r_putI (f := 19) (pc := 49) dJ4_linkBefore_49 q253 (Or.inl rfl) (Or.inl rfl) rfl (fun g9 => ?_)
    refine r_aload_n (pc := 52) dJ4_linkBefore_52 rfl 0 rfl ?_
    refine r_dup (pc := 53) dJ4_linkBefore_53 rfl ?_
    refine r_getI (f := 14) (pc := 54) dJ4_linkBefore_54 q217 (Or.inr q213) rfl (fun v10 => ?_)
    refine r_iconst (v := (1 : Int32)) (pc := 57) dJ4_linkBefore_57 (by decide) ?_
    refine r_iadd (pc := 58) dJ4_linkBefore_58 ?_
    refine r_putI (f := 14) (pc := 59) dJ4_linkBefore_59 q217 (Or.inr q213) (Or.inl rfl) rfl (fun g11 => ?_)
    exact r_vret (pc := 62) dJ4_linkBefore_62 rfl
  · skip
    refine r_ifnonnull (tgt := 36) (pc := 24) dJ4_linkBefore_24 (by decide) ?_ ?_
    · skip
      refine r_aload_n (pc := 27) dJ4_linkBefore_27 rfl 2 rfl ?_
      refine r_aload (pc := 28) dJ4_linkBefore_28 0 rfl ?_
      refine r_putR (f := 20) (pc := 30) dJ4_linkBefore_30 q255 (Or.inl rfl) (Or.inl rfl) rfl (fun g12 => ?_)
      refine r_goto (tgt := 42) (pc := 33) dJ4_linkBefore_33 (by decide) ?_
      refine AW_sub [2] rfl ?_
      exact h_j7 g12
    · skip
      refine r_aload_n (pc := 36) dJ4_linkBefore_36 rfl 1 rfl ?_
      refine r_aload (pc := 37) dJ4_linkBefore_37 0 rfl ?_
      refine r_putR (f := 85) (pc := 39) dJ4_linkBefore_39 q1368 (Or.inl rfl) (Or.inl rfl) rfl (fun g13 => ?_)
      refine AW_sub [2] rfl ?_
      exact h_j7 g13
abbrev ck_J4_add_2 : CK := ("java/util/LinkedList", prog_74_method_24_code, 3, none, "add", [], 4)
def f_J4_add_2 (γ : GP) (x0 : Nat) (x1 : Int32) (x2 : Nat) (g : AH) : Option (AH) := bV ((if hK g x0 = 5 then f_J4_checkPositionIndex γ x0 x1 g else none)) fun g1 => gI g1 x0 19 fun v2 => (if x1 = v2 then bV ((if hK g1 x0 = 5 then f_J4_linkLast γ x0 x2 g1 else none)) fun g3 => (some g3) else bR ((if hK g1 x0 = 5 then f_J4_node γ x0 x1 g1 else none)) fun v5 g4 => bV ((if hK g4 x0 = 5 then f_J4_linkBefore γ x0 x2 v5 g4 else none)) fun g6 => (some g6))
theorem t_J4_add_2 (γ : GP) (l : Launch) (hl : l.stackTraces = false) (x0 : Nat) (x1 : Int32) (x2 : Nat) (g : AH) : TrM ρV γ l ⟨"java/util/LinkedList", "add", "(ILjava/lang/Object;)V"⟩ (ws_ ⟨"java/util/LinkedList", "add", "(ILjava/lang/Object;)V"⟩ prog_74_method_24_code 3 none) 4 [.ref x0, .int x1, .ref x2] g (f_J4_add_2 γ x0 x1 x2 g) := by
  refine TrM_of (plainFor_of_name (by decide)) (Nat.le_of_ble_eq_true rfl) ?_
  unfold f_J4_add_2
  change AW ρV γ l ck_J4_add_2 g 0 [(0, .ref x0), (1, .int x1), (2, .ref x2)] [] g _
  refine r_aload_n (pc := 0) dJ4_add_2_0 rfl 0 rfl ?_
  refine r_iload_n (pc := 1) dJ4_add_2_1 rfl 1 rfl ?_
  refine r_cV (pc := 2) (rest := []) (RunOK_chk (fun h => run_V (n := 1) (c9 := 5) (As := [.int x1]) (rest := []) (t_J4_checkPositionIndex γ l hl x0 x1 g) dJ4_add_2_2 q732 q734 qs3 q116 q735 (by decide +kernel) rfl h ⟨rfl, by decide, by decide⟩ (Nat.le_of_ble_eq_true rfl) (Nat.le_of_ble_eq_true rfl) rfl (Nat.le_of_ble_eq_true rfl))) (fun g1 => ?_)
  refine r_iload_n (pc := 5) dJ4_add_2_5 rfl 1 rfl ?_
  refine r_aload_n (pc := 6) dJ4_add_2_6 rfl 0 rfl ?_
  refine r_getI (f := 19) (pc := 7) dJ4_add_2_7 q253 (Or.inl rfl) rfl (fun v2 => ?_)
  refine r_icmp_ne (tgt := 21) (pc := 10) dJ4_add_2_10 (by decide) ?_ ?_
  · skip
    refine r_aload_n (pc := 13) dJ4_add_2_13 rfl 0 rfl ?_
    refine r_aload_n (pc := 14) dJ4_add_2_14 rfl 2 rfl ?_
    refine r_cV (pc := 15) (rest := []) (RunOK_chk (fun h => run_V (n := 1) (c9 := 5) (As := [.ref x2]) (rest := []) (t_J4_linkLast γ l hl x0 x2 g1) dJ4_add_2_15 q1401 q1402 q1403 q116 q1404 (by decide +kernel) rfl h ⟨rfl, by decide, by decide⟩ (Nat.le_of_ble_eq_true rfl) (Nat.le_of_ble_eq_true rfl) rfl (Nat.le_of_ble_eq_true rfl))) (fun g3 => ?_)
    refine r_goto (tgt := 31) (pc := 18) dJ4_add_2_18 (by decide) ?_
    exact r_vret (pc := 31) dJ4_add_2_31 rfl
  · skip
    refine r_aload_n (pc := 21) dJ4_add_2_21 rfl 0 rfl ?_
    refine r_aload_n (pc := 22) dJ4_add_2_22 rfl 2 rfl ?_
    refine r_aload_n (pc := 23) dJ4_add_2_23 rfl 0 rfl ?_
    refine r_iload_n (pc := 24) dJ4_add_2_24 rfl 1 rfl ?_
    refine r_cR (pc := 25) (rest := [.ref x2, .ref x0]) (RunOK_chk (fun h => run_V (n := 1) (c9 := 5) (As := [.int x1]) (rest := [.ref x2, .ref x0]) (t_J4_node γ l hl x0 x1 g1) dJ4_add_2_25 q867 q760 q761 q116 q762 (by decide +kernel) rfl h ⟨rfl, by decide, by decide⟩ (Nat.le_of_ble_eq_true rfl) (Nat.le_of_ble_eq_true rfl) rfl (Nat.le_of_ble_eq_true rfl))) (fun v5 g4 => ?_)
    refine r_cV (pc := 28) (rest := []) (RunOK_chk (fun h => run_V (n := 2) (c9 := 5) (As := [.ref x2, .ref v5]) (rest := []) (t_J4_linkBefore γ l hl x0 x2 v5 g4) dJ4_add_2_28 q2827 q2828 q2829 q116 q2830 (by decide +kernel) rfl h ⟨rfl, by decide, by decide⟩ (Nat.le_of_ble_eq_true rfl) (Nat.le_of_ble_eq_true rfl) rfl (Nat.le_of_ble_eq_true rfl))) (fun g6 => ?_)
    exact r_vret (pc := 31) dJ4_add_2_31 rfl
abbrev ck_J5_length : CK := ("java/lang/AbstractStringBuilder", prog_27_method_6_code, 1, (some .int), "length", [], 1)
def f_J5_length (γ : GP) (x0 : Nat) (g : AH) : Option (Int32 × AH) := gI g x0 25 fun v1 => (some (v1, g))
theorem t_J5_length (γ : GP) (l : Launch) (hl : l.stackTraces = false) (x0 : Nat) (g : AH) : TrM ρI γ l ⟨"java/lang/AbstractStringBuilder", "length", "()I"⟩ (ws_ ⟨"java/lang/AbstractStringBuilder", "length", "()I"⟩ prog_27_method_6_code 1 (some .int)) 1 [.ref x0] g (f_J5_length γ x0 g) := by
  refine TrM_of (plainFor_of_name (by decide)) (Nat.le_of_ble_eq_true rfl) ?_
  unfold f_J5_length
  change AW ρI γ l ck_J5_length g 0 [(0, .ref x0)] [] g _
  refine r_aload_n (pc := 0) dJ5_length_0 rfl 0 rfl ?_
  refine r_getI (f := 25) (pc := 1) dJ5_length_1 q308 (Or.inl rfl) rfl (fun v1 => ?_)
  exact r_iret (pc := 4) dJ5_length_4 rfl
abbrev ck_J6_length : CK := ("java/lang/StringBuilder", prog_49_method_93_code, 1, (some .int), "length", [], 2)
def f_J6_length (γ : GP) (x0 : Nat) (g : AH) : Option (Int32 × AH) := bI ((if hK g x0 = 6 then f_J5_length γ x0 g else none)) fun v2 g1 => (some (v2, g1))
theorem t_J6_length (γ : GP) (l : Launch) (hl : l.stackTraces = false) (x0 : Nat) (g : AH) : TrM ρI γ l ⟨"java/lang/StringBuilder", "length", "()I"⟩ (ws_ ⟨"java/lang/StringBuilder", "length", "()I"⟩ prog_49_method_93_code 1 (some .int)) 2 [.ref x0] g (f_J6_length γ x0 g) := by
  refine TrM_of (plainFor_of_name (by decide)) (Nat.le_of_ble_eq_true rfl) ?_
  unfold f_J6_length
  change AW ρI γ l ck_J6_length g 0 [(0, .ref x0)] [] g _
  refine r_aload_n (pc := 0) dJ6_length_0 rfl 0 rfl ?_
  refine r_cI (pc := 1) (rest := []) (RunOK_chk (fun h => run_SU (n := 0) (As := []) (rest := []) (t_J5_length γ l hl x0 g) dJ6_length_1 q631 q627 q317 q626 q117 q632 ⟨by decide, by decide +kernel⟩ rfl h ⟨by decide, by decide⟩ (Nat.le_of_ble_eq_true rfl) (Nat.le_of_ble_eq_true rfl) rfl (Nat.le_of_ble_eq_true rfl))) (fun v2 g1 => ?_)
  exact r_iret (pc := 4) dJ6_length_4 rfl
abbrev ck_J45_init : CK := ("java/lang/IllegalStateException", prog_38_method_1_code, 1, none, "<init>", [], 7)
def f_J45_init (γ : GP) (x0 : Nat) (g : AH) : Option (AH) := bV ((if x0 ≠ 0 then f_J11_init_3 γ x0 g else none)) fun g1 => (some g1)
theorem t_J45_init (γ : GP) (l : Launch) (hl : l.stackTraces = false) (x0 : Nat) (g : AH) : TrM ρV γ l ⟨"java/lang/IllegalStateException", "<init>", "()V"⟩ (ws_ ⟨"java/lang/IllegalStateException", "<init>", "()V"⟩ prog_38_method_1_code 1 none) 7 [.ref x0] g (f_J45_init γ x0 g) := by
  refine TrM_of (plainFor_of_name (by decide)) (Nat.le_of_ble_eq_true rfl) ?_
  unfold f_J45_init
  change AW ρV γ l ck_J45_init g 0 [(0, .ref x0)] [] g _
  refine r_aload_n (pc := 0) dJ45_init_0 rfl 0 rfl ?_
  refine r_cV (pc := 1) (rest := []) (RunOK_chk (fun h => run_I (n := 0) (As := []) (rest := []) (t_J11_init_3 γ l hl x0 g) dJ45_init_1 q2920 q1007 q124 q1008 rfl (by decide +kernel) rfl h (Nat.le_of_ble_eq_true rfl) (Nat.le_of_ble_eq_true rfl) rfl (Nat.le_of_ble_eq_true rfl))) (fun g1 => ?_)
  exact r_vret (pc := 4) dJ45_init_4 rfl
abbrev ck_J5_newCapacity : CK := ("java/lang/AbstractStringBuilder", prog_27_method_10_code, 6, (some .int), "newCapacity", [], 3)
def f_J5_newCapacity (γ : GP) (x0 : Nat) (x1 : Int32) (g : AH) : Option (Int32 × AH) := gR g x0 22 fun v1 => gL g v1 fun v2 => gI g x0 23 fun v3 => gI g x0 23 fun v4 => bI (f_J15_newLength γ v2 ((x1 <<< (v3 &&& 31)) - v2) (v2 + ((2 : Int32) <<< (v4 &&& 31))) g) fun v6 g5 => (if v6 = (2147483647 : Int32) then none else gI g5 x0 23 fun v7 => (some ((v6 >>> (v7 &&& 31)), g5)))
theorem t_J5_newCapacity (γ : GP) (l : Launch) (hl : l.stackTraces = false) (x0 : Nat) (x1 : Int32) (g : AH) : TrM ρI γ l ⟨"java/lang/AbstractStringBuilder", "newCapacity", "(I)I"⟩ (ws_ ⟨"java/lang/AbstractStringBuilder", "newCapacity", "(I)I"⟩ prog_27_method_10_code 6 (some .int)) 3 [.ref x0, .int x1] g (f_J5_newCapacity γ x0 x1 g) := by
  refine TrM_of (plainFor_of_name (by decide)) (Nat.le_of_ble_eq_true rfl) ?_
  unfold f_J5_newCapacity
  change AW ρI γ l ck_J5_newCapacity g 0 [(0, .ref x0), (1, .int x1)] [] g _
  refine r_aload_n (pc := 0) dJ5_newCapacity_0 rfl 0 rfl ?_
  refine r_getR (f := 22) (pc := 1) dJ5_newCapacity_1 q304 (Or.inl rfl) rfl (fun v1 => ?_)
  refine r_alen (pc := 4) dJ5_newCapacity_4 (fun v2 => ?_)
  refine r_istore_n (pc := 5) dJ5_newCapacity_5 rfl (Nat.le_of_ble_eq_true rfl) rfl ?_
  refine r_iload_n (pc := 6) dJ5_newCapacity_6 rfl 2 rfl ?_
  refine r_aload_n (pc := 7) dJ5_newCapacity_7 rfl 1 rfl ?_
  refine r_getI (f := 23) (pc := 8) dJ5_newCapacity_8 q305 (Or.inl rfl) rfl (fun v3 => ?_)
  refine r_ishl (pc := 11) dJ5_newCapacity_11 ?_
  refine r_istore_n (pc := 12) dJ5_newCapacity_12 rfl (Nat.le_of_ble_eq_true rfl) rfl ?_
  refine r_iload_n (pc := 13) dJ5_newCapacity_13 rfl 0 rfl ?_
  refine r_iload_n (pc := 14) dJ5_newCapacity_14 rfl 1 rfl ?_
  refine r_isub (pc := 15) dJ5_newCapacity_15 ?_
  refine r_istore (pc := 16) dJ5_newCapacity_16 (Nat.le_of_ble_eq_true rfl) rfl ?_
  refine r_iload_n (pc := 18) dJ5_newCapacity_18 rfl 2 rfl ?_
  refine r_iload (pc := 19) dJ5_newCapacity_19 0 rfl ?_
  refine r_iload_n (pc := 21) dJ5_newCapacity_21 rfl 2 rfl ?_
  refine r_iconst (v := (2 : Int32)) (pc := 22) dJ5_newCapacity_22 (by decide) ?_
  refine r_aload_n (pc := 23) dJ5_newCapacity_23 rfl 3 rfl ?_
  refine r_getI (f := 23) (pc := 24) dJ5_newCapacity_24 q305 (Or.inl rfl) rfl (fun v4 => ?_)
  refine r_ishl (pc := 27) dJ5_newCapacity_27 ?_
  refine r_iadd (pc := 28) dJ5_newCapacity_28 ?_
  refine r_cI (pc := 29) (rest := []) (run_S (n := 3) (As := [.int v2, .int ((x1 <<< (v3 &&& 31)) - v2), .int (v2 + ((2 : Int32) <<< (v4 &&& 31)))]) (rest := []) (t_J15_newLength γ l hl v2 ((x1 <<< (v3 &&& 31)) - v2) (v2 + ((2 : Int32) <<< (v4 &&& 31))) g) dJ5_newCapacity_29 q480 q481 q128 q482 (by decide +kernel) rfl (Nat.le_of_ble_eq_true rfl) (Nat.le_of_ble_eq_true rfl) rfl (Nat.le_of_ble_eq_true rfl)) (fun v6 g5 => ?_)
  refine r_istore (pc := 32) dJ5_newCapacity_32 (Nat.le_of_ble_eq_true rfl) rfl ?_
  refine r_iload (pc := 34) dJ5_newCapacity_34 0 rfl ?_
  refine r_ldci (v := (2147483647 : Int32)) (pc := 36) dJ5_newCapacity_36 q490 ?_
  refine r_icmp_ne (tgt := 51) (pc := 38) dJ5_newCapacity_38 (by decide) ?_ ?_
  · skip
    exact AW_none
  · skip
    refine r_iload (pc := 51) dJ5_newCapacity_51 0 rfl ?_
    refine r_aload_n (pc := 53) dJ5_newCapacity_53 rfl 4 rfl ?_
    refine r_getI (f := 23) (pc := 54) dJ5_newCapacity_54 q305 (Or.inl rfl) rfl (fun v7 => ?_)
    refine r_ishr (pc := 57) dJ5_newCapacity_57 ?_
    exact r_iret (pc := 58) dJ5_newCapacity_58 rfl
abbrev ck_J17_copyOf : CK := ("java/util/Arrays", prog_69_method_121_code, 3, (some (.array .byte)), "copyOf", [], 2)
def f_J17_copyOf (γ : GP) (x0 : Nat) (x1 : Int32) (g : AH) : Option (Nat × AH) := gL g x0 fun v1 => (if x1 = v1 then (if hK g x0 = 102 then (fun (q2 : Nat) (g3 : AH) => gCA g3 102 q2 ((some (q2, g3)))) (hS g) (nCl g x0) else none) else mA g 102 x1 fun q4 g5 => gL g5 x0 fun v6 => bI (f_J16_min γ v6 x1 g5) fun v8 g7 => nCA γ g7 102 x0 (0 : Int32) q4 (0 : Int32) v8 fun g9 => (some (q4, g9)))
theorem t_J17_copyOf (γ : GP) (l : Launch) (hl : l.stackTraces = false) (x0 : Nat) (x1 : Int32) (g : AH) : TrM ρR γ l ⟨"java/util/Arrays", "copyOf", "([BI)[B"⟩ (ws_ ⟨"java/util/Arrays", "copyOf", "([BI)[B"⟩ prog_69_method_121_code 3 (some (.array .byte))) 2 [.ref x0, .int x1] g (f_J17_copyOf γ x0 x1 g) := by
  refine TrM_of (plainFor_of_name (by decide)) (Nat.le_of_ble_eq_true rfl) ?_
  unfold f_J17_copyOf
  change AW ρR γ l ck_J17_copyOf g 0 [(0, .ref x0), (1, .int x1)] [] g _
  refine r_iload_n (pc := 0) dJ17_copyOf_0 rfl 1 rfl ?_
  refine r_aload_n (pc := 1) dJ17_copyOf_1 rfl 0 rfl ?_
  refine r_alen (pc := 2) dJ17_copyOf_2 (fun v1 => ?_)
  refine r_icmp_ne (tgt := 14) (pc := 3) dJ17_copyOf_3 (by decide) ?_ ?_
  · skip
    refine r_aload_n (pc := 6) dJ17_copyOf_6 rfl 0 rfl ?_
    refine r_clone (K := fun (q2 : Nat) (g3 : AH) => gCA g3 102 q2 ((some (q2, g3)))) (pc := 7) dJ17_copyOf_7 q494 q495 q496 q497 q498 mv499 (by decide) (Nat.le_of_ble_eq_true rfl) (fun q2 g3 => ?_)
    refine r_castA (kd := 102) (nm := "[B") (by decide) rfl (pc := 10) dJ17_copyOf_10 q500 ?_
    exact r_aret (pc := 13) dJ17_copyOf_13 rfl (by first | exact Or.inl ⟨_, rfl⟩ | exact Or.inr ⟨_, rfl⟩)
  · skip
    refine r_iload_n (pc := 14) dJ17_copyOf_14 rfl 1 rfl ?_
    refine r_newa (kd := 102) (atype := .byte) (pc := 15) dJ17_copyOf_15 q318 (by decide) rfl (by decide) (fun _ _ => by rw [nA_av]; rfl) (by decide) (fun q4 g5 => ?_)
    refine r_astore_n (pc := 17) dJ17_copyOf_17 rfl (Nat.le_of_ble_eq_true rfl) rfl ?_
    refine r_aload_n (pc := 18) dJ17_copyOf_18 rfl 1 rfl ?_
    refine r_iconst (v := (0 : Int32)) (pc := 19) dJ17_copyOf_19 (by decide) ?_
    refine r_aload_n (pc := 20) dJ17_copyOf_20 rfl 0 rfl ?_
    refine r_iconst (v := (0 : Int32)) (pc := 21) dJ17_copyOf_21 (by decide) ?_
    refine r_aload_n (pc := 22) dJ17_copyOf_22 rfl 1 rfl ?_
    refine r_alen (pc := 23) dJ17_copyOf_23 (fun v6 => ?_)
    refine r_iload_n (pc := 24) dJ17_copyOf_24 rfl 2 rfl ?_
    refine r_cI (pc := 25) (rest := [.int (0 : Int32), .ref q4, .int (0 : Int32), .ref x0]) (run_S (n := 2) (As := [.int v6, .int x1]) (rest := [.int (0 : Int32), .ref q4, .int (0 : Int32), .ref x0]) (t_J16_min γ l hl v6 x1 g5) dJ17_copyOf_25 q501 q502 q129 q503 (by decide +kernel) rfl (Nat.le_of_ble_eq_true rfl) (Nat.le_of_ble_eq_true rfl) rfl (Nat.le_of_ble_eq_true rfl)) (fun v8 g7 => ?_)
    refine r_copyA (kd := 102) (by decide) (pc := 28) dJ17_copyOf_28 q504 q506 q505 q131 (by decide) (Nat.le_of_ble_eq_true rfl) (fun g9 => ?_)
    refine r_aload_n (pc := 31) dJ17_copyOf_31 rfl 0 rfl ?_
    exact r_aret (pc := 32) dJ17_copyOf_32 rfl (by first | exact Or.inl ⟨_, rfl⟩ | exact Or.inr ⟨_, rfl⟩)
abbrev ck_J5_ensureCapacityInternal : CK := ("java/lang/AbstractStringBuilder", prog_27_method_9_code, 3, none, "ensureCapacityInternal", [], 4)
def f_J5_ensureCapacityInternal (γ : GP) (x0 : Nat) (x1 : Int32) (g : AH) : Option (AH) := gR g x0 22 fun v1 => gL g v1 fun v2 => gI g x0 23 fun v3 => (if (x1 - (v2 >>> (v3 &&& 31))) ≤ 0 then (some g) else gR g x0 22 fun v4 => bI ((if hK g x0 = 6 then f_J5_newCapacity γ x0 x1 g else none)) fun v6 g5 => gI g5 x0 23 fun v7 => bR (f_J17_copyOf γ v4 (v6 <<< (v7 &&& 31)) g5) fun v9 g8 => pR γ g8 x0 22 v9 fun g10 => (some g10))
theorem t_J5_ensureCapacityInternal (γ : GP) (l : Launch) (hl : l.stackTraces = false) (x0 : Nat) (x1 : Int32) (g : AH) : TrM ρV γ l ⟨"java/lang/AbstractStringBuilder", "ensureCapacityInternal", "(I)V"⟩ (ws_ ⟨"java/lang/AbstractStringBuilder", "ensureCapacityInternal", "(I)V"⟩ prog_27_method_9_code 3 none) 4 [.ref x0, .int x1] g (f_J5_ensureCapacityInternal γ x0 x1 g) := by
  refine TrM_of (plainFor_of_name (by decide)) (Nat.le_of_ble_eq_true rfl) ?_
  unfold f_J5_ensureCapacityInternal
  change AW ρV γ l ck_J5_ensureCapacityInternal g 0 [(0, .ref x0), (1, .int x1)] [] g _
  refine r_aload_n (pc := 0) dJ5_ensureCapacityInternal_0 rfl 0 rfl ?_
  refine r_getR (f := 22) (pc := 1) dJ5_ensureCapacityInternal_1 q304 (Or.inl rfl) rfl (fun v1 => ?_)
  refine r_alen (pc := 4) dJ5_ensureCapacityInternal_4 (fun v2 => ?_)
  refine r_aload_n (pc := 5) dJ5_ensureCapacityInternal_5 rfl 0 rfl ?_
  refine r_getI (f := 23) (pc := 6) dJ5_ensureCapacityInternal_6 q305 (Or.inl rfl) rfl (fun v3 => ?_)
  refine r_ishr (pc := 9) dJ5_ensureCapacityInternal_9 ?_
  refine r_istore_n (pc := 10) dJ5_ensureCapacityInternal_10 rfl (Nat.le_of_ble_eq_true rfl) rfl ?_
  refine r_iload_n (pc := 11) dJ5_ensureCapacityInternal_11 rfl 2 rfl ?_
  refine r_iload_n (pc := 12) dJ5_ensureCapacityInternal_12 rfl 0 rfl ?_
  refine r_isub (pc := 13) dJ5_ensureCapacityInternal_13 ?_
  refine r_if_le (tgt := 38) (pc := 14) dJ5_ensureCapacityInternal_14 (by decide) ?_ ?_
  · skip
    exact r_vret (pc := 38) dJ5_ensureCapacityInternal_38 rfl
  · skip
    refine r_aload_n (pc := 17) dJ5_ensureCapacityInternal_17 rfl 1 rfl ?_
    refine r_aload_n (pc := 18) dJ5_ensureCapacityInternal_18 rfl 1 rfl ?_
    refine r_getR (f := 22) (pc := 19) dJ5_ensureCapacityInternal_19 q304 (Or.inl rfl) rfl (fun v4 => ?_)
    refine r_aload_n (pc := 22) dJ5_ensureCapacityInternal_22 rfl 1 rfl ?_
    refine r_iload_n (pc := 23) dJ5_ensureCapacityInternal_23 rfl 2 rfl ?_
    refine r_cI (pc := 24) (rest := [.ref v4, .ref x0]) (RunOK_chk (fun h => run_P (n := 1) (c9 := 6) (As := [.int x1]) (rest := [.ref v4, .ref x0]) (t_J5_newCapacity γ l hl x0 x1 g) dJ5_ensureCapacityInternal_24 q476 q3885 mv477 q478 q117 q479 (by decide +kernel) rfl h ⟨by decide, by decide⟩ (Nat.le_of_ble_eq_true rfl) (Nat.le_of_ble_eq_true rfl) rfl (Nat.le_of_ble_eq_true rfl))) (fun v6 g5 => ?_)
    refine r_aload_n (pc := 27) dJ5_ensureCapacityInternal_27 rfl 1 rfl ?_
    refine r_getI (f := 23) (pc := 28) dJ5_ensureCapacityInternal_28 q305 (Or.inl rfl) rfl (fun v7 => ?_)
    refine r_ishl (pc := 31) dJ5_ensureCapacityInternal_31 ?_
    refine r_cR (pc := 32) (rest := [.ref x0]) (run_S (n := 2) (As := [.ref v4, .int (v6 <<< (v7 &&& 31))]) (rest := [.ref x0]) (t_J17_copyOf γ l hl v4 (v6 <<< (v7 &&& 31)) g5) dJ5_ensureCapacityInternal_32 q491 q492 q130 q493 (by decide +kernel) rfl (Nat.le_of_ble_eq_true rfl) (Nat.le_of_ble_eq_true rfl) rfl (Nat.le_of_ble_eq_true rfl)) (fun v9 g8 => ?_)
    refine r_putR (f := 22) (pc := 35) dJ5_ensureCapacityInternal_35 q304 (Or.inl rfl) (Or.inl rfl) rfl (fun g10 => ?_)
    exact r_vret (pc := 38) dJ5_ensureCapacityInternal_38 rfl
abbrev ck_J5_isLatin1 : CK := ("java/lang/AbstractStringBuilder", prog_27_method_68_code, 1, (some .boolean), "isLatin1", [], 1)
def f_J5_isLatin1 (γ : GP) (x0 : Nat) (g : AH) : Option (Int32 × AH) := (if (1 : Int32) = 0 then (rtN .boolean (0 : Int32) g) else gI g x0 23 fun v1 => (if v1 = 0 then (rtN .boolean (1 : Int32) g) else (rtN .boolean (0 : Int32) g)))
theorem t_J5_isLatin1 (γ : GP) (l : Launch) (hl : l.stackTraces = false) (x0 : Nat) (g : AH) : TrM ρI γ l ⟨"java/lang/AbstractStringBuilder", "isLatin1", "()Z"⟩ (ws_ ⟨"java/lang/AbstractStringBuilder", "isLatin1", "()Z"⟩ prog_27_method_68_code 1 (some .boolean)) 1 [.ref x0] g (f_J5_isLatin1 γ x0 g) := by
  refine TrM_of (plainFor_of_name (by decide)) (Nat.le_of_ble_eq_true rfl) ?_
  unfold f_J5_isLatin1
  change AW ρI γ l ck_J5_isLatin1 g 0 [(0, .ref x0)] [] g _
  refine r_getsI (v := (1 : Int32)) (pc := 0) dJ5_isLatin1_0 q295 (List.mem_of_getElem? (i := 0) rfl) rfl ?_
  refine r_if_eq (tgt := 17) (pc := 3) dJ5_isLatin1_3 (by decide) ?_ ?_
  · skip
    refine r_iconst (v := (0 : Int32)) (pc := 17) dJ5_isLatin1_17 (by decide) ?_
    exact r_zret (ty := .boolean) (pc := 18) dJ5_isLatin1_18 rfl
  · skip
    refine r_aload_n (pc := 6) dJ5_isLatin1_6 rfl 0 rfl ?_
    refine r_getI (f := 23) (pc := 7) dJ5_isLatin1_7 q305 (Or.inl rfl) rfl (fun v1 => ?_)
    refine r_if_ne (tgt := 17) (pc := 10) dJ5_isLatin1_10 (by decide) ?_ ?_
    · skip
      refine r_iconst (v := (1 : Int32)) (pc := 13) dJ5_isLatin1_13 (by decide) ?_
      refine r_goto (tgt := 18) (pc := 14) dJ5_isLatin1_14 (by decide) ?_
      exact r_zret (ty := .boolean) (pc := 18) dJ5_isLatin1_18 rfl
    · skip
      refine r_iconst (v := (0 : Int32)) (pc := 17) dJ5_isLatin1_17 (by decide) ?_
      exact r_zret (ty := .boolean) (pc := 18) dJ5_isLatin1_18 rfl
abbrev ck_J19_canEncode : CK := ("java/lang/StringLatin1", prog_51_method_3_code, 1, (some .boolean), "canEncode", [], 1)
def f_J19_canEncode (γ : GP) (x0 : Int32) (g : AH) : Option (Int32 × AH) := (if (255 : Int32) < x0 then (rtN .boolean (0 : Int32) g) else (rtN .boolean (1 : Int32) g))
theorem t_J19_canEncode (γ : GP) (l : Launch) (hl : l.stackTraces = false) (x0 : Int32) (g : AH) : TrM ρI γ l ⟨"java/lang/StringLatin1", "canEncode", "(C)Z"⟩ (ws_ ⟨"java/lang/StringLatin1", "canEncode", "(C)Z"⟩ prog_51_method_3_code 1 (some .boolean)) 1 [.int x0] g (f_J19_canEncode γ x0 g) := by
  refine TrM_of (plainFor_of_name (by decide)) (Nat.le_of_ble_eq_true rfl) ?_
  unfold f_J19_canEncode
  change AW ρI γ l ck_J19_canEncode g 0 [(0, .int x0)] [] g _
  refine r_iload_n (pc := 0) dJ19_canEncode_0 rfl 0 rfl ?_
  refine r_sipush (v := (255 : Int32)) (pc := 1) dJ19_canEncode_1 (by decide) ?_
  refine r_icmp_gt (tgt := 11) (pc := 4) dJ19_canEncode_4 (by decide) ?_ ?_
  · skip
    refine r_iconst (v := (0 : Int32)) (pc := 11) dJ19_canEncode_11 (by decide) ?_
    exact r_zret (ty := .boolean) (pc := 12) dJ19_canEncode_12 rfl
  · skip
    refine r_iconst (v := (1 : Int32)) (pc := 7) dJ19_canEncode_7 (by decide) ?_
    refine r_goto (tgt := 12) (pc := 8) dJ19_canEncode_8 (by decide) ?_
    exact r_zret (ty := .boolean) (pc := 12) dJ19_canEncode_12 rfl
abbrev ck_J8_newBytesLength : CK := ("java/lang/StringUTF16", prog_52_method_3_code, 1, (some .int), "newBytesLength", [], 1)
def f_J8_newBytesLength (γ : GP) (x0 : Int32) (g : AH) : Option (Int32 × AH) := (if 0 ≤ x0 then (if x0 < (1073741823 : Int32) then (some ((x0 <<< ((1 : Int32) &&& 31)), g)) else none) else none)
theorem t_J8_newBytesLength (γ : GP) (l : Launch) (hl : l.stackTraces = false) (x0 : Int32) (g : AH) : TrM ρI γ l ⟨"java/lang/StringUTF16", "newBytesLength", "(I)I"⟩ (ws_ ⟨"java/lang/StringUTF16", "newBytesLength", "(I)I"⟩ prog_52_method_3_code 1 (some .int)) 1 [.int x0] g (f_J8_newBytesLength γ x0 g) := by
  refine TrM_of (plainFor_of_name (by decide)) (Nat.le_of_ble_eq_true rfl) ?_
  unfold f_J8_newBytesLength
  change AW ρI γ l ck_J8_newBytesLength g 0 [(0, .int x0)] [] g _
  refine r_iload_n (pc := 0) dJ8_newBytesLength_0 rfl 0 rfl ?_
  refine r_if_ge (tgt := 12) (pc := 1) dJ8_newBytesLength_1 (by decide) ?_ ?_
  · skip
    refine r_iload_n (pc := 12) dJ8_newBytesLength_12 rfl 0 rfl ?_
    refine r_ldci (v := (1073741823 : Int32)) (pc := 13) dJ8_newBytesLength_13 q303 ?_
    refine r_icmp_lt (tgt := 55) (pc := 15) dJ8_newBytesLength_15 (by decide) ?_ ?_
    · skip
      refine r_iload_n (pc := 55) dJ8_newBytesLength_55 rfl 0 rfl ?_
      refine r_iconst (v := (1 : Int32)) (pc := 56) dJ8_newBytesLength_56 (by decide) ?_
      refine r_ishl (pc := 57) dJ8_newBytesLength_57 ?_
      exact r_iret (pc := 58) dJ8_newBytesLength_58 rfl
    · skip
      exact AW_none
  · skip
    exact AW_none
abbrev ck_J8_newBytesFor : CK := ("java/lang/StringUTF16", prog_52_method_2_code, 1, (some (.array .byte)), "newBytesFor", [], 2)
def f_J8_newBytesFor (γ : GP) (x0 : Int32) (g : AH) : Option (Nat × AH) := bI (f_J8_newBytesLength γ x0 g) fun v2 g1 => mA g1 102 v2 fun q3 g4 => (some (q3, g4))
theorem t_J8_newBytesFor (γ : GP) (l : Launch) (hl : l.stackTraces = false) (x0 : Int32) (g : AH) : TrM ρR γ l ⟨"java/lang/StringUTF16", "newBytesFor", "(I)[B"⟩ (ws_ ⟨"java/lang/StringUTF16", "newBytesFor", "(I)[B"⟩ prog_52_method_2_code 1 (some (.array .byte))) 2 [.int x0] g (f_J8_newBytesFor γ x0 g) := by
  refine TrM_of (plainFor_of_name (by decide)) (Nat.le_of_ble_eq_true rfl) ?_
  unfold f_J8_newBytesFor
  change AW ρR γ l ck_J8_newBytesFor g 0 [(0, .int x0)] [] g _
  refine r_iload_n (pc := 0) dJ8_newBytesFor_0 rfl 0 rfl ?_
  refine r_cI (pc := 1) (rest := []) (run_S (n := 1) (As := [.int x0]) (rest := []) (t_J8_newBytesLength γ l hl x0 g) dJ8_newBytesFor_1 q300 q301 q120 q302 (by decide +kernel) rfl (Nat.le_of_ble_eq_true rfl) (Nat.le_of_ble_eq_true rfl) rfl (Nat.le_of_ble_eq_true rfl)) (fun v2 g1 => ?_)
  refine r_newa (kd := 102) (atype := .byte) (pc := 4) dJ8_newBytesFor_4 q318 (by decide) rfl (by decide) (fun _ _ => by rw [nA_av]; rfl) (by decide) (fun q3 g4 => ?_)
  exact r_aret (pc := 6) dJ8_newBytesFor_6 rfl (by first | exact Or.inl ⟨_, rfl⟩ | exact Or.inr ⟨_, rfl⟩)
abbrev ck_J18_checkFromIndexSize : CK := ("jdk/internal/util/Preconditions", prog_107_method_13_code, 4, (some .int), "checkFromIndexSize", [], 1)
def f_J18_checkFromIndexSize (γ : GP) (x0 : Int32) (x1 : Int32) (x2 : Int32) (x3 : Nat) (g : AH) : Option (Int32 × AH) := (if ((x2 ||| x0) ||| x1) < 0 then none else (if x1 ≤ (x2 - x0) then (some (x0, g)) else none))
theorem t_J18_checkFromIndexSize (γ : GP) (l : Launch) (hl : l.stackTraces = false) (x0 : Int32) (x1 : Int32) (x2 : Int32) (x3 : Nat) (g : AH) : TrM ρI γ l ⟨"jdk/internal/util/Preconditions", "checkFromIndexSize", "(IIILjava/util/function/BiFunction;)I"⟩ (ws_ ⟨"jdk/internal/util/Preconditions", "checkFromIndexSize", "(IIILjava/util/function/BiFunction;)I"⟩ prog_107_method_13_code 4 (some .int)) 1 [.int x0, .int x1, .int x2, .ref x3] g (f_J18_checkFromIndexSize γ x0 x1 x2 x3 g) := by
  refine TrM_of (plainFor_of_name (by decide)) (Nat.le_of_ble_eq_true rfl) ?_
  unfold f_J18_checkFromIndexSize
  change AW ρI γ l ck_J18_checkFromIndexSize g 0 [(0, .int x0), (1, .int x1), (2, .int x2), (3, .ref x3)] [] g _
  refine r_iload_n (pc := 0) dJ18_checkFromIndexSize_0 rfl 2 rfl ?_
  refine r_iload_n (pc := 1) dJ18_checkFromIndexSize_1 rfl 0 rfl ?_
  refine r_ior (pc := 2) dJ18_checkFromIndexSize_2 ?_
  refine r_iload_n (pc := 3) dJ18_checkFromIndexSize_3 rfl 1 rfl ?_
  refine r_ior (pc := 4) dJ18_checkFromIndexSize_4 ?_
  refine r_if_lt (tgt := 15) (pc := 5) dJ18_checkFromIndexSize_5 (by decide) ?_ ?_
  · skip
    refine r_aload_n (pc := 15) dJ18_checkFromIndexSize_15 rfl 3 rfl ?_
    refine r_iload_n (pc := 16) dJ18_checkFromIndexSize_16 rfl 0 rfl ?_
    refine r_iload_n (pc := 17) dJ18_checkFromIndexSize_17 rfl 1 rfl ?_
    refine r_iload_n (pc := 18) dJ18_checkFromIndexSize_18 rfl 2 rfl ?_
    exact AW_none
  · skip
    refine r_iload_n (pc := 8) dJ18_checkFromIndexSize_8 rfl 1 rfl ?_
    refine r_iload_n (pc := 9) dJ18_checkFromIndexSize_9 rfl 2 rfl ?_
    refine r_iload_n (pc := 10) dJ18_checkFromIndexSize_10 rfl 0 rfl ?_
    refine r_isub (pc := 11) dJ18_checkFromIndexSize_11 ?_
    refine r_icmp_le (tgt := 23) (pc := 12) dJ18_checkFromIndexSize_12 (by decide) ?_ ?_
    · skip
      refine r_iload_n (pc := 23) dJ18_checkFromIndexSize_23 rfl 0 rfl ?_
      exact r_iret (pc := 24) dJ18_checkFromIndexSize_24 rfl
    · skip
      refine r_aload_n (pc := 15) dJ18_checkFromIndexSize_15 rfl 3 rfl ?_
      refine r_iload_n (pc := 16) dJ18_checkFromIndexSize_16 rfl 0 rfl ?_
      refine r_iload_n (pc := 17) dJ18_checkFromIndexSize_17 rfl 1 rfl ?_
      refine r_iload_n (pc := 18) dJ18_checkFromIndexSize_18 rfl 2 rfl ?_
      exact AW_none
abbrev ck_J7_checkBoundsOffCount : CK := ("java/lang/String", prog_48_method_157_code, 3, (some .int), "checkBoundsOffCount", [], 2)
def f_J7_checkBoundsOffCount (γ : GP) (x0 : Int32) (x1 : Int32) (x2 : Int32) (g : AH) : Option (Int32 × AH) := bI (f_J18_checkFromIndexSize γ x0 x1 x2 (γ.1 3) g) fun v2 g1 => (some (v2, g1))
theorem t_J7_checkBoundsOffCount (γ : GP) (l : Launch) (hl : l.stackTraces = false) (x0 : Int32) (x1 : Int32) (x2 : Int32) (g : AH) : TrM ρI γ l ⟨"java/lang/String", "checkBoundsOffCount", "(III)I"⟩ (ws_ ⟨"java/lang/String", "checkBoundsOffCount", "(III)I"⟩ prog_48_method_157_code 3 (some .int)) 2 [.int x0, .int x1, .int x2] g (f_J7_checkBoundsOffCount γ x0 x1 x2 g) := by
  refine TrM_of (plainFor_of_name (by decide)) (Nat.le_of_ble_eq_true rfl) ?_
  unfold f_J7_checkBoundsOffCount
  change AW ρI γ l ck_J7_checkBoundsOffCount g 0 [(0, .int x0), (1, .int x1), (2, .int x2)] [] g _
  refine r_iload_n (pc := 0) dJ7_checkBoundsOffCount_0 rfl 0 rfl ?_
  refine r_iload_n (pc := 1) dJ7_checkBoundsOffCount_1 rfl 1 rfl ?_
  refine r_iload_n (pc := 2) dJ7_checkBoundsOffCount_2 rfl 2 rfl ?_
  refine r_gets (i := 3) (pc := 3) dJ7_checkBoundsOffCount_3 q524 (List.mem_of_getElem? (i := 3) rfl) rfl ?_
  refine r_cI (pc := 6) (rest := []) (run_S (n := 4) (As := [.int x0, .int x1, .int x2, .ref (γ.1 3)]) (rest := []) (t_J18_checkFromIndexSize γ l hl x0 x1 x2 (γ.1 3) g) dJ7_checkBoundsOffCount_6 q572 q573 q132 q574 (by decide +kernel) rfl (Nat.le_of_ble_eq_true rfl) (Nat.le_of_ble_eq_true rfl) rfl (Nat.le_of_ble_eq_true rfl)) (fun v2 g1 => ?_)
  exact r_iret (pc := 9) dJ7_checkBoundsOffCount_9 rfl
abbrev ck_J8_checkBoundsOffCount : CK := ("java/lang/StringUTF16", prog_52_method_94_code, 3, none, "checkBoundsOffCount", [], 3)
def f_J8_checkBoundsOffCount (γ : GP) (x0 : Int32) (x1 : Int32) (x2 : Nat) (g : AH) : Option (AH) := bI (f_J8_length γ x2 g) fun v2 g1 => bI (f_J7_checkBoundsOffCount γ x0 x1 v2 g1) fun v4 g3 => (some g3)
theorem t_J8_checkBoundsOffCount (γ : GP) (l : Launch) (hl : l.stackTraces = false) (x0 : Int32) (x1 : Int32) (x2 : Nat) (g : AH) : TrM ρV γ l ⟨"java/lang/StringUTF16", "checkBoundsOffCount", "(II[B)V"⟩ (ws_ ⟨"java/lang/StringUTF16", "checkBoundsOffCount", "(II[B)V"⟩ prog_52_method_94_code 3 none) 3 [.int x0, .int x1, .ref x2] g (f_J8_checkBoundsOffCount γ x0 x1 x2 g) := by
  refine TrM_of (plainFor_of_name (by decide)) (Nat.le_of_ble_eq_true rfl) ?_
  unfold f_J8_checkBoundsOffCount
  change AW ρV γ l ck_J8_checkBoundsOffCount g 0 [(0, .int x0), (1, .int x1), (2, .ref x2)] [] g _
  refine r_iload_n (pc := 0) dJ8_checkBoundsOffCount_0 rfl 0 rfl ?_
  refine r_iload_n (pc := 1) dJ8_checkBoundsOffCount_1 rfl 1 rfl ?_
  refine r_aload_n (pc := 2) dJ8_checkBoundsOffCount_2 rfl 2 rfl ?_
  refine r_cI (pc := 3) (rest := [.int x1, .int x0]) (run_S (n := 1) (As := [.ref x2]) (rest := [.int x1, .int x0]) (t_J8_length γ l hl x2 g) dJ8_checkBoundsOffCount_3 q518 q519 q120 q520 (by decide +kernel) rfl (Nat.le_of_ble_eq_true rfl) (Nat.le_of_ble_eq_true rfl) rfl (Nat.le_of_ble_eq_true rfl)) (fun v2 g1 => ?_)
  refine r_cI (pc := 6) (rest := []) (run_S (n := 3) (As := [.int x0, .int x1, .int v2]) (rest := []) (t_J7_checkBoundsOffCount γ l hl x0 x1 v2 g1) dJ8_checkBoundsOffCount_6 q569 q570 q119 q571 (by decide +kernel) rfl (Nat.le_of_ble_eq_true rfl) (Nat.le_of_ble_eq_true rfl) rfl (Nat.le_of_ble_eq_true rfl)) (fun v4 g3 => ?_)
  refine r_pop (pc := 9) dJ8_checkBoundsOffCount_9 rfl ?_
  exact r_vret (pc := 10) dJ8_checkBoundsOffCount_10 rfl
abbrev ck_J8_putChar : CK := ("java/lang/StringUTF16", prog_52_method_4_code, 3, none, "putChar", [], 2)
def f_J8_putChar (γ : GP) (x0 : Nat) (x1 : Int32) (x2 : Int32) (g : AH) : Option (AH) := jn (fun (g1 : AH) => pA γ g1 102 x0 (x1 <<< ((1 : Int32) &&& 31)) ((x2 >>> ((0 : Int32) &&& 31))).toInt8.toInt32 fun g3 => pA γ g3 102 x0 ((x1 <<< ((1 : Int32) &&& 31)) + (1 : Int32)) ((x2 >>> ((8 : Int32) &&& 31))).toInt8.toInt32 fun g4 => (some g4)) (fun (j2 : AH → Option (AH)) => (if (1 : Int32) = 0 then (if x1 < 0 then none else bI (f_J8_length γ x0 g) fun v6 g5 => (if x1 < v6 then j2 g5 else none)) else j2 g))
theorem t_J8_putChar (γ : GP) (l : Launch) (hl : l.stackTraces = false) (x0 : Nat) (x1 : Int32) (x2 : Int32) (g : AH) : TrM ρV γ l ⟨"java/lang/StringUTF16", "putChar", "([BII)V"⟩ (ws_ ⟨"java/lang/StringUTF16", "putChar", "([BII)V"⟩ prog_52_method_4_code 3 none) 2 [.ref x0, .int x1, .int x2] g (f_J8_putChar γ x0 x1 x2 g) := by
  refine TrM_of (plainFor_of_name (by decide)) (Nat.le_of_ble_eq_true rfl) ?_
  unfold f_J8_putChar
  change AW ρV γ l ck_J8_putChar g 0 [(0, .ref x0), (1, .int x1), (2, .int x2)] [] g _
  refine r_getsI (v := (1 : Int32)) (pc := 0) dJ8_putChar_0 q532 (List.mem_of_getElem? (i := 1) rfl) rfl ?_
  refine AW_jn (P := fun (j : AH → Option (AH)) => ∀ (g1 : AH), AW ρV γ l ck_J8_putChar g 28 [(0, .ref x0), (1, .int x1), (2, .int x2)] [] g1 (j g1)) (fun g1 => ?_) (fun j2 h_j2 => ?_)
  · skip
    refine r_iload_n (pc := 28) dJ8_putChar_28 rfl 1 rfl ?_
    refine r_iconst (v := (1 : Int32)) (pc := 29) dJ8_putChar_29 (by decide) ?_
    refine r_ishl (pc := 30) dJ8_putChar_30 ?_
    refine r_istore_n (pc := 31) dJ8_putChar_31 rfl (Nat.le_of_ble_eq_true rfl) rfl ?_
    refine r_aload_n (pc := 32) dJ8_putChar_32 rfl 1 rfl ?_
    refine r_iload_n (pc := 33) dJ8_putChar_33 rfl 0 rfl ?_
    refine r_iinc (j := 0) (v := ((x1 <<< ((1 : Int32) &&& 31)) + (1 : Int32))) (pc := 34) dJ8_putChar_34 rfl rfl (Nat.le_of_ble_eq_true rfl) rfl ?_
    refine r_iload_n (pc := 37) dJ8_putChar_37 rfl 2 rfl ?_
    refine r_getsI (v := (0 : Int32)) (pc := 38) dJ8_putChar_38 q534 (List.mem_of_getElem? (i := 2) rfl) rfl ?_
    refine r_ishr (pc := 41) dJ8_putChar_41 ?_
    refine r_i2b (pc := 42) dJ8_putChar_42 ?_
    refine r_bast (pc := 43) dJ8_putChar_43 (fun g3 => ?_)
    refine r_aload_n (pc := 44) dJ8_putChar_44 rfl 1 rfl ?_
    refine r_iload_n (pc := 45) dJ8_putChar_45 rfl 0 rfl ?_
    refine r_iload_n (pc := 46) dJ8_putChar_46 rfl 2 rfl ?_
    refine r_getsI (v := (8 : Int32)) (pc := 47) dJ8_putChar_47 q536 (List.mem_of_getElem? (i := 3) rfl) rfl ?_
    refine r_ishr (pc := 50) dJ8_putChar_50 ?_
    refine r_i2b (pc := 51) dJ8_putChar_51 ?_
    refine r_bast (pc := 52) dJ8_putChar_52 (fun g4 => ?_)
    exact r_vret (pc := 53) dJ8_putChar_53 rfl
  · skip
    refine r_if_ne (tgt := 28) (pc := 3) dJ8_putChar_3 (by decide) ?_ ?_
    · skip
      refine r_iload_n (pc := 6) dJ8_putChar_6 rfl 1 rfl ?_
      refine r_if_lt (tgt := 18) (pc := 7) dJ8_putChar_7 (by decide) ?_ ?_
      · skip
        exact AW_none
      · skip
        refine r_iload_n (pc := 10) dJ8_putChar_10 rfl 1 rfl ?_
        refine r_aload_n (pc := 11) dJ8_putChar_11 rfl 0 rfl ?_
        refine r_cI (pc := 12) (rest := [.int x1]) (run_S (n := 1) (As := [.ref x0]) (rest := [.int x1]) (t_J8_length γ l hl x0 g) dJ8_putChar_12 q518 q519 q120 q520 (by decide +kernel) rfl (Nat.le_of_ble_eq_true rfl) (Nat.le_of_ble_eq_true rfl) rfl (Nat.le_of_ble_eq_true rfl)) (fun v6 g5 => ?_)
        refine r_icmp_lt (tgt := 28) (pc := 15) dJ8_putChar_15 (by decide) ?_ ?_
        · skip
          exact h_j2 g5
        · skip
          exact AW_none
    · skip
      exact h_j2 g
abbrev ck_J8_inflate : CK := ("java/lang/StringUTF16", prog_52_method_86_code, 6, none, "inflate", [], 4)
def f_J8_inflate_L10 (γ : GP) (x0 : Nat) (x2 : Nat) (x4 : Int32) : Nat → Int32 → Int32 → Int32 → AH → Option (AH)
  | 0, _, _, _, _ => none
  | n + 1, x1, x3, x5, g => (if x4 ≤ x5 then (some g) else gA g 102 x0 x1 fun v2 => bV (f_J8_putChar γ x2 x3 (v2 &&& (255 : Int32)) g) fun g3 => f_J8_inflate_L10 γ x0 x2 x4 n (x1 + (1 : Int32)) (x3 + (1 : Int32)) (x5 + (1 : Int32)) g3)
def f_J8_inflate (γ : GP) (x0 : Nat) (x1 : Int32) (x2 : Nat) (x3 : Int32) (x4 : Int32) (g : AH) : Option (AH) := bV (f_J8_checkBoundsOffCount γ x3 x4 x2 g) fun g1 => f_J8_inflate_L10 γ x0 x2 x4 FU x1 x3 (0 : Int32) g1
theorem f_J8_inflate_L10_w (γ : GP) (l : Launch) (hl : l.stackTraces = false) (G0 : AH) (x0 : Nat) (x2 : Nat) (x4 : Int32) : ∀ (n : Nat) (x1 : Int32) (x3 : Int32) (x5 : Int32) (g : AH), AW ρV γ l ck_J8_inflate G0 10 [(0, .ref x0), (1, .int x1), (2, .ref x2), (3, .int x3), (4, .int x4), (5, .int x5)] [] g (f_J8_inflate_L10 γ x0 x2 x4 n x1 x3 x5 g) := by
  intro n
  induction n with
  | zero => intro x1 x3 x5 g; exact AW_none
  | succ n ih =>
    intro x1 x3 x5 g
    unfold f_J8_inflate_L10
    refine r_iload (pc := 10) dJ8_inflate_10 5 rfl ?_
    refine r_iload (pc := 12) dJ8_inflate_12 4 rfl ?_
    refine r_icmp_ge (tgt := 41) (pc := 14) dJ8_inflate_14 (by decide) ?_ ?_
    · skip
      exact r_vret (pc := 41) dJ8_inflate_41 rfl
    · skip
      refine r_aload_n (pc := 17) dJ8_inflate_17 rfl 2 rfl ?_
      refine r_iload_n (pc := 18) dJ8_inflate_18 rfl 3 rfl ?_
      refine r_iinc (j := 3) (v := (x3 + (1 : Int32))) (pc := 19) dJ8_inflate_19 rfl rfl (Nat.le_of_ble_eq_true rfl) rfl ?_
      refine r_aload_n (pc := 22) dJ8_inflate_22 rfl 1 rfl ?_
      refine r_iload_n (pc := 23) dJ8_inflate_23 rfl 2 rfl ?_
      refine r_iinc (j := 2) (v := (x1 + (1 : Int32))) (pc := 24) dJ8_inflate_24 rfl rfl (Nat.le_of_ble_eq_true rfl) rfl ?_
      refine r_bald (pc := 27) dJ8_inflate_27 (fun v2 => ?_)
      refine r_sipush (v := (255 : Int32)) (pc := 28) dJ8_inflate_28 (by decide) ?_
      refine r_iand (pc := 31) dJ8_inflate_31 ?_
      refine r_cV (pc := 32) (rest := []) (run_S (n := 3) (As := [.ref x2, .int x3, .int (v2 &&& (255 : Int32))]) (rest := []) (t_J8_putChar γ l hl x2 x3 (v2 &&& (255 : Int32)) g) dJ8_inflate_32 q529 q530 q120 q531 (by decide +kernel) rfl (Nat.le_of_ble_eq_true rfl) (Nat.le_of_ble_eq_true rfl) rfl (Nat.le_of_ble_eq_true rfl)) (fun g3 => ?_)
      refine r_iinc (j := 5) (v := (x5 + (1 : Int32))) (pc := 35) dJ8_inflate_35 rfl rfl (Nat.le_of_ble_eq_true rfl) rfl ?_
      refine r_goto (tgt := 10) (pc := 38) dJ8_inflate_38 (by decide) ?_
      refine AW_sub [3, 1, 4, 2, 5, 0] rfl ?_
      exact ih (x1 + (1 : Int32)) (x3 + (1 : Int32)) (x5 + (1 : Int32)) g3
theorem t_J8_inflate (γ : GP) (l : Launch) (hl : l.stackTraces = false) (x0 : Nat) (x1 : Int32) (x2 : Nat) (x3 : Int32) (x4 : Int32) (g : AH) : TrM ρV γ l ⟨"java/lang/StringUTF16", "inflate", "([BI[BII)V"⟩ (ws_ ⟨"java/lang/StringUTF16", "inflate", "([BI[BII)V"⟩ prog_52_method_86_code 6 none) 4 [.ref x0, .int x1, .ref x2, .int x3, .int x4] g (f_J8_inflate γ x0 x1 x2 x3 x4 g) := by
  refine TrM_of (plainFor_of_name (by decide)) (Nat.le_of_ble_eq_true rfl) ?_
  unfold f_J8_inflate
  change AW ρV γ l ck_J8_inflate g 0 [(0, .ref x0), (1, .int x1), (2, .ref x2), (3, .int x3), (4, .int x4)] [] g _
  refine r_iload_n (pc := 0) dJ8_inflate_0 rfl 3 rfl ?_
  refine r_iload (pc := 1) dJ8_inflate_1 4 rfl ?_
  refine r_aload_n (pc := 3) dJ8_inflate_3 rfl 2 rfl ?_
  refine r_cV (pc := 4) (rest := []) (run_S (n := 3) (As := [.int x3, .int x4, .ref x2]) (rest := []) (t_J8_checkBoundsOffCount γ l hl x3 x4 x2 g) dJ8_inflate_4 q566 q567 q120 q568 (by decide +kernel) rfl (Nat.le_of_ble_eq_true rfl) (Nat.le_of_ble_eq_true rfl) rfl (Nat.le_of_ble_eq_true rfl)) (fun g1 => ?_)
  refine r_iconst (v := (0 : Int32)) (pc := 7) dJ8_inflate_7 (by decide) ?_
  refine r_istore (pc := 8) dJ8_inflate_8 (Nat.le_of_ble_eq_true rfl) rfl ?_
  refine AW_sub [1, 2, 3, 4, 5, 0] rfl ?_
  refine f_J8_inflate_L10_w γ l hl _ x0 x2 x4 FU x1 x3 (0 : Int32) g1
abbrev ck_J19_inflate : CK := ("java/lang/StringLatin1", prog_51_method_50_code, 5, none, "inflate", [], 5)
def f_J19_inflate (γ : GP) (x0 : Nat) (x1 : Int32) (x2 : Nat) (x3 : Int32) (x4 : Int32) (g : AH) : Option (AH) := bV (f_J8_inflate γ x0 x1 x2 x3 x4 g) fun g1 => (some g1)
theorem t_J19_inflate (γ : GP) (l : Launch) (hl : l.stackTraces = false) (x0 : Nat) (x1 : Int32) (x2 : Nat) (x3 : Int32) (x4 : Int32) (g : AH) : TrM ρV γ l ⟨"java/lang/StringLatin1", "inflate", "([BI[BII)V"⟩ (ws_ ⟨"java/lang/StringLatin1", "inflate", "([BI[BII)V"⟩ prog_51_method_50_code 5 none) 5 [.ref x0, .int x1, .ref x2, .int x3, .int x4] g (f_J19_inflate γ x0 x1 x2 x3 x4 g) := by
  refine TrM_of (plainFor_of_name (by decide)) (Nat.le_of_ble_eq_true rfl) ?_
  unfold f_J19_inflate
  change AW ρV γ l ck_J19_inflate g 0 [(0, .ref x0), (1, .int x1), (2, .ref x2), (3, .int x3), (4, .int x4)] [] g _
  refine r_aload_n (pc := 0) dJ19_inflate_0 rfl 0 rfl ?_
  refine r_iload_n (pc := 1) dJ19_inflate_1 rfl 1 rfl ?_
  refine r_aload_n (pc := 2) dJ19_inflate_2 rfl 2 rfl ?_
  refine r_iload_n (pc := 3) dJ19_inflate_3 rfl 3 rfl ?_
  refine r_iload (pc := 4) dJ19_inflate_4 4 rfl ?_
  refine r_cV (pc := 6) (rest := []) (run_S (n := 5) (As := [.ref x0, .int x1, .ref x2, .int x3, .int x4]) (rest := []) (t_J8_inflate γ l hl x0 x1 x2 x3 x4 g) dJ19_inflate_6 q563 q564 q120 q565 (by decide +kernel) rfl (Nat.le_of_ble_eq_true rfl) (Nat.le_of_ble_eq_true rfl) rfl (Nat.le_of_ble_eq_true rfl)) (fun g1 => ?_)
  exact r_vret (pc := 9) dJ19_inflate_9 rfl
abbrev ck_J5_inflate : CK := ("java/lang/AbstractStringBuilder", prog_27_method_11_code, 2, none, "inflate", [], 6)
def f_J5_inflate (γ : GP) (x0 : Nat) (g : AH) : Option (AH) := bI ((if hK g x0 = 6 then f_J5_isLatin1 γ x0 g else none)) fun v2 g1 => (if v2 = 0 then (some g1) else gR g1 x0 22 fun v3 => gL g1 v3 fun v4 => bR (f_J8_newBytesFor γ v4 g1) fun v6 g5 => gR g5 x0 22 fun v7 => gI g5 x0 25 fun v8 => bV (f_J19_inflate γ v7 (0 : Int32) v6 (0 : Int32) v8 g5) fun g9 => pR γ g9 x0 22 v6 fun g10 => pI γ g10 x0 23 (1 : Int32) fun g11 => (some g11))
theorem t_J5_inflate (γ : GP) (l : Launch) (hl : l.stackTraces = false) (x0 : Nat) (g : AH) : TrM ρV γ l ⟨"java/lang/AbstractStringBuilder", "inflate", "()V"⟩ (ws_ ⟨"java/lang/AbstractStringBuilder", "inflate", "()V"⟩ prog_27_method_11_code 2 none) 6 [.ref x0] g (f_J5_inflate γ x0 g) := by
  refine TrM_of (plainFor_of_name (by decide)) (Nat.le_of_ble_eq_true rfl) ?_
  unfold f_J5_inflate
  change AW ρV γ l ck_J5_inflate g 0 [(0, .ref x0)] [] g _
  refine r_aload_n (pc := 0) dJ5_inflate_0 rfl 0 rfl ?_
  refine r_cI (pc := 1) (rest := []) (RunOK_chk (fun h => run_U (n := 0) (c9 := 6) (As := []) (rest := []) (owner := "java/lang/AbstractStringBuilder") (t_J5_isLatin1 γ l hl x0 g) dJ5_inflate_1 q507 q509 q510 q508 q117 q511 rfl ⟨by decide, by decide, by decide +kernel⟩ rfl h ⟨by decide, by decide⟩ (Nat.le_of_ble_eq_true rfl) (Nat.le_of_ble_eq_true rfl) rfl (Nat.le_of_ble_eq_true rfl))) (fun v2 g1 => ?_)
  refine r_if_ne (tgt := 8) (pc := 4) dJ5_inflate_4 (by decide) ?_ ?_
  · skip
    exact r_vret (pc := 7) dJ5_inflate_7 rfl
  · skip
    refine r_aload_n (pc := 8) dJ5_inflate_8 rfl 0 rfl ?_
    refine r_getR (f := 22) (pc := 9) dJ5_inflate_9 q304 (Or.inl rfl) rfl (fun v3 => ?_)
    refine r_alen (pc := 12) dJ5_inflate_12 (fun v4 => ?_)
    refine r_cR (pc := 13) (rest := []) (run_S (n := 1) (As := [.int v4]) (rest := []) (t_J8_newBytesFor γ l hl v4 g1) dJ5_inflate_13 q297 q298 q120 q299 (by decide +kernel) rfl (Nat.le_of_ble_eq_true rfl) (Nat.le_of_ble_eq_true rfl) rfl (Nat.le_of_ble_eq_true rfl)) (fun v6 g5 => ?_)
    refine r_astore_n (pc := 16) dJ5_inflate_16 rfl (Nat.le_of_ble_eq_true rfl) rfl ?_
    refine r_aload_n (pc := 17) dJ5_inflate_17 rfl 1 rfl ?_
    refine r_getR (f := 22) (pc := 18) dJ5_inflate_18 q304 (Or.inl rfl) rfl (fun v7 => ?_)
    refine r_iconst (v := (0 : Int32)) (pc := 21) dJ5_inflate_21 (by decide) ?_
    refine r_aload_n (pc := 22) dJ5_inflate_22 rfl 0 rfl ?_
    refine r_iconst (v := (0 : Int32)) (pc := 23) dJ5_inflate_23 (by decide) ?_
    refine r_aload_n (pc := 24) dJ5_inflate_24 rfl 1 rfl ?_
    refine r_getI (f := 25) (pc := 25) dJ5_inflate_25 q308 (Or.inl rfl) rfl (fun v8 => ?_)
    refine r_cV (pc := 28) (rest := []) (run_S (n := 5) (As := [.ref v7, .int (0 : Int32), .ref v6, .int (0 : Int32), .int v8]) (rest := []) (t_J19_inflate γ l hl v7 (0 : Int32) v6 (0 : Int32) v8 g5) dJ5_inflate_28 q560 q561 q133 q562 (by decide +kernel) rfl (Nat.le_of_ble_eq_true rfl) (Nat.le_of_ble_eq_true rfl) rfl (Nat.le_of_ble_eq_true rfl)) (fun g9 => ?_)
    refine r_aload_n (pc := 31) dJ5_inflate_31 rfl 1 rfl ?_
    refine r_aload_n (pc := 32) dJ5_inflate_32 rfl 0 rfl ?_
    refine r_putR (f := 22) (pc := 33) dJ5_inflate_33 q304 (Or.inl rfl) (Or.inl rfl) rfl (fun g10 => ?_)
    refine r_aload_n (pc := 36) dJ5_inflate_36 rfl 1 rfl ?_
    refine r_iconst (v := (1 : Int32)) (pc := 37) dJ5_inflate_37 (by decide) ?_
    refine r_putI (f := 23) (pc := 38) dJ5_inflate_38 q305 (Or.inl rfl) (Or.inl rfl) rfl (fun g11 => ?_)
    exact r_vret (pc := 41) dJ5_inflate_41 rfl
abbrev ck_J7_checkIndex : CK := ("java/lang/String", prog_48_method_155_code, 2, none, "checkIndex", [], 2)
def f_J7_checkIndex (γ : GP) (x0 : Int32) (x1 : Int32) (g : AH) : Option (AH) := bI (f_J18_checkIndex γ x0 x1 (γ.1 3) g) fun v2 g1 => (some g1)
theorem t_J7_checkIndex (γ : GP) (l : Launch) (hl : l.stackTraces = false) (x0 : Int32) (x1 : Int32) (g : AH) : TrM ρV γ l ⟨"java/lang/String", "checkIndex", "(II)V"⟩ (ws_ ⟨"java/lang/String", "checkIndex", "(II)V"⟩ prog_48_method_155_code 2 none) 2 [.int x0, .int x1] g (f_J7_checkIndex γ x0 x1 g) := by
  refine TrM_of (plainFor_of_name (by decide)) (Nat.le_of_ble_eq_true rfl) ?_
  unfold f_J7_checkIndex
  change AW ρV γ l ck_J7_checkIndex g 0 [(0, .int x0), (1, .int x1)] [] g _
  refine r_iload_n (pc := 0) dJ7_checkIndex_0 rfl 0 rfl ?_
  refine r_iload_n (pc := 1) dJ7_checkIndex_1 rfl 1 rfl ?_
  refine r_gets (i := 3) (pc := 2) dJ7_checkIndex_2 q524 (List.mem_of_getElem? (i := 3) rfl) rfl ?_
  refine r_cI (pc := 5) (rest := []) (run_S (n := 3) (As := [.int x0, .int x1, .ref (γ.1 3)]) (rest := []) (t_J18_checkIndex γ l hl x0 x1 (γ.1 3) g) dJ7_checkIndex_5 q2942 q850 q132 q851 (by decide +kernel) rfl (Nat.le_of_ble_eq_true rfl) (Nat.le_of_ble_eq_true rfl) rfl (Nat.le_of_ble_eq_true rfl)) (fun v2 g1 => ?_)
  refine r_pop (pc := 8) dJ7_checkIndex_8 rfl ?_
  exact r_vret (pc := 9) dJ7_checkIndex_9 rfl
abbrev ck_J8_checkIndex : CK := ("java/lang/StringUTF16", prog_52_method_91_code, 2, none, "checkIndex", [], 3)
def f_J8_checkIndex (γ : GP) (x0 : Int32) (x1 : Nat) (g : AH) : Option (AH) := bI (f_J8_length γ x1 g) fun v2 g1 => bV (f_J7_checkIndex γ x0 v2 g1) fun g3 => (some g3)
theorem t_J8_checkIndex (γ : GP) (l : Launch) (hl : l.stackTraces = false) (x0 : Int32) (x1 : Nat) (g : AH) : TrM ρV γ l ⟨"java/lang/StringUTF16", "checkIndex", "(I[B)V"⟩ (ws_ ⟨"java/lang/StringUTF16", "checkIndex", "(I[B)V"⟩ prog_52_method_91_code 2 none) 3 [.int x0, .ref x1] g (f_J8_checkIndex γ x0 x1 g) := by
  refine TrM_of (plainFor_of_name (by decide)) (Nat.le_of_ble_eq_true rfl) ?_
  unfold f_J8_checkIndex
  change AW ρV γ l ck_J8_checkIndex g 0 [(0, .int x0), (1, .ref x1)] [] g _
  refine r_iload_n (pc := 0) dJ8_checkIndex_0 rfl 0 rfl ?_
  refine r_aload_n (pc := 1) dJ8_checkIndex_1 rfl 1 rfl ?_
  refine r_cI (pc := 2) (rest := [.int x0]) (run_S (n := 1) (As := [.ref x1]) (rest := [.int x0]) (t_J8_length γ l hl x1 g) dJ8_checkIndex_2 q518 q519 q120 q520 (by decide +kernel) rfl (Nat.le_of_ble_eq_true rfl) (Nat.le_of_ble_eq_true rfl) rfl (Nat.le_of_ble_eq_true rfl)) (fun v2 g1 => ?_)
  refine r_cV (pc := 5) (rest := []) (run_S (n := 2) (As := [.int x0, .int v2]) (rest := []) (t_J7_checkIndex γ l hl x0 v2 g1) dJ8_checkIndex_5 q2939 q2940 q119 q2941 (by decide +kernel) rfl (Nat.le_of_ble_eq_true rfl) (Nat.le_of_ble_eq_true rfl) rfl (Nat.le_of_ble_eq_true rfl)) (fun g3 => ?_)
  exact r_vret (pc := 8) dJ8_checkIndex_8 rfl
abbrev ck_J8_putCharSB : CK := ("java/lang/StringUTF16", prog_52_method_71_code, 3, none, "putCharSB", [], 4)
def f_J8_putCharSB (γ : GP) (x0 : Nat) (x1 : Int32) (x2 : Int32) (g : AH) : Option (AH) := bV (f_J8_checkIndex γ x1 x0 g) fun g1 => bV (f_J8_putChar γ x0 x1 x2 g1) fun g2 => (some g2)
theorem t_J8_putCharSB (γ : GP) (l : Launch) (hl : l.stackTraces = false) (x0 : Nat) (x1 : Int32) (x2 : Int32) (g : AH) : TrM ρV γ l ⟨"java/lang/StringUTF16", "putCharSB", "([BII)V"⟩ (ws_ ⟨"java/lang/StringUTF16", "putCharSB", "([BII)V"⟩ prog_52_method_71_code 3 none) 4 [.ref x0, .int x1, .int x2] g (f_J8_putCharSB γ x0 x1 x2 g) := by
  refine TrM_of (plainFor_of_name (by decide)) (Nat.le_of_ble_eq_true rfl) ?_
  unfold f_J8_putCharSB
  change AW ρV γ l ck_J8_putCharSB g 0 [(0, .ref x0), (1, .int x1), (2, .int x2)] [] g _
  refine r_iload_n (pc := 0) dJ8_putCharSB_0 rfl 1 rfl ?_
  refine r_aload_n (pc := 1) dJ8_putCharSB_1 rfl 0 rfl ?_
  refine r_cV (pc := 2) (rest := []) (run_S (n := 2) (As := [.int x1, .ref x0]) (rest := []) (t_J8_checkIndex γ l hl x1 x0 g) dJ8_putCharSB_2 q2936 q2937 q120 q2938 (by decide +kernel) rfl (Nat.le_of_ble_eq_true rfl) (Nat.le_of_ble_eq_true rfl) rfl (Nat.le_of_ble_eq_true rfl)) (fun g1 => ?_)
  refine r_aload_n (pc := 5) dJ8_putCharSB_5 rfl 0 rfl ?_
  refine r_iload_n (pc := 6) dJ8_putCharSB_6 rfl 1 rfl ?_
  refine r_iload_n (pc := 7) dJ8_putCharSB_7 rfl 2 rfl ?_
  refine r_cV (pc := 8) (rest := []) (run_S (n := 3) (As := [.ref x0, .int x1, .int x2]) (rest := []) (t_J8_putChar γ l hl x0 x1 x2 g1) dJ8_putCharSB_8 q529 q530 q120 q531 (by decide +kernel) rfl (Nat.le_of_ble_eq_true rfl) (Nat.le_of_ble_eq_true rfl) rfl (Nat.le_of_ble_eq_true rfl)) (fun g2 => ?_)
  exact r_vret (pc := 11) dJ8_putCharSB_11 rfl
abbrev ck_J5_append_3 : CK := ("java/lang/AbstractStringBuilder", prog_27_method_31_code, 2, (some (.object "java/lang/AbstractStringBuilder")), "append", [], 7)
def f_J5_append_3 (γ : GP) (x0 : Nat) (x1 : Int32) (g : AH) : Option (Nat × AH) := gI g x0 25 fun v1 => bV ((if hK g x0 = 6 then f_J5_ensureCapacityInternal γ x0 (v1 + (1 : Int32)) g else none)) fun g2 => bI ((if hK g2 x0 = 6 then f_J5_isLatin1 γ x0 g2 else none)) fun v4 g3 => jn (fun (g5 : AH) => bI ((if hK g5 x0 = 6 then f_J5_isLatin1 γ x0 g5 else none)) fun v8 g7 => jn (fun (g9 : AH) => gR g9 x0 22 fun v11 => gI g9 x0 25 fun v12 => pI γ g9 x0 25 (v12 + (1 : Int32)) fun g13 => bV (f_J8_putCharSB γ v11 v12 x1 g13) fun g14 => (some (x0, g14))) (fun (j10 : AH → Option (Nat × AH)) => (if v8 = 0 then j10 g7 else bV ((if hK g7 x0 = 6 then f_J5_inflate γ x0 g7 else none)) fun g15 => j10 g15))) (fun (j6 : AH → Option (Nat × AH)) => (if v4 = 0 then j6 g3 else bI (f_J19_canEncode γ x1 g3) fun v17 g16 => (if v17 = 0 then j6 g16 else gR g16 x0 22 fun v18 => gI g16 x0 25 fun v19 => pI γ g16 x0 25 (v19 + (1 : Int32)) fun g20 => pA γ g20 102 v18 v19 (x1).toInt8.toInt32 fun g21 => (some (x0, g21)))))
theorem t_J5_append_3 (γ : GP) (l : Launch) (hl : l.stackTraces = false) (x0 : Nat) (x1 : Int32) (g : AH) : TrM ρR γ l ⟨"java/lang/AbstractStringBuilder", "append", "(C)Ljava/lang/AbstractStringBuilder;"⟩ (ws_ ⟨"java/lang/AbstractStringBuilder", "append", "(C)Ljava/lang/AbstractStringBuilder;"⟩ prog_27_method_31_code 2 (some (.object "java/lang/AbstractStringBuilder"))) 7 [.ref x0, .int x1] g (f_J5_append_3 γ x0 x1 g) := by
  refine TrM_of (plainFor_of_name (by decide)) (Nat.le_of_ble_eq_true rfl) ?_
  unfold f_J5_append_3
  change AW ρR γ l ck_J5_append_3 g 0 [(0, .ref x0), (1, .int x1)] [] g _
  refine r_aload_n (pc := 0) dJ5_append_3_0 rfl 0 rfl ?_
  refine r_aload_n (pc := 1) dJ5_append_3_1 rfl 0 rfl ?_
  refine r_getI (f := 25) (pc := 2) dJ5_append_3_2 q308 (Or.inl rfl) rfl (fun v1 => ?_)
  refine r_iconst (v := (1 : Int32)) (pc := 5) dJ5_append_3_5 (by decide) ?_
  refine r_iadd (pc := 6) dJ5_append_3_6 ?_
  refine r_cV (pc := 7) (rest := []) (RunOK_chk (fun h => run_P (n := 1) (c9 := 6) (As := [.int (v1 + (1 : Int32))]) (rest := []) (t_J5_ensureCapacityInternal γ l hl x0 (v1 + (1 : Int32)) g) dJ5_append_3_7 q472 q3884 mv473 q474 q117 q475 (by decide +kernel) rfl h ⟨by decide, by decide⟩ (Nat.le_of_ble_eq_true rfl) (Nat.le_of_ble_eq_true rfl) rfl (Nat.le_of_ble_eq_true rfl))) (fun g2 => ?_)
  refine r_aload_n (pc := 10) dJ5_append_3_10 rfl 0 rfl ?_
  refine r_cI (pc := 11) (rest := []) (RunOK_chk (fun h => run_U (n := 0) (c9 := 6) (As := []) (rest := []) (owner := "java/lang/AbstractStringBuilder") (t_J5_isLatin1 γ l hl x0 g2) dJ5_append_3_11 q507 q509 q510 q508 q117 q511 rfl ⟨by decide, by decide, by decide +kernel⟩ rfl h ⟨by decide, by decide⟩ (Nat.le_of_ble_eq_true rfl) (Nat.le_of_ble_eq_true rfl) rfl (Nat.le_of_ble_eq_true rfl))) (fun v4 g3 => ?_)
  refine AW_jn (P := fun (j : AH → Option (Nat × AH)) => ∀ (g5 : AH), AW ρR γ l ck_J5_append_3 g 45 [(0, .ref x0), (1, .int x1)] [] g5 (j g5)) (fun g5 => ?_) (fun j6 h_j6 => ?_)
  · skip
    refine r_aload_n (pc := 45) dJ5_append_3_45 rfl 0 rfl ?_
    refine r_cI (pc := 46) (rest := []) (RunOK_chk (fun h => run_U (n := 0) (c9 := 6) (As := []) (rest := []) (owner := "java/lang/AbstractStringBuilder") (t_J5_isLatin1 γ l hl x0 g5) dJ5_append_3_46 q507 q509 q510 q508 q117 q511 rfl ⟨by decide, by decide, by decide +kernel⟩ rfl h ⟨by decide, by decide⟩ (Nat.le_of_ble_eq_true rfl) (Nat.le_of_ble_eq_true rfl) rfl (Nat.le_of_ble_eq_true rfl))) (fun v8 g7 => ?_)
    refine AW_jn (P := fun (j : AH → Option (Nat × AH)) => ∀ (g9 : AH), AW ρR γ l ck_J5_append_3 g 56 [(0, .ref x0), (1, .int x1)] [] g9 (j g9)) (fun g9 => ?_) (fun j10 h_j10 => ?_)
    · skip
      refine r_aload_n (pc := 56) dJ5_append_3_56 rfl 0 rfl ?_
      refine r_getR (f := 22) (pc := 57) dJ5_append_3_57 q304 (Or.inl rfl) rfl (fun v11 => ?_)
      refine r_aload_n (pc := 60) dJ5_append_3_60 rfl 0 rfl ?_
      refine r_dup (pc := 61) dJ5_append_3_61 rfl ?_
      refine r_getI (f := 25) (pc := 62) dJ5_append_3_62 q308 (Or.inl rfl) rfl (fun v12 => ?_)
      refine r_dup_x1 (pc := 65) dJ5_append_3_65 rfl rfl ?_
      refine r_iconst (v := (1 : Int32)) (pc := 66) dJ5_append_3_66 (by decide) ?_
      refine r_iadd (pc := 67) dJ5_append_3_67 ?_
      refine r_putI (f := 25) (pc := 68) dJ5_append_3_68 q308 (Or.inl rfl) (Or.inl rfl) rfl (fun g13 => ?_)
      refine r_iload_n (pc := 71) dJ5_append_3_71 rfl 1 rfl ?_
      refine r_cV (pc := 72) (rest := []) (run_S (n := 3) (As := [.ref v11, .int v12, .int x1]) (rest := []) (t_J8_putCharSB γ l hl v11 v12 x1 g13) dJ5_append_3_72 q2933 q2934 q120 q2935 (by decide +kernel) rfl (Nat.le_of_ble_eq_true rfl) (Nat.le_of_ble_eq_true rfl) rfl (Nat.le_of_ble_eq_true rfl)) (fun g14 => ?_)
      refine r_aload_n (pc := 75) dJ5_append_3_75 rfl 0 rfl ?_
      exact r_aret (pc := 76) dJ5_append_3_76 rfl (by first | exact Or.inl ⟨_, rfl⟩ | exact Or.inr ⟨_, rfl⟩)
    · skip
      refine r_if_eq (tgt := 56) (pc := 49) dJ5_append_3_49 (by decide) ?_ ?_
      · skip
        exact h_j10 g7
      · skip
        refine r_aload_n (pc := 52) dJ5_append_3_52 rfl 0 rfl ?_
        refine r_cV (pc := 53) (rest := []) (RunOK_chk (fun h => run_P (n := 0) (c9 := 6) (As := []) (rest := []) (t_J5_inflate γ l hl x0 g7) dJ5_append_3_53 q556 q3888 mv557 q558 q117 q559 (by decide +kernel) rfl h ⟨by decide, by decide⟩ (Nat.le_of_ble_eq_true rfl) (Nat.le_of_ble_eq_true rfl) rfl (Nat.le_of_ble_eq_true rfl))) (fun g15 => ?_)
        exact h_j10 g15
  · skip
    refine r_if_eq (tgt := 45) (pc := 14) dJ5_append_3_14 (by decide) ?_ ?_
    · skip
      exact h_j6 g3
    · skip
      refine r_iload_n (pc := 17) dJ5_append_3_17 rfl 1 rfl ?_
      refine r_cI (pc := 18) (rest := []) (run_S (n := 1) (As := [.int x1]) (rest := []) (t_J19_canEncode γ l hl x1 g3) dJ5_append_3_18 q2930 q2931 q133 q2932 (by decide +kernel) rfl (Nat.le_of_ble_eq_true rfl) (Nat.le_of_ble_eq_true rfl) rfl (Nat.le_of_ble_eq_true rfl)) (fun v17 g16 => ?_)
      refine r_if_eq (tgt := 45) (pc := 21) dJ5_append_3_21 (by decide) ?_ ?_
      · skip
        exact h_j6 g16
      · skip
        refine r_aload_n (pc := 24) dJ5_append_3_24 rfl 0 rfl ?_
        refine r_getR (f := 22) (pc := 25) dJ5_append_3_25 q304 (Or.inl rfl) rfl (fun v18 => ?_)
        refine r_aload_n (pc := 28) dJ5_append_3_28 rfl 0 rfl ?_
        refine r_dup (pc := 29) dJ5_append_3_29 rfl ?_
        refine r_getI (f := 25) (pc := 30) dJ5_append_3_30 q308 (Or.inl rfl) rfl (fun v19 => ?_)
        refine r_dup_x1 (pc := 33) dJ5_append_3_33 rfl rfl ?_
        refine r_iconst (v := (1 : Int32)) (pc := 34) dJ5_append_3_34 (by decide) ?_
        refine r_iadd (pc := 35) dJ5_append_3_35 ?_
        refine r_putI (f := 25) (pc := 36) dJ5_append_3_36 q308 (Or.inl rfl) (Or.inl rfl) rfl (fun g20 => ?_)
        refine r_iload_n (pc := 39) dJ5_append_3_39 rfl 1 rfl ?_
        refine r_i2b (pc := 40) dJ5_append_3_40 ?_
        refine r_bast (pc := 41) dJ5_append_3_41 (fun g21 => ?_)
        refine r_goto (tgt := 75) (pc := 42) dJ5_append_3_42 (by decide) ?_
        refine r_aload_n (pc := 75) dJ5_append_3_75 rfl 0 rfl ?_
        exact r_aret (pc := 76) dJ5_append_3_76 rfl (by first | exact Or.inl ⟨_, rfl⟩ | exact Or.inr ⟨_, rfl⟩)
abbrev ck_J6_append_3 : CK := ("java/lang/StringBuilder", prog_49_method_14_code, 2, (some (.object "java/lang/StringBuilder")), "append", [], 8)
def f_J6_append_3 (γ : GP) (x0 : Nat) (x1 : Int32) (g : AH) : Option (Nat × AH) := bR ((if hK g x0 = 6 then f_J5_append_3 γ x0 x1 g else none)) fun v2 g1 => (some (x0, g1))
theorem t_J6_append_3 (γ : GP) (l : Launch) (hl : l.stackTraces = false) (x0 : Nat) (x1 : Int32) (g : AH) : TrM ρR γ l ⟨"java/lang/StringBuilder", "append", "(C)Ljava/lang/StringBuilder;"⟩ (ws_ ⟨"java/lang/StringBuilder", "append", "(C)Ljava/lang/StringBuilder;"⟩ prog_49_method_14_code 2 (some (.object "java/lang/StringBuilder"))) 8 [.ref x0, .int x1] g (f_J6_append_3 γ x0 x1 g) := by
  refine TrM_of (plainFor_of_name (by decide)) (Nat.le_of_ble_eq_true rfl) ?_
  unfold f_J6_append_3
  change AW ρR γ l ck_J6_append_3 g 0 [(0, .ref x0), (1, .int x1)] [] g _
  refine r_aload_n (pc := 0) dJ6_append_3_0 rfl 0 rfl ?_
  refine r_iload_n (pc := 1) dJ6_append_3_1 rfl 1 rfl ?_
  refine r_cR (pc := 2) (rest := []) (RunOK_chk (fun h => run_SU (n := 1) (As := [.int x1]) (rest := []) (t_J5_append_3 γ l hl x0 x1 g) dJ6_append_3_2 q2927 q3911 q317 q2928 q117 q2929 ⟨by decide, by decide +kernel⟩ rfl h ⟨by decide, by decide⟩ (Nat.le_of_ble_eq_true rfl) (Nat.le_of_ble_eq_true rfl) rfl (Nat.le_of_ble_eq_true rfl))) (fun v2 g1 => ?_)
  refine r_pop (pc := 5) dJ6_append_3_5 rfl ?_
  refine r_aload_n (pc := 6) dJ6_append_3_6 rfl 0 rfl ?_
  exact r_aret (pc := 7) dJ6_append_3_7 rfl (by first | exact Or.inl ⟨_, rfl⟩ | exact Or.inr ⟨_, rfl⟩)
abbrev ck_J5_getValue : CK := ("java/lang/AbstractStringBuilder", prog_27_method_64_code, 1, (some (.array .byte)), "getValue", [], 1)
def f_J5_getValue (γ : GP) (x0 : Nat) (g : AH) : Option (Nat × AH) := gR g x0 22 fun v1 => (some (v1, g))
theorem t_J5_getValue (γ : GP) (l : Launch) (hl : l.stackTraces = false) (x0 : Nat) (g : AH) : TrM ρR γ l ⟨"java/lang/AbstractStringBuilder", "getValue", "()[B"⟩ (ws_ ⟨"java/lang/AbstractStringBuilder", "getValue", "()[B"⟩ prog_27_method_64_code 1 (some (.array .byte))) 1 [.ref x0] g (f_J5_getValue γ x0 g) := by
  refine TrM_of (plainFor_of_name (by decide)) (Nat.le_of_ble_eq_true rfl) ?_
  unfold f_J5_getValue
  change AW ρR γ l ck_J5_getValue g 0 [(0, .ref x0)] [] g _
  refine r_aload_n (pc := 0) dJ5_getValue_0 rfl 0 rfl ?_
  refine r_getR (f := 22) (pc := 1) dJ5_getValue_1 q304 (Or.inl rfl) rfl (fun v1 => ?_)
  exact r_aret (pc := 4) dJ5_getValue_4 rfl (by first | exact Or.inl ⟨_, rfl⟩ | exact Or.inr ⟨_, rfl⟩)
abbrev ck_J17_checkLength : CK := ("java/util/Arrays", prog_69_method_131_code, 2, none, "checkLength", [], 1)
def f_J17_checkLength (γ : GP) (x0 : Int32) (x1 : Int32) (g : AH) : Option (AH) := (if x0 ≤ x1 then (some g) else none)
theorem t_J17_checkLength (γ : GP) (l : Launch) (hl : l.stackTraces = false) (x0 : Int32) (x1 : Int32) (g : AH) : TrM ρV γ l ⟨"java/util/Arrays", "checkLength", "(II)V"⟩ (ws_ ⟨"java/util/Arrays", "checkLength", "(II)V"⟩ prog_69_method_131_code 2 none) 1 [.int x0, .int x1] g (f_J17_checkLength γ x0 x1 g) := by
  refine TrM_of (plainFor_of_name (by decide)) (Nat.le_of_ble_eq_true rfl) ?_
  unfold f_J17_checkLength
  change AW ρV γ l ck_J17_checkLength g 0 [(0, .int x0), (1, .int x1)] [] g _
  refine r_iload_n (pc := 0) dJ17_checkLength_0 rfl 1 rfl ?_
  refine r_iload_n (pc := 1) dJ17_checkLength_1 rfl 0 rfl ?_
  refine r_icmp_ge (tgt := 37) (pc := 2) dJ17_checkLength_2 (by decide) ?_ ?_
  · skip
    exact r_vret (pc := 37) dJ17_checkLength_37 rfl
  · skip
    exact AW_none
abbrev ck_J17_copyOfRangeByte : CK := ("java/util/Arrays", prog_69_method_133_code, 5, (some (.array .byte)), "copyOfRangeByte", [], 2)
def f_J17_copyOfRangeByte (γ : GP) (x0 : Nat) (x1 : Int32) (x2 : Int32) (g : AH) : Option (Nat × AH) := bV (f_J17_checkLength γ x1 x2 g) fun g1 => mA g1 102 (x2 - x1) fun q2 g3 => gL g3 x0 fun v4 => bI (f_J16_min γ (v4 - x1) (x2 - x1) g3) fun v6 g5 => nCA γ g5 102 x0 x1 q2 (0 : Int32) v6 fun g7 => (some (q2, g7))
theorem t_J17_copyOfRangeByte (γ : GP) (l : Launch) (hl : l.stackTraces = false) (x0 : Nat) (x1 : Int32) (x2 : Int32) (g : AH) : TrM ρR γ l ⟨"java/util/Arrays", "copyOfRangeByte", "([BII)[B"⟩ (ws_ ⟨"java/util/Arrays", "copyOfRangeByte", "([BII)[B"⟩ prog_69_method_133_code 5 (some (.array .byte))) 2 [.ref x0, .int x1, .int x2] g (f_J17_copyOfRangeByte γ x0 x1 x2 g) := by
  refine TrM_of (plainFor_of_name (by decide)) (Nat.le_of_ble_eq_true rfl) ?_
  unfold f_J17_copyOfRangeByte
  change AW ρR γ l ck_J17_copyOfRangeByte g 0 [(0, .ref x0), (1, .int x1), (2, .int x2)] [] g _
  refine r_iload_n (pc := 0) dJ17_copyOfRangeByte_0 rfl 1 rfl ?_
  refine r_iload_n (pc := 1) dJ17_copyOfRangeByte_1 rfl 2 rfl ?_
  refine r_cV (pc := 2) (rest := []) (run_S (n := 2) (As := [.int x1, .int x2]) (rest := []) (t_J17_checkLength γ l hl x1 x2 g) dJ17_copyOfRangeByte_2 q640 q641 q130 q642 (by decide +kernel) rfl (Nat.le_of_ble_eq_true rfl) (Nat.le_of_ble_eq_true rfl) rfl (Nat.le_of_ble_eq_true rfl)) (fun g1 => ?_)
  refine r_iload_n (pc := 5) dJ17_copyOfRangeByte_5 rfl 2 rfl ?_
  refine r_iload_n (pc := 6) dJ17_copyOfRangeByte_6 rfl 1 rfl ?_
  refine r_isub (pc := 7) dJ17_copyOfRangeByte_7 ?_
  refine r_istore_n (pc := 8) dJ17_copyOfRangeByte_8 rfl (Nat.le_of_ble_eq_true rfl) rfl ?_
  refine r_iload_n (pc := 9) dJ17_copyOfRangeByte_9 rfl 0 rfl ?_
  refine r_newa (kd := 102) (atype := .byte) (pc := 10) dJ17_copyOfRangeByte_10 q318 (by decide) rfl (by decide) (fun _ _ => by rw [nA_av]; rfl) (by decide) (fun q2 g3 => ?_)
  refine r_astore (pc := 12) dJ17_copyOfRangeByte_12 (Nat.le_of_ble_eq_true rfl) rfl ?_
  refine r_aload_n (pc := 14) dJ17_copyOfRangeByte_14 rfl 2 rfl ?_
  refine r_iload_n (pc := 15) dJ17_copyOfRangeByte_15 rfl 3 rfl ?_
  refine r_aload (pc := 16) dJ17_copyOfRangeByte_16 0 rfl ?_
  refine r_iconst (v := (0 : Int32)) (pc := 18) dJ17_copyOfRangeByte_18 (by decide) ?_
  refine r_aload_n (pc := 19) dJ17_copyOfRangeByte_19 rfl 2 rfl ?_
  refine r_alen (pc := 20) dJ17_copyOfRangeByte_20 (fun v4 => ?_)
  refine r_iload_n (pc := 21) dJ17_copyOfRangeByte_21 rfl 3 rfl ?_
  refine r_isub (pc := 22) dJ17_copyOfRangeByte_22 ?_
  refine r_iload_n (pc := 23) dJ17_copyOfRangeByte_23 rfl 1 rfl ?_
  refine r_cI (pc := 24) (rest := [.int (0 : Int32), .ref q2, .int x1, .ref x0]) (run_S (n := 2) (As := [.int (v4 - x1), .int (x2 - x1)]) (rest := [.int (0 : Int32), .ref q2, .int x1, .ref x0]) (t_J16_min γ l hl (v4 - x1) (x2 - x1) g3) dJ17_copyOfRangeByte_24 q501 q502 q129 q503 (by decide +kernel) rfl (Nat.le_of_ble_eq_true rfl) (Nat.le_of_ble_eq_true rfl) rfl (Nat.le_of_ble_eq_true rfl)) (fun v6 g5 => ?_)
  refine r_copyA (kd := 102) (by decide) (pc := 27) dJ17_copyOfRangeByte_27 q504 q506 q505 q131 (by decide) (Nat.le_of_ble_eq_true rfl) (fun g7 => ?_)
  refine r_aload (pc := 30) dJ17_copyOfRangeByte_30 0 rfl ?_
  exact r_aret (pc := 32) dJ17_copyOfRangeByte_32 rfl (by first | exact Or.inl ⟨_, rfl⟩ | exact Or.inr ⟨_, rfl⟩)
abbrev ck_J17_copyOfRange : CK := ("java/util/Arrays", prog_69_method_132_code, 3, (some (.array .byte)), "copyOfRange", [], 3)
def f_J17_copyOfRange (γ : GP) (x0 : Nat) (x1 : Int32) (x2 : Int32) (g : AH) : Option (Nat × AH) := jn (fun (g1 : AH) => bR (f_J17_copyOfRangeByte γ x0 x1 x2 g1) fun v4 g3 => (some (v4, g3))) (fun (j2 : AH → Option (Nat × AH)) => (if x1 = 0 then gL g x0 fun v5 => (if x2 = v5 then (if hK g x0 = 102 then (fun (q6 : Nat) (g7 : AH) => gCA g7 102 q6 ((some (q6, g7)))) (hS g) (nCl g x0) else none) else j2 g) else j2 g))
theorem t_J17_copyOfRange (γ : GP) (l : Launch) (hl : l.stackTraces = false) (x0 : Nat) (x1 : Int32) (x2 : Int32) (g : AH) : TrM ρR γ l ⟨"java/util/Arrays", "copyOfRange", "([BII)[B"⟩ (ws_ ⟨"java/util/Arrays", "copyOfRange", "([BII)[B"⟩ prog_69_method_132_code 3 (some (.array .byte))) 3 [.ref x0, .int x1, .int x2] g (f_J17_copyOfRange γ x0 x1 x2 g) := by
  refine TrM_of (plainFor_of_name (by decide)) (Nat.le_of_ble_eq_true rfl) ?_
  unfold f_J17_copyOfRange
  change AW ρR γ l ck_J17_copyOfRange g 0 [(0, .ref x0), (1, .int x1), (2, .int x2)] [] g _
  refine r_iload_n (pc := 0) dJ17_copyOfRange_0 rfl 1 rfl ?_
  refine AW_jn (P := fun (j : AH → Option (Nat × AH)) => ∀ (g1 : AH), AW ρR γ l ck_J17_copyOfRange g 10 [(0, .ref x0), (1, .int x1), (2, .int x2)] [] g1 (j g1)) (fun g1 => ?_) (fun j2 h_j2 => ?_)
  · skip
    refine r_aload_n (pc := 10) dJ17_copyOfRange_10 rfl 0 rfl ?_
    refine r_iload_n (pc := 11) dJ17_copyOfRange_11 rfl 1 rfl ?_
    refine r_iload_n (pc := 12) dJ17_copyOfRange_12 rfl 2 rfl ?_
    refine r_cR (pc := 13) (rest := []) (run_S (n := 3) (As := [.ref x0, .int x1, .int x2]) (rest := []) (t_J17_copyOfRangeByte γ l hl x0 x1 x2 g1) dJ17_copyOfRange_13 q637 q638 q130 q639 (by decide +kernel) rfl (Nat.le_of_ble_eq_true rfl) (Nat.le_of_ble_eq_true rfl) rfl (Nat.le_of_ble_eq_true rfl)) (fun v4 g3 => ?_)
    exact r_aret (pc := 16) dJ17_copyOfRange_16 rfl (by first | exact Or.inl ⟨_, rfl⟩ | exact Or.inr ⟨_, rfl⟩)
  · skip
    refine r_if_ne (tgt := 10) (pc := 1) dJ17_copyOfRange_1 (by decide) ?_ ?_
    · skip
      refine r_iload_n (pc := 4) dJ17_copyOfRange_4 rfl 2 rfl ?_
      refine r_aload_n (pc := 5) dJ17_copyOfRange_5 rfl 0 rfl ?_
      refine r_alen (pc := 6) dJ17_copyOfRange_6 (fun v5 => ?_)
      refine r_icmp_eq (tgt := 17) (pc := 7) dJ17_copyOfRange_7 (by decide) ?_ ?_
      · skip
        refine r_aload_n (pc := 17) dJ17_copyOfRange_17 rfl 0 rfl ?_
        refine r_clone (K := fun (q6 : Nat) (g7 : AH) => gCA g7 102 q6 ((some (q6, g7)))) (pc := 18) dJ17_copyOfRange_18 q494 q495 q496 q497 q498 mv499 (by decide) (Nat.le_of_ble_eq_true rfl) (fun q6 g7 => ?_)
        refine r_castA (kd := 102) (nm := "[B") (by decide) rfl (pc := 21) dJ17_copyOfRange_21 q500 ?_
        exact r_aret (pc := 24) dJ17_copyOfRange_24 rfl (by first | exact Or.inl ⟨_, rfl⟩ | exact Or.inr ⟨_, rfl⟩)
      · skip
        exact h_j2 g
    · skip
      exact h_j2 g
abbrev ck_J8_compress_2 : CK := ("java/lang/StringUTF16", prog_52_method_22_code, 7, (some .int), "compress", [], 4)
def f_J8_compress_2_L10 (γ : GP) (x0 : Nat) (x2 : Nat) (x4 : Int32) : Nat → Int32 → Int32 → Int32 → AH → Option (Int32 × AH)
  | 0, _, _, _, _ => none
  | n + 1, x1, x3, x5, g => (if x4 ≤ x5 then (some (x4, g)) else bI (f_J8_getChar γ x0 x1 g) fun v3 g2 => (if v3 ≤ (255 : Int32) then pA γ g2 102 x2 x3 (v3).toInt8.toInt32 fun g4 => f_J8_compress_2_L10 γ x0 x2 x4 n (x1 + (1 : Int32)) (x3 + (1 : Int32)) (x5 + (1 : Int32)) g4 else (some (x5, g2))))
def f_J8_compress_2 (γ : GP) (x0 : Nat) (x1 : Int32) (x2 : Nat) (x3 : Int32) (x4 : Int32) (g : AH) : Option (Int32 × AH) := bV (f_J8_checkBoundsOffCount γ x1 x4 x0 g) fun g1 => f_J8_compress_2_L10 γ x0 x2 x4 FU x1 x3 (0 : Int32) g1
theorem f_J8_compress_2_L10_w (γ : GP) (l : Launch) (hl : l.stackTraces = false) (G0 : AH) (x0 : Nat) (x2 : Nat) (x4 : Int32) : ∀ (n : Nat) (x1 : Int32) (x3 : Int32) (x5 : Int32) (g : AH), AW ρI γ l ck_J8_compress_2 G0 10 [(0, .ref x0), (1, .int x1), (2, .ref x2), (3, .int x3), (4, .int x4), (5, .int x5)] [] g (f_J8_compress_2_L10 γ x0 x2 x4 n x1 x3 x5 g) := by
  intro n
  induction n with
  | zero => intro x1 x3 x5 g; exact AW_none
  | succ n ih =>
    intro x1 x3 x5 g
    unfold f_J8_compress_2_L10
    refine r_iload (pc := 10) dJ8_compress_2_10 5 rfl ?_
    refine r_iload (pc := 12) dJ8_compress_2_12 4 rfl ?_
    refine r_icmp_ge (tgt := 53) (pc := 14) dJ8_compress_2_14 (by decide) ?_ ?_
    · skip
      refine r_iload (pc := 53) dJ8_compress_2_53 4 rfl ?_
      exact r_iret (pc := 55) dJ8_compress_2_55 rfl
    · skip
      refine r_aload_n (pc := 17) dJ8_compress_2_17 rfl 0 rfl ?_
      refine r_iload_n (pc := 18) dJ8_compress_2_18 rfl 1 rfl ?_
      refine r_cI (pc := 19) (rest := []) (run_S (n := 2) (As := [.ref x0, .int x1]) (rest := []) (t_J8_getChar γ l hl x0 x1 g) dJ8_compress_2_19 q689 q690 q120 q691 (by decide +kernel) rfl (Nat.le_of_ble_eq_true rfl) (Nat.le_of_ble_eq_true rfl) rfl (Nat.le_of_ble_eq_true rfl)) (fun v3 g2 => ?_)
      refine r_istore (pc := 22) dJ8_compress_2_22 (Nat.le_of_ble_eq_true rfl) rfl ?_
      refine r_iload (pc := 24) dJ8_compress_2_24 0 rfl ?_
      refine r_sipush (v := (255 : Int32)) (pc := 26) dJ8_compress_2_26 (by decide) ?_
      refine r_icmp_le (tgt := 35) (pc := 29) dJ8_compress_2_29 (by decide) ?_ ?_
      · skip
        refine r_aload_n (pc := 35) dJ8_compress_2_35 rfl 3 rfl ?_
        refine r_iload_n (pc := 36) dJ8_compress_2_36 rfl 4 rfl ?_
        refine r_iload (pc := 37) dJ8_compress_2_37 0 rfl ?_
        refine r_i2b (pc := 39) dJ8_compress_2_39 ?_
        refine r_bast (pc := 40) dJ8_compress_2_40 (fun g4 => ?_)
        refine r_iinc (j := 2) (v := (x1 + (1 : Int32))) (pc := 41) dJ8_compress_2_41 rfl rfl (Nat.le_of_ble_eq_true rfl) rfl ?_
        refine r_iinc (j := 4) (v := (x3 + (1 : Int32))) (pc := 44) dJ8_compress_2_44 rfl rfl (Nat.le_of_ble_eq_true rfl) rfl ?_
        refine r_iinc (j := 6) (v := (x5 + (1 : Int32))) (pc := 47) dJ8_compress_2_47 rfl rfl (Nat.le_of_ble_eq_true rfl) rfl ?_
        refine r_goto (tgt := 10) (pc := 50) dJ8_compress_2_50 (by decide) ?_
        refine AW_sub [4, 2, 5, 1, 6, 0] rfl ?_
        exact ih (x1 + (1 : Int32)) (x3 + (1 : Int32)) (x5 + (1 : Int32)) g4
      · skip
        refine r_iload (pc := 32) dJ8_compress_2_32 6 rfl ?_
        exact r_iret (pc := 34) dJ8_compress_2_34 rfl
theorem t_J8_compress_2 (γ : GP) (l : Launch) (hl : l.stackTraces = false) (x0 : Nat) (x1 : Int32) (x2 : Nat) (x3 : Int32) (x4 : Int32) (g : AH) : TrM ρI γ l ⟨"java/lang/StringUTF16", "compress", "([BI[BII)I"⟩ (ws_ ⟨"java/lang/StringUTF16", "compress", "([BI[BII)I"⟩ prog_52_method_22_code 7 (some .int)) 4 [.ref x0, .int x1, .ref x2, .int x3, .int x4] g (f_J8_compress_2 γ x0 x1 x2 x3 x4 g) := by
  refine TrM_of (plainFor_of_name (by decide)) (Nat.le_of_ble_eq_true rfl) ?_
  unfold f_J8_compress_2
  change AW ρI γ l ck_J8_compress_2 g 0 [(0, .ref x0), (1, .int x1), (2, .ref x2), (3, .int x3), (4, .int x4)] [] g _
  refine r_iload_n (pc := 0) dJ8_compress_2_0 rfl 1 rfl ?_
  refine r_iload (pc := 1) dJ8_compress_2_1 4 rfl ?_
  refine r_aload_n (pc := 3) dJ8_compress_2_3 rfl 0 rfl ?_
  refine r_cV (pc := 4) (rest := []) (run_S (n := 3) (As := [.int x1, .int x4, .ref x0]) (rest := []) (t_J8_checkBoundsOffCount γ l hl x1 x4 x0 g) dJ8_compress_2_4 q566 q567 q120 q568 (by decide +kernel) rfl (Nat.le_of_ble_eq_true rfl) (Nat.le_of_ble_eq_true rfl) rfl (Nat.le_of_ble_eq_true rfl)) (fun g1 => ?_)
  refine r_iconst (v := (0 : Int32)) (pc := 7) dJ8_compress_2_7 (by decide) ?_
  refine r_istore (pc := 8) dJ8_compress_2_8 (Nat.le_of_ble_eq_true rfl) rfl ?_
  refine AW_sub [1, 2, 3, 4, 5, 0] rfl ?_
  refine f_J8_compress_2_L10_w γ l hl _ x0 x2 x4 FU x1 x3 (0 : Int32) g1
abbrev ck_J8_compress : CK := ("java/lang/StringUTF16", prog_52_method_17_code, 6, (some (.array .byte)), "compress", [], 5)
def f_J8_compress (γ : GP) (x0 : Nat) (x1 : Int32) (x2 : Int32) (g : AH) : Option (Nat × AH) := mA g 102 x2 fun q1 g2 => bI (f_J8_compress_2 γ x0 x1 q1 (0 : Int32) x2 g2) fun v4 g3 => (if v4 = x2 then (some (q1, g3)) else bI (f_J8_newBytesLength γ (x1 + x2) g3) fun v6 g5 => bR (f_J17_copyOfRange γ x0 (x1 <<< ((1 : Int32) &&& 31)) v6 g5) fun v8 g7 => bI (f_J8_getChar γ v8 v4 g7) fun v10 g9 => (if (255 : Int32) < v10 then (some (v8, g9)) else bI (f_J8_compress_2 γ v8 (0 : Int32) q1 (0 : Int32) x2 g9) fun v12 g11 => (if v12 = x2 then (some (q1, g11)) else (some (v8, g11)))))
theorem t_J8_compress (γ : GP) (l : Launch) (hl : l.stackTraces = false) (x0 : Nat) (x1 : Int32) (x2 : Int32) (g : AH) : TrM ρR γ l ⟨"java/lang/StringUTF16", "compress", "([BII)[B"⟩ (ws_ ⟨"java/lang/StringUTF16", "compress", "([BII)[B"⟩ prog_52_method_17_code 6 (some (.array .byte))) 5 [.ref x0, .int x1, .int x2] g (f_J8_compress γ x0 x1 x2 g) := by
  refine TrM_of (plainFor_of_name (by decide)) (Nat.le_of_ble_eq_true rfl) ?_
  unfold f_J8_compress
  change AW ρR γ l ck_J8_compress g 0 [(0, .ref x0), (1, .int x1), (2, .int x2)] [] g _
  refine r_iload_n (pc := 0) dJ8_compress_0 rfl 2 rfl ?_
  refine r_newa (kd := 102) (atype := .byte) (pc := 1) dJ8_compress_1 q318 (by decide) rfl (by decide) (fun _ _ => by rw [nA_av]; rfl) (by decide) (fun q1 g2 => ?_)
  refine r_astore_n (pc := 3) dJ8_compress_3 rfl (Nat.le_of_ble_eq_true rfl) rfl ?_
  refine r_aload_n (pc := 4) dJ8_compress_4 rfl 1 rfl ?_
  refine r_iload_n (pc := 5) dJ8_compress_5 rfl 2 rfl ?_
  refine r_aload_n (pc := 6) dJ8_compress_6 rfl 0 rfl ?_
  refine r_iconst (v := (0 : Int32)) (pc := 7) dJ8_compress_7 (by decide) ?_
  refine r_iload_n (pc := 8) dJ8_compress_8 rfl 3 rfl ?_
  refine r_cI (pc := 9) (rest := []) (run_S (n := 5) (As := [.ref x0, .int x1, .ref q1, .int (0 : Int32), .int x2]) (rest := []) (t_J8_compress_2 γ l hl x0 x1 q1 (0 : Int32) x2 g2) dJ8_compress_9 q686 q687 q120 q688 (by decide +kernel) rfl (Nat.le_of_ble_eq_true rfl) (Nat.le_of_ble_eq_true rfl) rfl (Nat.le_of_ble_eq_true rfl)) (fun v4 g3 => ?_)
  refine r_istore (pc := 12) dJ8_compress_12 (Nat.le_of_ble_eq_true rfl) rfl ?_
  refine r_iload (pc := 14) dJ8_compress_14 0 rfl ?_
  refine r_iload_n (pc := 16) dJ8_compress_16 rfl 4 rfl ?_
  refine r_icmp_eq (tgt := 64) (pc := 17) dJ8_compress_17 (by decide) ?_ ?_
  · skip
    refine r_aload_n (pc := 64) dJ8_compress_64 rfl 1 rfl ?_
    exact r_aret (pc := 65) dJ8_compress_65 rfl (by first | exact Or.inl ⟨_, rfl⟩ | exact Or.inr ⟨_, rfl⟩)
  · skip
    refine r_aload_n (pc := 20) dJ8_compress_20 rfl 2 rfl ?_
    refine r_iload_n (pc := 21) dJ8_compress_21 rfl 3 rfl ?_
    refine r_iconst (v := (1 : Int32)) (pc := 22) dJ8_compress_22 (by decide) ?_
    refine r_ishl (pc := 23) dJ8_compress_23 ?_
    refine r_iload_n (pc := 24) dJ8_compress_24 rfl 3 rfl ?_
    refine r_iload_n (pc := 25) dJ8_compress_25 rfl 4 rfl ?_
    refine r_iadd (pc := 26) dJ8_compress_26 ?_
    refine r_cI (pc := 27) (rest := [.int (x1 <<< ((1 : Int32) &&& 31)), .ref x0]) (run_S (n := 1) (As := [.int (x1 + x2)]) (rest := [.int (x1 <<< ((1 : Int32) &&& 31)), .ref x0]) (t_J8_newBytesLength γ l hl (x1 + x2) g3) dJ8_compress_27 q300 q301 q120 q302 (by decide +kernel) rfl (Nat.le_of_ble_eq_true rfl) (Nat.le_of_ble_eq_true rfl) rfl (Nat.le_of_ble_eq_true rfl)) (fun v6 g5 => ?_)
    refine r_cR (pc := 30) (rest := []) (run_S (n := 3) (As := [.ref x0, .int (x1 <<< ((1 : Int32) &&& 31)), .int v6]) (rest := []) (t_J17_copyOfRange γ l hl x0 (x1 <<< ((1 : Int32) &&& 31)) v6 g5) dJ8_compress_30 q692 q635 q130 q636 (by decide +kernel) rfl (Nat.le_of_ble_eq_true rfl) (Nat.le_of_ble_eq_true rfl) rfl (Nat.le_of_ble_eq_true rfl)) (fun v8 g7 => ?_)
    refine r_astore (pc := 33) dJ8_compress_33 (Nat.le_of_ble_eq_true rfl) rfl ?_
    refine r_aload (pc := 35) dJ8_compress_35 0 rfl ?_
    refine r_iload (pc := 37) dJ8_compress_37 1 rfl ?_
    refine r_cI (pc := 39) (rest := []) (run_S (n := 2) (As := [.ref v8, .int v4]) (rest := []) (t_J8_getChar γ l hl v8 v4 g7) dJ8_compress_39 q689 q690 q120 q691 (by decide +kernel) rfl (Nat.le_of_ble_eq_true rfl) (Nat.le_of_ble_eq_true rfl) rfl (Nat.le_of_ble_eq_true rfl)) (fun v10 g9 => ?_)
    refine r_sipush (v := (255 : Int32)) (pc := 42) dJ8_compress_42 (by decide) ?_
    refine r_icmp_gt (tgt := 61) (pc := 45) dJ8_compress_45 (by decide) ?_ ?_
    · skip
      refine r_aload (pc := 61) dJ8_compress_61 0 rfl ?_
      exact r_aret (pc := 63) dJ8_compress_63 rfl (by first | exact Or.inl ⟨_, rfl⟩ | exact Or.inr ⟨_, rfl⟩)
    · skip
      refine r_aload (pc := 48) dJ8_compress_48 0 rfl ?_
      refine r_iconst (v := (0 : Int32)) (pc := 50) dJ8_compress_50 (by decide) ?_
      refine r_aload_n (pc := 51) dJ8_compress_51 rfl 2 rfl ?_
      refine r_iconst (v := (0 : Int32)) (pc := 52) dJ8_compress_52 (by decide) ?_
      refine r_iload_n (pc := 53) dJ8_compress_53 rfl 5 rfl ?_
      refine r_cI (pc := 54) (rest := []) (run_S (n := 5) (As := [.ref v8, .int (0 : Int32), .ref q1, .int (0 : Int32), .int x2]) (rest := []) (t_J8_compress_2 γ l hl v8 (0 : Int32) q1 (0 : Int32) x2 g9) dJ8_compress_54 q686 q687 q120 q688 (by decide +kernel) rfl (Nat.le_of_ble_eq_true rfl) (Nat.le_of_ble_eq_true rfl) rfl (Nat.le_of_ble_eq_true rfl)) (fun v12 g11 => ?_)
      refine r_iload_n (pc := 57) dJ8_compress_57 rfl 5 rfl ?_
      refine r_icmp_eq (tgt := 64) (pc := 58) dJ8_compress_58 (by decide) ?_ ?_
      · skip
        refine r_aload_n (pc := 64) dJ8_compress_64 rfl 2 rfl ?_
        exact r_aret (pc := 65) dJ8_compress_65 rfl (by first | exact Or.inl ⟨_, rfl⟩ | exact Or.inr ⟨_, rfl⟩)
      · skip
        refine r_aload (pc := 61) dJ8_compress_61 0 rfl ?_
        exact r_aret (pc := 63) dJ8_compress_63 rfl (by first | exact Or.inl ⟨_, rfl⟩ | exact Or.inr ⟨_, rfl⟩)
abbrev ck_J8_coderFromArrayLen : CK := ("java/lang/StringUTF16", prog_52_method_15_code, 2, (some .byte), "coderFromArrayLen", [], 1)
def f_J8_coderFromArrayLen (γ : GP) (x0 : Nat) (x1 : Int32) (g : AH) : Option (Int32 × AH) := gL g x0 fun v1 => (rtN .byte ((((x1 - v1)).toUInt32 >>> (((31 : Int32)).toUInt32 &&& Int32.toUInt32 31)).toInt32).toInt8.toInt32 g)
theorem t_J8_coderFromArrayLen (γ : GP) (l : Launch) (hl : l.stackTraces = false) (x0 : Nat) (x1 : Int32) (g : AH) : TrM ρI γ l ⟨"java/lang/StringUTF16", "coderFromArrayLen", "([BI)B"⟩ (ws_ ⟨"java/lang/StringUTF16", "coderFromArrayLen", "([BI)B"⟩ prog_52_method_15_code 2 (some .byte)) 1 [.ref x0, .int x1] g (f_J8_coderFromArrayLen γ x0 x1 g) := by
  refine TrM_of (plainFor_of_name (by decide)) (Nat.le_of_ble_eq_true rfl) ?_
  unfold f_J8_coderFromArrayLen
  change AW ρI γ l ck_J8_coderFromArrayLen g 0 [(0, .ref x0), (1, .int x1)] [] g _
  refine r_iload_n (pc := 0) dJ8_coderFromArrayLen_0 rfl 1 rfl ?_
  refine r_aload_n (pc := 1) dJ8_coderFromArrayLen_1 rfl 0 rfl ?_
  refine r_alen (pc := 2) dJ8_coderFromArrayLen_2 (fun v1 => ?_)
  refine r_isub (pc := 3) dJ8_coderFromArrayLen_3 ?_
  refine r_bipush (v := (31 : Int32)) (pc := 4) dJ8_coderFromArrayLen_4 (by decide) ?_
  refine r_iushr (pc := 6) dJ8_coderFromArrayLen_6 ?_
  refine r_i2b (pc := 7) dJ8_coderFromArrayLen_7 ?_
  exact r_zret (ty := .byte) (pc := 8) dJ8_coderFromArrayLen_8 rfl
abbrev ck_J7_init_2 : CK := ("java/lang/String", prog_48_method_150_code, 5, none, "<init>", [], 6)
def f_J7_init_2 (γ : GP) (x0 : Nat) (x1 : Nat) (x2 : Nat) (g : AH) : Option (AH) := (if x0 ≠ 0 then bR ((if hK g x1 = 6 then f_J5_getValue γ x1 g else none)) fun v2 g1 => bI ((if hK g1 x1 = 6 then f_J6_length γ x1 g1 else none)) fun v4 g3 => bI ((if hK g3 x1 = 6 then f_J5_isLatin1 γ x1 g3 else none)) fun v6 g5 => (if v6 = 0 then jn (fun (g7 : AH) => pI γ g7 x0 27 (1 : Int32) fun g9 => bR (f_J17_copyOfRange γ v2 (0 : Int32) (v4 <<< ((1 : Int32) &&& 31)) g9) fun v11 g10 => pR γ g10 x0 26 v11 fun g12 => (some g12)) (fun (j8 : AH → Option (AH)) => (if (1 : Int32) = 0 then j8 g5 else gI g5 x1 24 fun v13 => (if v13 = 0 then j8 g5 else bR (f_J8_compress γ v2 (0 : Int32) v4 g5) fun v15 g14 => pR γ g14 x0 26 v15 fun g16 => gR g16 x0 26 fun v17 => bI (f_J8_coderFromArrayLen γ v17 v4 g16) fun v19 g18 => pI γ g18 x0 27 v19 fun g20 => (some g20)))) else pI γ g5 x0 27 (0 : Int32) fun g21 => bR (f_J17_copyOfRange γ v2 (0 : Int32) v4 g21) fun v23 g22 => pR γ g22 x0 26 v23 fun g24 => (some g24)) else none)
theorem t_J7_init_2 (γ : GP) (l : Launch) (hl : l.stackTraces = false) (x0 : Nat) (x1 : Nat) (x2 : Nat) (g : AH) : TrM ρV γ l ⟨"java/lang/String", "<init>", "(Ljava/lang/AbstractStringBuilder;Ljava/lang/Void;)V"⟩ (ws_ ⟨"java/lang/String", "<init>", "(Ljava/lang/AbstractStringBuilder;Ljava/lang/Void;)V"⟩ prog_48_method_150_code 5 none) 6 [.ref x0, .ref x1, .ref x2] g (f_J7_init_2 γ x0 x1 x2 g) := by
  refine TrM_of (plainFor_of_name (by decide)) (Nat.le_of_ble_eq_true rfl) ?_
  unfold f_J7_init_2
  change AW ρV γ l ck_J7_init_2 g 0 [(0, .ref x0), (1, .ref x1), (2, .ref x2)] [] g _
  refine r_aload_n (pc := 0) dJ7_init_2_0 rfl 0 rfl ?_
  refine r_objInit (pc := 1) dJ7_init_2_1 q619 q185 q186 (by decide) (Nat.le_of_ble_eq_true rfl) ?_
  refine r_aload_n (pc := 4) dJ7_init_2_4 rfl 1 rfl ?_
  refine r_cR (pc := 5) (rest := []) (RunOK_chk (fun h => run_U (n := 0) (c9 := 6) (As := []) (rest := []) (owner := "java/lang/AbstractStringBuilder") (t_J5_getValue γ l hl x1 g) dJ7_init_2_5 q620 q622 q623 q621 q117 q624 rfl ⟨by decide, by decide, by decide +kernel⟩ rfl h ⟨by decide, by decide⟩ (Nat.le_of_ble_eq_true rfl) (Nat.le_of_ble_eq_true rfl) rfl (Nat.le_of_ble_eq_true rfl))) (fun v2 g1 => ?_)
  refine r_astore_n (pc := 8) dJ7_init_2_8 rfl (Nat.le_of_ble_eq_true rfl) rfl ?_
  refine r_aload_n (pc := 9) dJ7_init_2_9 rfl 2 rfl ?_
  refine r_cI (pc := 10) (rest := []) (RunOK_chk (fun h => run_O (n := 0) (c9 := 6) (As := []) (rest := []) (owner := "java/lang/AbstractStringBuilder") (t_J6_length γ l hl x1 g1) dJ7_init_2_10 q625 q627 q626 q632 q628 q629 q118 q630 ⟨by decide, by decide, by decide +kernel⟩ rfl h ⟨by decide, by decide⟩ (Nat.le_of_ble_eq_true rfl) (Nat.le_of_ble_eq_true rfl) rfl (Nat.le_of_ble_eq_true rfl))) (fun v4 g3 => ?_)
  refine r_istore (pc := 13) dJ7_init_2_13 (Nat.le_of_ble_eq_true rfl) rfl ?_
  refine r_aload_n (pc := 15) dJ7_init_2_15 rfl 3 rfl ?_
  refine r_cI (pc := 16) (rest := []) (RunOK_chk (fun h => run_U (n := 0) (c9 := 6) (As := []) (rest := []) (owner := "java/lang/AbstractStringBuilder") (t_J5_isLatin1 γ l hl x1 g3) dJ7_init_2_16 q633 q509 q510 q508 q117 q511 rfl ⟨by decide, by decide, by decide +kernel⟩ rfl h ⟨by decide, by decide⟩ (Nat.le_of_ble_eq_true rfl) (Nat.le_of_ble_eq_true rfl) rfl (Nat.le_of_ble_eq_true rfl))) (fun v6 g5 => ?_)
  refine r_if_eq (tgt := 41) (pc := 19) dJ7_init_2_19 (by decide) ?_ ?_
  · skip
    refine r_getsI (v := (1 : Int32)) (pc := 41) dJ7_init_2_41 q546 (List.mem_of_getElem? (i := 0) rfl) rfl ?_
    refine AW_jn (P := fun (j : AH → Option (AH)) => ∀ (g7 : AH), AW ρV γ l ck_J7_init_2 g 79 [(0, .ref x0), (3, .ref v2), (4, .int v4)] [] g7 (j g7)) (fun g7 => ?_) (fun j8 h_j8 => ?_)
    · skip
      refine r_aload_n (pc := 79) dJ7_init_2_79 rfl 0 rfl ?_
      refine r_iconst (v := (1 : Int32)) (pc := 80) dJ7_init_2_80 (by decide) ?_
      refine r_putI (f := 27) (pc := 81) dJ7_init_2_81 q697 (Or.inl rfl) (Or.inr ⟨rfl, rfl⟩) rfl (fun g9 => ?_)
      refine r_aload_n (pc := 84) dJ7_init_2_84 rfl 0 rfl ?_
      refine r_aload_n (pc := 85) dJ7_init_2_85 rfl 1 rfl ?_
      refine r_iconst (v := (0 : Int32)) (pc := 86) dJ7_init_2_86 (by decide) ?_
      refine r_iload (pc := 87) dJ7_init_2_87 2 rfl ?_
      refine r_iconst (v := (1 : Int32)) (pc := 89) dJ7_init_2_89 (by decide) ?_
      refine r_ishl (pc := 90) dJ7_init_2_90 ?_
      refine r_cR (pc := 91) (rest := [.ref x0]) (run_S (n := 3) (As := [.ref v2, .int (0 : Int32), .int (v4 <<< ((1 : Int32) &&& 31))]) (rest := [.ref x0]) (t_J17_copyOfRange γ l hl v2 (0 : Int32) (v4 <<< ((1 : Int32) &&& 31)) g9) dJ7_init_2_91 q634 q635 q130 q636 (by decide +kernel) rfl (Nat.le_of_ble_eq_true rfl) (Nat.le_of_ble_eq_true rfl) rfl (Nat.le_of_ble_eq_true rfl)) (fun v11 g10 => ?_)
      refine r_putR (f := 26) (pc := 94) dJ7_init_2_94 q696 (Or.inl rfl) (Or.inr ⟨rfl, rfl⟩) rfl (fun g12 => ?_)
      exact r_vret (pc := 97) dJ7_init_2_97 rfl
    · skip
      refine r_if_eq (tgt := 79) (pc := 44) dJ7_init_2_44 (by decide) ?_ ?_
      · skip
        refine AW_sub [2, 1, 0] rfl ?_
        exact h_j8 g5
      · skip
        refine r_aload_n (pc := 47) dJ7_init_2_47 rfl 3 rfl ?_
        refine r_getI (f := 24) (pc := 48) dJ7_init_2_48 q307 (Or.inl rfl) rfl (fun v13 => ?_)
        refine r_if_eq (tgt := 79) (pc := 51) dJ7_init_2_51 (by decide) ?_ ?_
        · skip
          refine AW_sub [2, 1, 0] rfl ?_
          exact h_j8 g5
        · skip
          refine r_aload_n (pc := 54) dJ7_init_2_54 rfl 2 rfl ?_
          refine r_aload_n (pc := 55) dJ7_init_2_55 rfl 1 rfl ?_
          refine r_iconst (v := (0 : Int32)) (pc := 56) dJ7_init_2_56 (by decide) ?_
          refine r_iload (pc := 57) dJ7_init_2_57 0 rfl ?_
          refine r_cR (pc := 59) (rest := [.ref x0]) (run_S (n := 3) (As := [.ref v2, .int (0 : Int32), .int v4]) (rest := [.ref x0]) (t_J8_compress γ l hl v2 (0 : Int32) v4 g5) dJ7_init_2_59 q683 q684 q120 q685 (by decide +kernel) rfl (Nat.le_of_ble_eq_true rfl) (Nat.le_of_ble_eq_true rfl) rfl (Nat.le_of_ble_eq_true rfl)) (fun v15 g14 => ?_)
          refine r_putR (f := 26) (pc := 62) dJ7_init_2_62 q696 (Or.inl rfl) (Or.inr ⟨rfl, rfl⟩) rfl (fun g16 => ?_)
          refine r_aload_n (pc := 65) dJ7_init_2_65 rfl 2 rfl ?_
          refine r_aload_n (pc := 66) dJ7_init_2_66 rfl 2 rfl ?_
          refine r_getR (f := 26) (pc := 67) dJ7_init_2_67 q696 (Or.inl rfl) rfl (fun v17 => ?_)
          refine r_iload (pc := 70) dJ7_init_2_70 0 rfl ?_
          refine r_cI (pc := 72) (rest := [.ref x0]) (run_S (n := 2) (As := [.ref v17, .int v4]) (rest := [.ref x0]) (t_J8_coderFromArrayLen γ l hl v17 v4 g16) dJ7_init_2_72 q693 q694 q120 q695 (by decide +kernel) rfl (Nat.le_of_ble_eq_true rfl) (Nat.le_of_ble_eq_true rfl) rfl (Nat.le_of_ble_eq_true rfl)) (fun v19 g18 => ?_)
          refine r_putI (f := 27) (pc := 75) dJ7_init_2_75 q697 (Or.inl rfl) (Or.inr ⟨rfl, rfl⟩) rfl (fun g20 => ?_)
          exact r_vret (pc := 78) dJ7_init_2_78 rfl
  · skip
    refine r_aload_n (pc := 22) dJ7_init_2_22 rfl 2 rfl ?_
    refine r_iconst (v := (0 : Int32)) (pc := 23) dJ7_init_2_23 (by decide) ?_
    refine r_putI (f := 27) (pc := 24) dJ7_init_2_24 q697 (Or.inl rfl) (Or.inr ⟨rfl, rfl⟩) rfl (fun g21 => ?_)
    refine r_aload_n (pc := 27) dJ7_init_2_27 rfl 2 rfl ?_
    refine r_aload_n (pc := 28) dJ7_init_2_28 rfl 1 rfl ?_
    refine r_iconst (v := (0 : Int32)) (pc := 29) dJ7_init_2_29 (by decide) ?_
    refine r_iload (pc := 30) dJ7_init_2_30 0 rfl ?_
    refine r_cR (pc := 32) (rest := [.ref x0]) (run_S (n := 3) (As := [.ref v2, .int (0 : Int32), .int v4]) (rest := [.ref x0]) (t_J17_copyOfRange γ l hl v2 (0 : Int32) v4 g21) dJ7_init_2_32 q634 q635 q130 q636 (by decide +kernel) rfl (Nat.le_of_ble_eq_true rfl) (Nat.le_of_ble_eq_true rfl) rfl (Nat.le_of_ble_eq_true rfl)) (fun v23 g22 => ?_)
    refine r_putR (f := 26) (pc := 35) dJ7_init_2_35 q696 (Or.inl rfl) (Or.inr ⟨rfl, rfl⟩) rfl (fun g24 => ?_)
    refine r_goto (tgt := 97) (pc := 38) dJ7_init_2_38 (by decide) ?_
    exact r_vret (pc := 97) dJ7_init_2_97 rfl
abbrev ck_J7_init : CK := ("java/lang/String", prog_48_method_53_code, 2, none, "<init>", [], 7)
def f_J7_init (γ : GP) (x0 : Nat) (x1 : Nat) (g : AH) : Option (AH) := bV ((if x0 ≠ 0 then f_J7_init_2 γ x0 x1 0 g else none)) fun g1 => (some g1)
theorem t_J7_init (γ : GP) (l : Launch) (hl : l.stackTraces = false) (x0 : Nat) (x1 : Nat) (g : AH) : TrM ρV γ l ⟨"java/lang/String", "<init>", "(Ljava/lang/StringBuilder;)V"⟩ (ws_ ⟨"java/lang/String", "<init>", "(Ljava/lang/StringBuilder;)V"⟩ prog_48_method_53_code 2 none) 7 [.ref x0, .ref x1] g (f_J7_init γ x0 x1 g) := by
  refine TrM_of (plainFor_of_name (by decide)) (Nat.le_of_ble_eq_true rfl) ?_
  unfold f_J7_init
  change AW ρV γ l ck_J7_init g 0 [(0, .ref x0), (1, .ref x1)] [] g _
  refine r_aload_n (pc := 0) dJ7_init_0 rfl 0 rfl ?_
  refine r_aload_n (pc := 1) dJ7_init_1 rfl 1 rfl ?_
  refine r_null (pc := 2) dJ7_init_2 ?_
  refine r_cV (pc := 3) (rest := []) (RunOK_chk (fun h => run_I (n := 2) (As := [.ref x1, .ref 0]) (rest := []) (t_J7_init_2 γ l hl x0 x1 0 g) dJ7_init_3 q616 q617 q119 q618 rfl (by decide +kernel) rfl h (Nat.le_of_ble_eq_true rfl) (Nat.le_of_ble_eq_true rfl) rfl (Nat.le_of_ble_eq_true rfl))) (fun g1 => ?_)
  exact r_vret (pc := 6) dJ7_init_6 rfl
abbrev ck_J6_toString : CK := ("java/lang/StringBuilder", prog_49_method_42_code, 1, (some (.object "java/lang/String")), "toString", [], 8)
def f_J6_toString (γ : GP) (x0 : Nat) (g : AH) : Option (Nat × AH) := mO g 7 fun q1 g2 => bV ((if q1 ≠ 0 then f_J7_init γ q1 x0 g2 else none)) fun g3 => (some (q1, g3))
theorem t_J6_toString (γ : GP) (l : Launch) (hl : l.stackTraces = false) (x0 : Nat) (g : AH) : TrM ρR γ l ⟨"java/lang/StringBuilder", "toString", "()Ljava/lang/String;"⟩ (ws_ ⟨"java/lang/StringBuilder", "toString", "()Ljava/lang/String;"⟩ prog_49_method_42_code 1 (some (.object "java/lang/String"))) 8 [.ref x0] g (f_J6_toString γ x0 g) := by
  refine TrM_of (plainFor_of_name (by decide)) (Nat.le_of_ble_eq_true rfl) ?_
  unfold f_J6_toString
  change AW ρR γ l ck_J6_toString g 0 [(0, .ref x0)] [] g _
  refine r_new (c := 7) (pc := 0) dJ6_toString_0 q611 (by decide) (by decide) (fun q1 g2 => ?_)
  refine r_dup (pc := 3) dJ6_toString_3 rfl ?_
  refine r_aload_n (pc := 4) dJ6_toString_4 rfl 0 rfl ?_
  refine r_cV (pc := 5) (rest := [.ref q1]) (RunOK_chk (fun h => run_I (n := 1) (As := [.ref x0]) (rest := [.ref q1]) (t_J7_init γ l hl q1 x0 g2) dJ6_toString_5 q613 q614 q119 q615 rfl (by decide +kernel) rfl h (Nat.le_of_ble_eq_true rfl) (Nat.le_of_ble_eq_true rfl) rfl (Nat.le_of_ble_eq_true rfl))) (fun g3 => ?_)
  exact r_aret (pc := 8) dJ6_toString_8 rfl (by first | exact Or.inl ⟨_, rfl⟩ | exact Or.inr ⟨_, rfl⟩)
abbrev ck_J17_rangeCheck : CK := ("java/util/Arrays", prog_69_method_30_code, 3, none, "rangeCheck", [], 1)
def f_J17_rangeCheck (γ : GP) (x0 : Int32) (x1 : Int32) (x2 : Int32) (g : AH) : Option (AH) := (if x1 ≤ x2 then (if 0 ≤ x1 then (if x2 ≤ x0 then (some g) else none) else none) else none)
theorem t_J17_rangeCheck (γ : GP) (l : Launch) (hl : l.stackTraces = false) (x0 : Int32) (x1 : Int32) (x2 : Int32) (g : AH) : TrM ρV γ l ⟨"java/util/Arrays", "rangeCheck", "(III)V"⟩ (ws_ ⟨"java/util/Arrays", "rangeCheck", "(III)V"⟩ prog_69_method_30_code 3 none) 1 [.int x0, .int x1, .int x2] g (f_J17_rangeCheck γ x0 x1 x2 g) := by
  refine TrM_of (plainFor_of_name (by decide)) (Nat.le_of_ble_eq_true rfl) ?_
  unfold f_J17_rangeCheck
  change AW ρV γ l ck_J17_rangeCheck g 0 [(0, .int x0), (1, .int x1), (2, .int x2)] [] g _
  refine r_iload_n (pc := 0) dJ17_rangeCheck_0 rfl 1 rfl ?_
  refine r_iload_n (pc := 1) dJ17_rangeCheck_1 rfl 2 rfl ?_
  refine r_icmp_le (tgt := 46) (pc := 2) dJ17_rangeCheck_2 (by decide) ?_ ?_
  · skip
    refine r_iload_n (pc := 46) dJ17_rangeCheck_46 rfl 1 rfl ?_
    refine r_if_ge (tgt := 59) (pc := 47) dJ17_rangeCheck_47 (by decide) ?_ ?_
    · skip
      refine r_iload_n (pc := 59) dJ17_rangeCheck_59 rfl 2 rfl ?_
      refine r_iload_n (pc := 60) dJ17_rangeCheck_60 rfl 0 rfl ?_
      refine r_icmp_le (tgt := 73) (pc := 61) dJ17_rangeCheck_61 (by decide) ?_ ?_
      · skip
        exact r_vret (pc := 73) dJ17_rangeCheck_73 rfl
      · skip
        exact AW_none
    · skip
      exact AW_none
  · skip
    exact AW_none
abbrev ck_J17_fill : CK := ("java/util/Arrays", prog_69_method_110_code, 5, none, "fill", [], 2)
def f_J17_fill_L10 (γ : GP) (x0 : Nat) (x2 : Int32) (x3 : Int32) : Nat → Int32 → AH → Option (AH)
  | 0, _, _ => none
  | n + 1, x4, g => (if x2 ≤ x4 then (some g) else pA γ g 102 x0 x4 x3 fun g3 => f_J17_fill_L10 γ x0 x2 x3 n (x4 + (1 : Int32)) g3)
def f_J17_fill (γ : GP) (x0 : Nat) (x1 : Int32) (x2 : Int32) (x3 : Int32) (g : AH) : Option (AH) := gL g x0 fun v1 => bV (f_J17_rangeCheck γ v1 x1 x2 g) fun g2 => f_J17_fill_L10 γ x0 x2 x3 FU x1 g2
theorem f_J17_fill_L10_w (γ : GP) (l : Launch) (hl : l.stackTraces = false) (G0 : AH) (x0 : Nat) (x2 : Int32) (x3 : Int32) : ∀ (n : Nat) (x4 : Int32) (g : AH), AW ρV γ l ck_J17_fill G0 10 [(0, .ref x0), (2, .int x2), (3, .int x3), (4, .int x4)] [] g (f_J17_fill_L10 γ x0 x2 x3 n x4 g) := by
  intro n
  induction n with
  | zero => intro x4 g; exact AW_none
  | succ n ih =>
    intro x4 g
    unfold f_J17_fill_L10
    refine r_iload (pc := 10) dJ17_fill_10 3 rfl ?_
    refine r_iload_n (pc := 12) dJ17_fill_12 rfl 1 rfl ?_
    refine r_icmp_ge (tgt := 27) (pc := 13) dJ17_fill_13 (by decide) ?_ ?_
    · skip
      exact r_vret (pc := 27) dJ17_fill_27 rfl
    · skip
      refine r_aload_n (pc := 16) dJ17_fill_16 rfl 0 rfl ?_
      refine r_iload (pc := 17) dJ17_fill_17 3 rfl ?_
      refine r_iload_n (pc := 19) dJ17_fill_19 rfl 2 rfl ?_
      refine r_bast (pc := 20) dJ17_fill_20 (fun g3 => ?_)
      refine r_iinc (j := 3) (v := (x4 + (1 : Int32))) (pc := 21) dJ17_fill_21 rfl rfl (Nat.le_of_ble_eq_true rfl) rfl ?_
      refine r_goto (tgt := 10) (pc := 24) dJ17_fill_24 (by decide) ?_
      refine AW_sub [1, 2, 3, 0] rfl ?_
      exact ih (x4 + (1 : Int32)) g3
theorem t_J17_fill (γ : GP) (l : Launch) (hl : l.stackTraces = false) (x0 : Nat) (x1 : Int32) (x2 : Int32) (x3 : Int32) (g : AH) : TrM ρV γ l ⟨"java/util/Arrays", "fill", "([BIIB)V"⟩ (ws_ ⟨"java/util/Arrays", "fill", "([BIIB)V"⟩ prog_69_method_110_code 5 none) 2 [.ref x0, .int x1, .int x2, .int x3] g (f_J17_fill γ x0 x1 x2 x3 g) := by
  refine TrM_of (plainFor_of_name (by decide)) (Nat.le_of_ble_eq_true rfl) ?_
  unfold f_J17_fill
  change AW ρV γ l ck_J17_fill g 0 [(0, .ref x0), (1, .int x1), (2, .int x2), (3, .int x3)] [] g _
  refine r_aload_n (pc := 0) dJ17_fill_0 rfl 0 rfl ?_
  refine r_alen (pc := 1) dJ17_fill_1 (fun v1 => ?_)
  refine r_iload_n (pc := 2) dJ17_fill_2 rfl 1 rfl ?_
  refine r_iload_n (pc := 3) dJ17_fill_3 rfl 2 rfl ?_
  refine r_cV (pc := 4) (rest := []) (run_S (n := 3) (As := [.int v1, .int x1, .int x2]) (rest := []) (t_J17_rangeCheck γ l hl v1 x1 x2 g) dJ17_fill_4 q2984 q2985 q130 q2986 (by decide +kernel) rfl (Nat.le_of_ble_eq_true rfl) (Nat.le_of_ble_eq_true rfl) rfl (Nat.le_of_ble_eq_true rfl)) (fun g2 => ?_)
  refine r_iload_n (pc := 7) dJ17_fill_7 rfl 1 rfl ?_
  refine r_istore (pc := 8) dJ17_fill_8 (Nat.le_of_ble_eq_true rfl) rfl ?_
  refine AW_sub [1, 3, 4, 0] rfl ?_
  refine f_J17_fill_L10_w γ l hl _ x0 x2 x3 FU x1 g2
abbrev ck_J19_fillNull : CK := ("java/lang/StringLatin1", prog_51_method_48_code, 3, none, "fillNull", [], 3)
def f_J19_fillNull (γ : GP) (x0 : Nat) (x1 : Int32) (x2 : Int32) (g : AH) : Option (AH) := bV (f_J17_fill γ x0 x1 x2 (0 : Int32) g) fun g1 => (some g1)
theorem t_J19_fillNull (γ : GP) (l : Launch) (hl : l.stackTraces = false) (x0 : Nat) (x1 : Int32) (x2 : Int32) (g : AH) : TrM ρV γ l ⟨"java/lang/StringLatin1", "fillNull", "([BII)V"⟩ (ws_ ⟨"java/lang/StringLatin1", "fillNull", "([BII)V"⟩ prog_51_method_48_code 3 none) 3 [.ref x0, .int x1, .int x2] g (f_J19_fillNull γ x0 x1 x2 g) := by
  refine TrM_of (plainFor_of_name (by decide)) (Nat.le_of_ble_eq_true rfl) ?_
  unfold f_J19_fillNull
  change AW ρV γ l ck_J19_fillNull g 0 [(0, .ref x0), (1, .int x1), (2, .int x2)] [] g _
  refine r_aload_n (pc := 0) dJ19_fillNull_0 rfl 0 rfl ?_
  refine r_iload_n (pc := 1) dJ19_fillNull_1 rfl 1 rfl ?_
  refine r_iload_n (pc := 2) dJ19_fillNull_2 rfl 2 rfl ?_
  refine r_iconst (v := (0 : Int32)) (pc := 3) dJ19_fillNull_3 (by decide) ?_
  refine r_cV (pc := 4) (rest := []) (run_S (n := 4) (As := [.ref x0, .int x1, .int x2, .int (0 : Int32)]) (rest := []) (t_J17_fill γ l hl x0 x1 x2 (0 : Int32) g) dJ19_fillNull_4 q2981 q2982 q130 q2983 (by decide +kernel) rfl (Nat.le_of_ble_eq_true rfl) (Nat.le_of_ble_eq_true rfl) rfl (Nat.le_of_ble_eq_true rfl)) (fun g1 => ?_)
  exact r_vret (pc := 7) dJ19_fillNull_7 rfl
abbrev ck_J8_fillNull : CK := ("java/lang/StringUTF16", prog_52_method_70_code, 3, none, "fillNull", [], 3)
def f_J8_fillNull (γ : GP) (x0 : Nat) (x1 : Int32) (x2 : Int32) (g : AH) : Option (AH) := bV (f_J17_fill γ x0 (x1 <<< ((1 : Int32) &&& 31)) (x2 <<< ((1 : Int32) &&& 31)) (0 : Int32) g) fun g1 => (some g1)
theorem t_J8_fillNull (γ : GP) (l : Launch) (hl : l.stackTraces = false) (x0 : Nat) (x1 : Int32) (x2 : Int32) (g : AH) : TrM ρV γ l ⟨"java/lang/StringUTF16", "fillNull", "([BII)V"⟩ (ws_ ⟨"java/lang/StringUTF16", "fillNull", "([BII)V"⟩ prog_52_method_70_code 3 none) 3 [.ref x0, .int x1, .int x2] g (f_J8_fillNull γ x0 x1 x2 g) := by
  refine TrM_of (plainFor_of_name (by decide)) (Nat.le_of_ble_eq_true rfl) ?_
  unfold f_J8_fillNull
  change AW ρV γ l ck_J8_fillNull g 0 [(0, .ref x0), (1, .int x1), (2, .int x2)] [] g _
  refine r_aload_n (pc := 0) dJ8_fillNull_0 rfl 0 rfl ?_
  refine r_iload_n (pc := 1) dJ8_fillNull_1 rfl 1 rfl ?_
  refine r_iconst (v := (1 : Int32)) (pc := 2) dJ8_fillNull_2 (by decide) ?_
  refine r_ishl (pc := 3) dJ8_fillNull_3 ?_
  refine r_iload_n (pc := 4) dJ8_fillNull_4 rfl 2 rfl ?_
  refine r_iconst (v := (1 : Int32)) (pc := 5) dJ8_fillNull_5 (by decide) ?_
  refine r_ishl (pc := 6) dJ8_fillNull_6 ?_
  refine r_iconst (v := (0 : Int32)) (pc := 7) dJ8_fillNull_7 (by decide) ?_
  refine r_cV (pc := 8) (rest := []) (run_S (n := 4) (As := [.ref x0, .int (x1 <<< ((1 : Int32) &&& 31)), .int (x2 <<< ((1 : Int32) &&& 31)), .int (0 : Int32)]) (rest := []) (t_J17_fill γ l hl x0 (x1 <<< ((1 : Int32) &&& 31)) (x2 <<< ((1 : Int32) &&& 31)) (0 : Int32) g) dJ8_fillNull_8 q3003 q2982 q130 q2983 (by decide +kernel) rfl (Nat.le_of_ble_eq_true rfl) (Nat.le_of_ble_eq_true rfl) rfl (Nat.le_of_ble_eq_true rfl)) (fun g1 => ?_)
  exact r_vret (pc := 11) dJ8_fillNull_11 rfl
abbrev ck_J5_setLength : CK := ("java/lang/AbstractStringBuilder", prog_27_method_13_code, 2, none, "setLength", [], 5)
def f_J5_setLength (γ : GP) (x0 : Nat) (x1 : Int32) (g : AH) : Option (AH) := (if 0 ≤ x1 then bV ((if hK g x0 = 6 then f_J5_ensureCapacityInternal γ x0 x1 g else none)) fun g1 => gI g1 x0 25 fun v2 => (if x1 ≤ v2 then gI g1 x0 25 fun v3 => (if v3 ≤ x1 then pI γ g1 x0 25 x1 fun g4 => (some g4) else pI γ g1 x0 24 (1 : Int32) fun g5 => pI γ g5 x0 25 x1 fun g6 => (some g6)) else bI ((if hK g1 x0 = 6 then f_J5_isLatin1 γ x0 g1 else none)) fun v8 g7 => (if v8 = 0 then gR g7 x0 22 fun v9 => gI g7 x0 25 fun v10 => bV (f_J8_fillNull γ v9 v10 x1 g7) fun g11 => pI γ g11 x0 25 x1 fun g12 => (some g12) else gR g7 x0 22 fun v13 => gI g7 x0 25 fun v14 => bV (f_J19_fillNull γ v13 v14 x1 g7) fun g15 => pI γ g15 x0 25 x1 fun g16 => (some g16))) else none)
theorem t_J5_setLength (γ : GP) (l : Launch) (hl : l.stackTraces = false) (x0 : Nat) (x1 : Int32) (g : AH) : TrM ρV γ l ⟨"java/lang/AbstractStringBuilder", "setLength", "(I)V"⟩ (ws_ ⟨"java/lang/AbstractStringBuilder", "setLength", "(I)V"⟩ prog_27_method_13_code 2 none) 5 [.ref x0, .int x1] g (f_J5_setLength γ x0 x1 g) := by
  refine TrM_of (plainFor_of_name (by decide)) (Nat.le_of_ble_eq_true rfl) ?_
  unfold f_J5_setLength
  change AW ρV γ l ck_J5_setLength g 0 [(0, .ref x0), (1, .int x1)] [] g _
  refine r_iload_n (pc := 0) dJ5_setLength_0 rfl 1 rfl ?_
  refine r_if_ge (tgt := 13) (pc := 1) dJ5_setLength_1 (by decide) ?_ ?_
  · skip
    refine r_aload_n (pc := 13) dJ5_setLength_13 rfl 0 rfl ?_
    refine r_iload_n (pc := 14) dJ5_setLength_14 rfl 1 rfl ?_
    refine r_cV (pc := 15) (rest := []) (RunOK_chk (fun h => run_P (n := 1) (c9 := 6) (As := [.int x1]) (rest := []) (t_J5_ensureCapacityInternal γ l hl x0 x1 g) dJ5_setLength_15 q472 q3884 mv473 q474 q117 q475 (by decide +kernel) rfl h ⟨by decide, by decide⟩ (Nat.le_of_ble_eq_true rfl) (Nat.le_of_ble_eq_true rfl) rfl (Nat.le_of_ble_eq_true rfl))) (fun g1 => ?_)
    refine r_aload_n (pc := 18) dJ5_setLength_18 rfl 0 rfl ?_
    refine r_getI (f := 25) (pc := 19) dJ5_setLength_19 q308 (Or.inl rfl) rfl (fun v2 => ?_)
    refine r_iload_n (pc := 22) dJ5_setLength_22 rfl 1 rfl ?_
    refine r_icmp_ge (tgt := 63) (pc := 23) dJ5_setLength_23 (by decide) ?_ ?_
    · skip
      refine r_aload_n (pc := 63) dJ5_setLength_63 rfl 0 rfl ?_
      refine r_getI (f := 25) (pc := 64) dJ5_setLength_64 q308 (Or.inl rfl) rfl (fun v3 => ?_)
      refine r_iload_n (pc := 67) dJ5_setLength_67 rfl 1 rfl ?_
      refine r_icmp_le (tgt := 76) (pc := 68) dJ5_setLength_68 (by decide) ?_ ?_
      · skip
        refine r_aload_n (pc := 76) dJ5_setLength_76 rfl 0 rfl ?_
        refine r_iload_n (pc := 77) dJ5_setLength_77 rfl 1 rfl ?_
        refine r_putI (f := 25) (pc := 78) dJ5_setLength_78 q308 (Or.inl rfl) (Or.inl rfl) rfl (fun g4 => ?_)
        exact r_vret (pc := 81) dJ5_setLength_81 rfl
      · skip
        refine r_aload_n (pc := 71) dJ5_setLength_71 rfl 0 rfl ?_
        refine r_iconst (v := (1 : Int32)) (pc := 72) dJ5_setLength_72 (by decide) ?_
        refine r_putI (f := 24) (pc := 73) dJ5_setLength_73 q306 (Or.inl rfl) (Or.inl rfl) rfl (fun g5 => ?_)
        refine r_aload_n (pc := 76) dJ5_setLength_76 rfl 0 rfl ?_
        refine r_iload_n (pc := 77) dJ5_setLength_77 rfl 1 rfl ?_
        refine r_putI (f := 25) (pc := 78) dJ5_setLength_78 q308 (Or.inl rfl) (Or.inl rfl) rfl (fun g6 => ?_)
        exact r_vret (pc := 81) dJ5_setLength_81 rfl
    · skip
      refine r_aload_n (pc := 26) dJ5_setLength_26 rfl 0 rfl ?_
      refine r_cI (pc := 27) (rest := []) (RunOK_chk (fun h => run_U (n := 0) (c9 := 6) (As := []) (rest := []) (owner := "java/lang/AbstractStringBuilder") (t_J5_isLatin1 γ l hl x0 g1) dJ5_setLength_27 q507 q509 q510 q508 q117 q511 rfl ⟨by decide, by decide, by decide +kernel⟩ rfl h ⟨by decide, by decide⟩ (Nat.le_of_ble_eq_true rfl) (Nat.le_of_ble_eq_true rfl) rfl (Nat.le_of_ble_eq_true rfl))) (fun v8 g7 => ?_)
      refine r_if_eq (tgt := 48) (pc := 30) dJ5_setLength_30 (by decide) ?_ ?_
      · skip
        refine r_aload_n (pc := 48) dJ5_setLength_48 rfl 0 rfl ?_
        refine r_getR (f := 22) (pc := 49) dJ5_setLength_49 q304 (Or.inl rfl) rfl (fun v9 => ?_)
        refine r_aload_n (pc := 52) dJ5_setLength_52 rfl 0 rfl ?_
        refine r_getI (f := 25) (pc := 53) dJ5_setLength_53 q308 (Or.inl rfl) rfl (fun v10 => ?_)
        refine r_iload_n (pc := 56) dJ5_setLength_56 rfl 1 rfl ?_
        refine r_cV (pc := 57) (rest := []) (run_S (n := 3) (As := [.ref v9, .int v10, .int x1]) (rest := []) (t_J8_fillNull γ l hl v9 v10 x1 g7) dJ5_setLength_57 q3000 q3001 q120 q3002 (by decide +kernel) rfl (Nat.le_of_ble_eq_true rfl) (Nat.le_of_ble_eq_true rfl) rfl (Nat.le_of_ble_eq_true rfl)) (fun g11 => ?_)
        refine r_goto (tgt := 76) (pc := 60) dJ5_setLength_60 (by decide) ?_
        refine r_aload_n (pc := 76) dJ5_setLength_76 rfl 0 rfl ?_
        refine r_iload_n (pc := 77) dJ5_setLength_77 rfl 1 rfl ?_
        refine r_putI (f := 25) (pc := 78) dJ5_setLength_78 q308 (Or.inl rfl) (Or.inl rfl) rfl (fun g12 => ?_)
        exact r_vret (pc := 81) dJ5_setLength_81 rfl
      · skip
        refine r_aload_n (pc := 33) dJ5_setLength_33 rfl 0 rfl ?_
        refine r_getR (f := 22) (pc := 34) dJ5_setLength_34 q304 (Or.inl rfl) rfl (fun v13 => ?_)
        refine r_aload_n (pc := 37) dJ5_setLength_37 rfl 0 rfl ?_
        refine r_getI (f := 25) (pc := 38) dJ5_setLength_38 q308 (Or.inl rfl) rfl (fun v14 => ?_)
        refine r_iload_n (pc := 41) dJ5_setLength_41 rfl 1 rfl ?_
        refine r_cV (pc := 42) (rest := []) (run_S (n := 3) (As := [.ref v13, .int v14, .int x1]) (rest := []) (t_J19_fillNull γ l hl v13 v14 x1 g7) dJ5_setLength_42 q2978 q2979 q133 q2980 (by decide +kernel) rfl (Nat.le_of_ble_eq_true rfl) (Nat.le_of_ble_eq_true rfl) rfl (Nat.le_of_ble_eq_true rfl)) (fun g15 => ?_)
        refine r_goto (tgt := 76) (pc := 45) dJ5_setLength_45 (by decide) ?_
        refine r_aload_n (pc := 76) dJ5_setLength_76 rfl 0 rfl ?_
        refine r_iload_n (pc := 77) dJ5_setLength_77 rfl 1 rfl ?_
        refine r_putI (f := 25) (pc := 78) dJ5_setLength_78 q308 (Or.inl rfl) (Or.inl rfl) rfl (fun g16 => ?_)
        exact r_vret (pc := 81) dJ5_setLength_81 rfl
  · skip
    exact AW_none
abbrev ck_J6_setLength : CK := ("java/lang/StringBuilder", prog_49_method_89_code, 2, none, "setLength", [], 6)
def f_J6_setLength (γ : GP) (x0 : Nat) (x1 : Int32) (g : AH) : Option (AH) := bV ((if hK g x0 = 6 then f_J5_setLength γ x0 x1 g else none)) fun g1 => (some g1)
theorem t_J6_setLength (γ : GP) (l : Launch) (hl : l.stackTraces = false) (x0 : Nat) (x1 : Int32) (g : AH) : TrM ρV γ l ⟨"java/lang/StringBuilder", "setLength", "(I)V"⟩ (ws_ ⟨"java/lang/StringBuilder", "setLength", "(I)V"⟩ prog_49_method_89_code 2 none) 6 [.ref x0, .int x1] g (f_J6_setLength γ x0 x1 g) := by
  refine TrM_of (plainFor_of_name (by decide)) (Nat.le_of_ble_eq_true rfl) ?_
  unfold f_J6_setLength
  change AW ρV γ l ck_J6_setLength g 0 [(0, .ref x0), (1, .int x1)] [] g _
  refine r_aload_n (pc := 0) dJ6_setLength_0 rfl 0 rfl ?_
  refine r_iload_n (pc := 1) dJ6_setLength_1 rfl 1 rfl ?_
  refine r_cV (pc := 2) (rest := []) (RunOK_chk (fun h => run_SU (n := 1) (As := [.int x1]) (rest := []) (t_J5_setLength γ l hl x0 x1 g) dJ6_setLength_2 q2956 q3912 q317 q2957 q117 q2958 ⟨by decide, by decide +kernel⟩ rfl h ⟨by decide, by decide⟩ (Nat.le_of_ble_eq_true rfl) (Nat.le_of_ble_eq_true rfl) rfl (Nat.le_of_ble_eq_true rfl))) (fun g1 => ?_)
  exact r_vret (pc := 5) dJ6_setLength_5 rfl
abbrev ck_J5_init : CK := ("java/lang/AbstractStringBuilder", prog_27_method_2_code, 2, none, "<init>", [], 3)
def f_J5_init (γ : GP) (x0 : Nat) (x1 : Int32) (g : AH) : Option (AH) := (if x0 ≠ 0 then (if (1 : Int32) = 0 then bR (f_J8_newBytesFor γ x1 g) fun v2 g1 => pR γ g1 x0 22 v2 fun g3 => pI γ g3 x0 23 (1 : Int32) fun g4 => (some g4) else mA g 102 x1 fun q5 g6 => pR γ g6 x0 22 q5 fun g7 => pI γ g7 x0 23 (0 : Int32) fun g8 => (some g8)) else none)
theorem t_J5_init (γ : GP) (l : Launch) (hl : l.stackTraces = false) (x0 : Nat) (x1 : Int32) (g : AH) : TrM ρV γ l ⟨"java/lang/AbstractStringBuilder", "<init>", "(I)V"⟩ (ws_ ⟨"java/lang/AbstractStringBuilder", "<init>", "(I)V"⟩ prog_27_method_2_code 2 none) 3 [.ref x0, .int x1] g (f_J5_init γ x0 x1 g) := by
  refine TrM_of (plainFor_of_name (by decide)) (Nat.le_of_ble_eq_true rfl) ?_
  unfold f_J5_init
  change AW ρV γ l ck_J5_init g 0 [(0, .ref x0), (1, .int x1)] [] g _
  refine r_aload_n (pc := 0) dJ5_init_0 rfl 0 rfl ?_
  refine r_objInit (pc := 1) dJ5_init_1 q294 q185 q186 (by decide) (Nat.le_of_ble_eq_true rfl) ?_
  refine r_getsI (v := (1 : Int32)) (pc := 4) dJ5_init_4 q295 (List.mem_of_getElem? (i := 0) rfl) rfl ?_
  refine r_if_eq (tgt := 25) (pc := 7) dJ5_init_7 (by decide) ?_ ?_
  · skip
    refine r_aload_n (pc := 25) dJ5_init_25 rfl 0 rfl ?_
    refine r_iload_n (pc := 26) dJ5_init_26 rfl 1 rfl ?_
    refine r_cR (pc := 27) (rest := [.ref x0]) (run_S (n := 1) (As := [.int x1]) (rest := [.ref x0]) (t_J8_newBytesFor γ l hl x1 g) dJ5_init_27 q297 q298 q120 q299 (by decide +kernel) rfl (Nat.le_of_ble_eq_true rfl) (Nat.le_of_ble_eq_true rfl) rfl (Nat.le_of_ble_eq_true rfl)) (fun v2 g1 => ?_)
    refine r_putR (f := 22) (pc := 30) dJ5_init_30 q304 (Or.inl rfl) (Or.inl rfl) rfl (fun g3 => ?_)
    refine r_aload_n (pc := 33) dJ5_init_33 rfl 0 rfl ?_
    refine r_iconst (v := (1 : Int32)) (pc := 34) dJ5_init_34 (by decide) ?_
    refine r_putI (f := 23) (pc := 35) dJ5_init_35 q305 (Or.inl rfl) (Or.inl rfl) rfl (fun g4 => ?_)
    exact r_vret (pc := 38) dJ5_init_38 rfl
  · skip
    refine r_aload_n (pc := 10) dJ5_init_10 rfl 0 rfl ?_
    refine r_iload_n (pc := 11) dJ5_init_11 rfl 1 rfl ?_
    refine r_newa (kd := 102) (atype := .byte) (pc := 12) dJ5_init_12 q318 (by decide) rfl (by decide) (fun _ _ => by rw [nA_av]; rfl) (by decide) (fun q5 g6 => ?_)
    refine r_putR (f := 22) (pc := 14) dJ5_init_14 q304 (Or.inl rfl) (Or.inl rfl) rfl (fun g7 => ?_)
    refine r_aload_n (pc := 17) dJ5_init_17 rfl 0 rfl ?_
    refine r_iconst (v := (0 : Int32)) (pc := 18) dJ5_init_18 (by decide) ?_
    refine r_putI (f := 23) (pc := 19) dJ5_init_19 q305 (Or.inl rfl) (Or.inl rfl) rfl (fun g8 => ?_)
    refine r_goto (tgt := 38) (pc := 22) dJ5_init_22 (by decide) ?_
    exact r_vret (pc := 38) dJ5_init_38 rfl
abbrev ck_J6_init : CK := ("java/lang/StringBuilder", prog_49_method_1_code, 1, none, "<init>", [], 4)
def f_J6_init (γ : GP) (x0 : Nat) (g : AH) : Option (AH) := bV ((if x0 ≠ 0 then f_J5_init γ x0 (16 : Int32) g else none)) fun g1 => (some g1)
theorem t_J6_init (γ : GP) (l : Launch) (hl : l.stackTraces = false) (x0 : Nat) (g : AH) : TrM ρV γ l ⟨"java/lang/StringBuilder", "<init>", "()V"⟩ (ws_ ⟨"java/lang/StringBuilder", "<init>", "()V"⟩ prog_49_method_1_code 1 none) 4 [.ref x0] g (f_J6_init γ x0 g) := by
  refine TrM_of (plainFor_of_name (by decide)) (Nat.le_of_ble_eq_true rfl) ?_
  unfold f_J6_init
  change AW ρV γ l ck_J6_init g 0 [(0, .ref x0)] [] g _
  refine r_aload_n (pc := 0) dJ6_init_0 rfl 0 rfl ?_
  refine r_bipush (v := (16 : Int32)) (pc := 1) dJ6_init_1 (by decide) ?_
  refine r_cV (pc := 3) (rest := []) (RunOK_chk (fun h => run_I (n := 1) (As := [.int (16 : Int32)]) (rest := []) (t_J5_init γ l hl x0 (16 : Int32) g) dJ6_init_3 q291 q292 q117 q293 rfl (by decide +kernel) rfl h (Nat.le_of_ble_eq_true rfl) (Nat.le_of_ble_eq_true rfl) rfl (Nat.le_of_ble_eq_true rfl))) (fun g1 => ?_)
  exact r_vret (pc := 6) dJ6_init_6 rfl
abbrev ck_J7_coder : CK := ("java/lang/String", prog_48_method_152_code, 1, (some .byte), "coder", [], 1)
def f_J7_coder (γ : GP) (x0 : Nat) (g : AH) : Option (Int32 × AH) := (if (1 : Int32) = 0 then (rtN .byte (1 : Int32) g) else gI g x0 27 fun v1 => (rtN .byte v1 g))
theorem t_J7_coder (γ : GP) (l : Launch) (hl : l.stackTraces = false) (x0 : Nat) (g : AH) : TrM ρI γ l ⟨"java/lang/String", "coder", "()B"⟩ (ws_ ⟨"java/lang/String", "coder", "()B"⟩ prog_48_method_152_code 1 (some .byte)) 1 [.ref x0] g (f_J7_coder γ x0 g) := by
  refine TrM_of (plainFor_of_name (by decide)) (Nat.le_of_ble_eq_true rfl) ?_
  unfold f_J7_coder
  change AW ρI γ l ck_J7_coder g 0 [(0, .ref x0)] [] g _
  refine r_getsI (v := (1 : Int32)) (pc := 0) dJ7_coder_0 q546 (List.mem_of_getElem? (i := 0) rfl) rfl ?_
  refine r_if_eq (tgt := 13) (pc := 3) dJ7_coder_3 (by decide) ?_ ?_
  · skip
    refine r_iconst (v := (1 : Int32)) (pc := 13) dJ7_coder_13 (by decide) ?_
    exact r_zret (ty := .byte) (pc := 14) dJ7_coder_14 rfl
  · skip
    refine r_aload_n (pc := 6) dJ7_coder_6 rfl 0 rfl ?_
    refine r_getI (f := 27) (pc := 7) dJ7_coder_7 q697 (Or.inl rfl) rfl (fun v1 => ?_)
    refine r_goto (tgt := 14) (pc := 10) dJ7_coder_10 (by decide) ?_
    exact r_zret (ty := .byte) (pc := 14) dJ7_coder_14 rfl
abbrev ck_J7_length : CK := ("java/lang/String", prog_48_method_54_code, 1, (some .int), "length", [], 2)
def f_J7_length (γ : GP) (x0 : Nat) (g : AH) : Option (Int32 × AH) := gR g x0 26 fun v1 => gL g v1 fun v2 => bI ((if hK g x0 = 7 then f_J7_coder γ x0 g else none)) fun v4 g3 => (some ((v2 >>> (v4 &&& 31)), g3))
theorem t_J7_length (γ : GP) (l : Launch) (hl : l.stackTraces = false) (x0 : Nat) (g : AH) : TrM ρI γ l ⟨"java/lang/String", "length", "()I"⟩ (ws_ ⟨"java/lang/String", "length", "()I"⟩ prog_48_method_54_code 1 (some .int)) 2 [.ref x0] g (f_J7_length γ x0 g) := by
  refine TrM_of (plainFor_of_name (by decide)) (Nat.le_of_ble_eq_true rfl) ?_
  unfold f_J7_length
  change AW ρI γ l ck_J7_length g 0 [(0, .ref x0)] [] g _
  refine r_aload_n (pc := 0) dJ7_length_0 rfl 0 rfl ?_
  refine r_getR (f := 26) (pc := 1) dJ7_length_1 q696 (Or.inl rfl) rfl (fun v1 => ?_)
  refine r_alen (pc := 4) dJ7_length_4 (fun v2 => ?_)
  refine r_aload_n (pc := 5) dJ7_length_5 rfl 0 rfl ?_
  refine r_cI (pc := 6) (rest := [.int v2]) (RunOK_chk (fun h => run_V (n := 0) (c9 := 7) (As := []) (rest := [.int v2]) (t_J7_coder γ l hl x0 g) dJ7_length_6 q542 q543 q544 q119 q545 (by decide +kernel) rfl h ⟨rfl, by decide, by decide⟩ (Nat.le_of_ble_eq_true rfl) (Nat.le_of_ble_eq_true rfl) rfl (Nat.le_of_ble_eq_true rfl))) (fun v4 g3 => ?_)
  refine r_ishr (pc := 9) dJ7_length_9 ?_
  exact r_iret (pc := 10) dJ7_length_10 rfl
abbrev ck_J19_charAt : CK := ("java/lang/StringLatin1", prog_51_method_2_code, 2, (some .char), "charAt", [], 3)
def f_J19_charAt (γ : GP) (x0 : Nat) (x1 : Int32) (g : AH) : Option (Int32 × AH) := gL g x0 fun v1 => bV (f_J7_checkIndex γ x1 v1 g) fun g2 => gA g2 102 x0 x1 fun v3 => (rtN .char (((v3 &&& (255 : Int32))).toUInt32 % 65536).toInt32 g2)
theorem t_J19_charAt (γ : GP) (l : Launch) (hl : l.stackTraces = false) (x0 : Nat) (x1 : Int32) (g : AH) : TrM ρI γ l ⟨"java/lang/StringLatin1", "charAt", "([BI)C"⟩ (ws_ ⟨"java/lang/StringLatin1", "charAt", "([BI)C"⟩ prog_51_method_2_code 2 (some .char)) 3 [.ref x0, .int x1] g (f_J19_charAt γ x0 x1 g) := by
  refine TrM_of (plainFor_of_name (by decide)) (Nat.le_of_ble_eq_true rfl) ?_
  unfold f_J19_charAt
  change AW ρI γ l ck_J19_charAt g 0 [(0, .ref x0), (1, .int x1)] [] g _
  refine r_iload_n (pc := 0) dJ19_charAt_0 rfl 1 rfl ?_
  refine r_aload_n (pc := 1) dJ19_charAt_1 rfl 0 rfl ?_
  refine r_alen (pc := 2) dJ19_charAt_2 (fun v1 => ?_)
  refine r_cV (pc := 3) (rest := []) (run_S (n := 2) (As := [.int x1, .int v1]) (rest := []) (t_J7_checkIndex γ l hl x1 v1 g) dJ19_charAt_3 q3045 q2940 q119 q2941 (by decide +kernel) rfl (Nat.le_of_ble_eq_true rfl) (Nat.le_of_ble_eq_true rfl) rfl (Nat.le_of_ble_eq_true rfl)) (fun g2 => ?_)
  refine r_aload_n (pc := 6) dJ19_charAt_6 rfl 0 rfl ?_
  refine r_iload_n (pc := 7) dJ19_charAt_7 rfl 1 rfl ?_
  refine r_bald (pc := 8) dJ19_charAt_8 (fun v3 => ?_)
  refine r_sipush (v := (255 : Int32)) (pc := 9) dJ19_charAt_9 (by decide) ?_
  refine r_iand (pc := 12) dJ19_charAt_12 ?_
  refine r_i2c (pc := 13) dJ19_charAt_13 ?_
  exact r_zret (ty := .char) (pc := 14) dJ19_charAt_14 rfl
abbrev ck_J8_charAt : CK := ("java/lang/StringUTF16", prog_52_method_83_code, 2, (some .char), "charAt", [], 4)
def f_J8_charAt (γ : GP) (x0 : Nat) (x1 : Int32) (g : AH) : Option (Int32 × AH) := bV (f_J8_checkIndex γ x1 x0 g) fun g1 => bI (f_J8_getChar γ x0 x1 g1) fun v3 g2 => (rtN .char v3 g2)
theorem t_J8_charAt (γ : GP) (l : Launch) (hl : l.stackTraces = false) (x0 : Nat) (x1 : Int32) (g : AH) : TrM ρI γ l ⟨"java/lang/StringUTF16", "charAt", "([BI)C"⟩ (ws_ ⟨"java/lang/StringUTF16", "charAt", "([BI)C"⟩ prog_52_method_83_code 2 (some .char)) 4 [.ref x0, .int x1] g (f_J8_charAt γ x0 x1 g) := by
  refine TrM_of (plainFor_of_name (by decide)) (Nat.le_of_ble_eq_true rfl) ?_
  unfold f_J8_charAt
  change AW ρI γ l ck_J8_charAt g 0 [(0, .ref x0), (1, .int x1)] [] g _
  refine r_iload_n (pc := 0) dJ8_charAt_0 rfl 1 rfl ?_
  refine r_aload_n (pc := 1) dJ8_charAt_1 rfl 0 rfl ?_
  refine r_cV (pc := 2) (rest := []) (run_S (n := 2) (As := [.int x1, .ref x0]) (rest := []) (t_J8_checkIndex γ l hl x1 x0 g) dJ8_charAt_2 q2936 q2937 q120 q2938 (by decide +kernel) rfl (Nat.le_of_ble_eq_true rfl) (Nat.le_of_ble_eq_true rfl) rfl (Nat.le_of_ble_eq_true rfl)) (fun g1 => ?_)
  refine r_aload_n (pc := 5) dJ8_charAt_5 rfl 0 rfl ?_
  refine r_iload_n (pc := 6) dJ8_charAt_6 rfl 1 rfl ?_
  refine r_cI (pc := 7) (rest := []) (run_S (n := 2) (As := [.ref x0, .int x1]) (rest := []) (t_J8_getChar γ l hl x0 x1 g1) dJ8_charAt_7 q689 q690 q120 q691 (by decide +kernel) rfl (Nat.le_of_ble_eq_true rfl) (Nat.le_of_ble_eq_true rfl) rfl (Nat.le_of_ble_eq_true rfl)) (fun v3 g2 => ?_)
  exact r_zret (ty := .char) (pc := 10) dJ8_charAt_10 rfl
abbrev ck_J7_charAt : CK := ("java/lang/String", prog_48_method_56_code, 2, (some .char), "charAt", [], 5)
def f_J7_charAt (γ : GP) (x0 : Nat) (x1 : Int32) (g : AH) : Option (Int32 × AH) := bI ((if hK g x0 = 7 then f_J7_isLatin1 γ x0 g else none)) fun v2 g1 => (if v2 = 0 then gR g1 x0 26 fun v3 => bI (f_J8_charAt γ v3 x1 g1) fun v5 g4 => (rtN .char v5 g4) else gR g1 x0 26 fun v6 => bI (f_J19_charAt γ v6 x1 g1) fun v8 g7 => (rtN .char v8 g7))
theorem t_J7_charAt (γ : GP) (l : Launch) (hl : l.stackTraces = false) (x0 : Nat) (x1 : Int32) (g : AH) : TrM ρI γ l ⟨"java/lang/String", "charAt", "(I)C"⟩ (ws_ ⟨"java/lang/String", "charAt", "(I)C"⟩ prog_48_method_56_code 2 (some .char)) 5 [.ref x0, .int x1] g (f_J7_charAt γ x0 x1 g) := by
  refine TrM_of (plainFor_of_name (by decide)) (Nat.le_of_ble_eq_true rfl) ?_
  unfold f_J7_charAt
  change AW ρI γ l ck_J7_charAt g 0 [(0, .ref x0), (1, .int x1)] [] g _
  refine r_aload_n (pc := 0) dJ7_charAt_0 rfl 0 rfl ?_
  refine r_cI (pc := 1) (rest := []) (RunOK_chk (fun h => run_V (n := 0) (c9 := 7) (As := []) (rest := []) (t_J7_isLatin1 γ l hl x0 g) dJ7_charAt_1 q2286 q2287 q2288 q119 q2289 (by decide +kernel) rfl h ⟨rfl, by decide, by decide⟩ (Nat.le_of_ble_eq_true rfl) (Nat.le_of_ble_eq_true rfl) rfl (Nat.le_of_ble_eq_true rfl))) (fun v2 g1 => ?_)
  refine r_if_eq (tgt := 16) (pc := 4) dJ7_charAt_4 (by decide) ?_ ?_
  · skip
    refine r_aload_n (pc := 16) dJ7_charAt_16 rfl 0 rfl ?_
    refine r_getR (f := 26) (pc := 17) dJ7_charAt_17 q696 (Or.inl rfl) rfl (fun v3 => ?_)
    refine r_iload_n (pc := 20) dJ7_charAt_20 rfl 1 rfl ?_
    refine r_cI (pc := 21) (rest := []) (run_S (n := 2) (As := [.ref v3, .int x1]) (rest := []) (t_J8_charAt γ l hl v3 x1 g1) dJ7_charAt_21 q3046 q3047 q120 q3048 (by decide +kernel) rfl (Nat.le_of_ble_eq_true rfl) (Nat.le_of_ble_eq_true rfl) rfl (Nat.le_of_ble_eq_true rfl)) (fun v5 g4 => ?_)
    exact r_zret (ty := .char) (pc := 24) dJ7_charAt_24 rfl
  · skip
    refine r_aload_n (pc := 7) dJ7_charAt_7 rfl 0 rfl ?_
    refine r_getR (f := 26) (pc := 8) dJ7_charAt_8 q696 (Or.inl rfl) rfl (fun v6 => ?_)
    refine r_iload_n (pc := 11) dJ7_charAt_11 rfl 1 rfl ?_
    refine r_cI (pc := 12) (rest := []) (run_S (n := 2) (As := [.ref v6, .int x1]) (rest := []) (t_J19_charAt γ l hl v6 x1 g1) dJ7_charAt_12 q3042 q3043 q133 q3044 (by decide +kernel) rfl (Nat.le_of_ble_eq_true rfl) (Nat.le_of_ble_eq_true rfl) rfl (Nat.le_of_ble_eq_true rfl)) (fun v8 g7 => ?_)
    exact r_zret (ty := .char) (pc := 15) dJ7_charAt_15 rfl
abbrev ck_J18_checkFromToIndex : CK := ("jdk/internal/util/Preconditions", prog_107_method_12_code, 4, (some .int), "checkFromToIndex", [], 1)
def f_J18_checkFromToIndex (γ : GP) (x0 : Int32) (x1 : Int32) (x2 : Int32) (x3 : Nat) (g : AH) : Option (Int32 × AH) := (if x0 < 0 then none else (if x1 < x0 then none else (if x1 ≤ x2 then (some (x0, g)) else none)))
theorem t_J18_checkFromToIndex (γ : GP) (l : Launch) (hl : l.stackTraces = false) (x0 : Int32) (x1 : Int32) (x2 : Int32) (x3 : Nat) (g : AH) : TrM ρI γ l ⟨"jdk/internal/util/Preconditions", "checkFromToIndex", "(IIILjava/util/function/BiFunction;)I"⟩ (ws_ ⟨"jdk/internal/util/Preconditions", "checkFromToIndex", "(IIILjava/util/function/BiFunction;)I"⟩ prog_107_method_12_code 4 (some .int)) 1 [.int x0, .int x1, .int x2, .ref x3] g (f_J18_checkFromToIndex γ x0 x1 x2 x3 g) := by
  refine TrM_of (plainFor_of_name (by decide)) (Nat.le_of_ble_eq_true rfl) ?_
  unfold f_J18_checkFromToIndex
  change AW ρI γ l ck_J18_checkFromToIndex g 0 [(0, .int x0), (1, .int x1), (2, .int x2), (3, .ref x3)] [] g _
  refine r_iload_n (pc := 0) dJ18_checkFromToIndex_0 rfl 0 rfl ?_
  refine r_if_lt (tgt := 14) (pc := 1) dJ18_checkFromToIndex_1 (by decide) ?_ ?_
  · skip
    refine r_aload_n (pc := 14) dJ18_checkFromToIndex_14 rfl 3 rfl ?_
    refine r_iload_n (pc := 15) dJ18_checkFromToIndex_15 rfl 0 rfl ?_
    refine r_iload_n (pc := 16) dJ18_checkFromToIndex_16 rfl 1 rfl ?_
    refine r_iload_n (pc := 17) dJ18_checkFromToIndex_17 rfl 2 rfl ?_
    exact AW_none
  · skip
    refine r_iload_n (pc := 4) dJ18_checkFromToIndex_4 rfl 0 rfl ?_
    refine r_iload_n (pc := 5) dJ18_checkFromToIndex_5 rfl 1 rfl ?_
    refine r_icmp_gt (tgt := 14) (pc := 6) dJ18_checkFromToIndex_6 (by decide) ?_ ?_
    · skip
      refine r_aload_n (pc := 14) dJ18_checkFromToIndex_14 rfl 3 rfl ?_
      refine r_iload_n (pc := 15) dJ18_checkFromToIndex_15 rfl 0 rfl ?_
      refine r_iload_n (pc := 16) dJ18_checkFromToIndex_16 rfl 1 rfl ?_
      refine r_iload_n (pc := 17) dJ18_checkFromToIndex_17 rfl 2 rfl ?_
      exact AW_none
    · skip
      refine r_iload_n (pc := 9) dJ18_checkFromToIndex_9 rfl 1 rfl ?_
      refine r_iload_n (pc := 10) dJ18_checkFromToIndex_10 rfl 2 rfl ?_
      refine r_icmp_le (tgt := 22) (pc := 11) dJ18_checkFromToIndex_11 (by decide) ?_ ?_
      · skip
        refine r_iload_n (pc := 22) dJ18_checkFromToIndex_22 rfl 0 rfl ?_
        exact r_iret (pc := 23) dJ18_checkFromToIndex_23 rfl
      · skip
        refine r_aload_n (pc := 14) dJ18_checkFromToIndex_14 rfl 3 rfl ?_
        refine r_iload_n (pc := 15) dJ18_checkFromToIndex_15 rfl 0 rfl ?_
        refine r_iload_n (pc := 16) dJ18_checkFromToIndex_16 rfl 1 rfl ?_
        refine r_iload_n (pc := 17) dJ18_checkFromToIndex_17 rfl 2 rfl ?_
        exact AW_none
abbrev ck_J7_checkBoundsBeginEnd : CK := ("java/lang/String", prog_48_method_158_code, 3, none, "checkBoundsBeginEnd", [], 2)
def f_J7_checkBoundsBeginEnd (γ : GP) (x0 : Int32) (x1 : Int32) (x2 : Int32) (g : AH) : Option (AH) := bI (f_J18_checkFromToIndex γ x0 x1 x2 (γ.1 3) g) fun v2 g1 => (some g1)
theorem t_J7_checkBoundsBeginEnd (γ : GP) (l : Launch) (hl : l.stackTraces = false) (x0 : Int32) (x1 : Int32) (x2 : Int32) (g : AH) : TrM ρV γ l ⟨"java/lang/String", "checkBoundsBeginEnd", "(III)V"⟩ (ws_ ⟨"java/lang/String", "checkBoundsBeginEnd", "(III)V"⟩ prog_48_method_158_code 3 none) 2 [.int x0, .int x1, .int x2] g (f_J7_checkBoundsBeginEnd γ x0 x1 x2 g) := by
  refine TrM_of (plainFor_of_name (by decide)) (Nat.le_of_ble_eq_true rfl) ?_
  unfold f_J7_checkBoundsBeginEnd
  change AW ρV γ l ck_J7_checkBoundsBeginEnd g 0 [(0, .int x0), (1, .int x1), (2, .int x2)] [] g _
  refine r_iload_n (pc := 0) dJ7_checkBoundsBeginEnd_0 rfl 0 rfl ?_
  refine r_iload_n (pc := 1) dJ7_checkBoundsBeginEnd_1 rfl 1 rfl ?_
  refine r_iload_n (pc := 2) dJ7_checkBoundsBeginEnd_2 rfl 2 rfl ?_
  refine r_gets (i := 3) (pc := 3) dJ7_checkBoundsBeginEnd_3 q524 (List.mem_of_getElem? (i := 3) rfl) rfl ?_
  refine r_cI (pc := 6) (rest := []) (run_S (n := 4) (As := [.int x0, .int x1, .int x2, .ref (γ.1 3)]) (rest := []) (t_J18_checkFromToIndex γ l hl x0 x1 x2 (γ.1 3) g) dJ7_checkBoundsBeginEnd_6 q526 q527 q132 q528 (by decide +kernel) rfl (Nat.le_of_ble_eq_true rfl) (Nat.le_of_ble_eq_true rfl) rfl (Nat.le_of_ble_eq_true rfl)) (fun v2 g1 => ?_)
  refine r_pop (pc := 9) dJ7_checkBoundsBeginEnd_9 rfl ?_
  exact r_vret (pc := 10) dJ7_checkBoundsBeginEnd_10 rfl
abbrev ck_J8_checkBoundsBeginEnd : CK := ("java/lang/StringUTF16", prog_52_method_93_code, 3, none, "checkBoundsBeginEnd", [], 3)
def f_J8_checkBoundsBeginEnd (γ : GP) (x0 : Int32) (x1 : Int32) (x2 : Nat) (g : AH) : Option (AH) := bI (f_J8_length γ x2 g) fun v2 g1 => bV (f_J7_checkBoundsBeginEnd γ x0 x1 v2 g1) fun g3 => (some g3)
theorem t_J8_checkBoundsBeginEnd (γ : GP) (l : Launch) (hl : l.stackTraces = false) (x0 : Int32) (x1 : Int32) (x2 : Nat) (g : AH) : TrM ρV γ l ⟨"java/lang/StringUTF16", "checkBoundsBeginEnd", "(II[B)V"⟩ (ws_ ⟨"java/lang/StringUTF16", "checkBoundsBeginEnd", "(II[B)V"⟩ prog_52_method_93_code 3 none) 3 [.int x0, .int x1, .ref x2] g (f_J8_checkBoundsBeginEnd γ x0 x1 x2 g) := by
  refine TrM_of (plainFor_of_name (by decide)) (Nat.le_of_ble_eq_true rfl) ?_
  unfold f_J8_checkBoundsBeginEnd
  change AW ρV γ l ck_J8_checkBoundsBeginEnd g 0 [(0, .int x0), (1, .int x1), (2, .ref x2)] [] g _
  refine r_iload_n (pc := 0) dJ8_checkBoundsBeginEnd_0 rfl 0 rfl ?_
  refine r_iload_n (pc := 1) dJ8_checkBoundsBeginEnd_1 rfl 1 rfl ?_
  refine r_aload_n (pc := 2) dJ8_checkBoundsBeginEnd_2 rfl 2 rfl ?_
  refine r_cI (pc := 3) (rest := [.int x1, .int x0]) (run_S (n := 1) (As := [.ref x2]) (rest := [.int x1, .int x0]) (t_J8_length γ l hl x2 g) dJ8_checkBoundsBeginEnd_3 q518 q519 q120 q520 (by decide +kernel) rfl (Nat.le_of_ble_eq_true rfl) (Nat.le_of_ble_eq_true rfl) rfl (Nat.le_of_ble_eq_true rfl)) (fun v2 g1 => ?_)
  refine r_cV (pc := 6) (rest := []) (run_S (n := 3) (As := [.int x0, .int x1, .int v2]) (rest := []) (t_J7_checkBoundsBeginEnd γ l hl x0 x1 v2 g1) dJ8_checkBoundsBeginEnd_6 q521 q522 q119 q523 (by decide +kernel) rfl (Nat.le_of_ble_eq_true rfl) (Nat.le_of_ble_eq_true rfl) rfl (Nat.le_of_ble_eq_true rfl)) (fun g3 => ?_)
  exact r_vret (pc := 9) dJ8_checkBoundsBeginEnd_9 rfl
abbrev ck_J8_putCharsAt : CK := ("java/lang/StringUTF16", prog_52_method_81_code, 7, (some .int), "putCharsAt", [], 4)
def f_J8_putCharsAt (γ : GP) (x0 : Nat) (x1 : Int32) (x2 : Int32) (x3 : Int32) (x4 : Int32) (x5 : Int32) (g : AH) : Option (Int32 × AH) := bV (f_J8_checkBoundsBeginEnd γ x1 (x1 + (4 : Int32)) x0 g) fun g1 => bV (f_J8_putChar γ x0 x1 x2 g1) fun g2 => bV (f_J8_putChar γ x0 (x1 + (1 : Int32)) x3 g2) fun g3 => bV (f_J8_putChar γ x0 ((x1 + (1 : Int32)) + (1 : Int32)) x4 g3) fun g4 => bV (f_J8_putChar γ x0 (((x1 + (1 : Int32)) + (1 : Int32)) + (1 : Int32)) x5 g4) fun g5 => (if (1 : Int32) = 0 then (if ((((x1 + (1 : Int32)) + (1 : Int32)) + (1 : Int32)) + (1 : Int32)) = (x1 + (4 : Int32)) then (some ((x1 + (4 : Int32)), g5)) else none) else (some ((x1 + (4 : Int32)), g5)))
theorem t_J8_putCharsAt (γ : GP) (l : Launch) (hl : l.stackTraces = false) (x0 : Nat) (x1 : Int32) (x2 : Int32) (x3 : Int32) (x4 : Int32) (x5 : Int32) (g : AH) : TrM ρI γ l ⟨"java/lang/StringUTF16", "putCharsAt", "([BICCCC)I"⟩ (ws_ ⟨"java/lang/StringUTF16", "putCharsAt", "([BICCCC)I"⟩ prog_52_method_81_code 7 (some .int)) 4 [.ref x0, .int x1, .int x2, .int x3, .int x4, .int x5] g (f_J8_putCharsAt γ x0 x1 x2 x3 x4 x5 g) := by
  refine TrM_of (plainFor_of_name (by decide)) (Nat.le_of_ble_eq_true rfl) ?_
  unfold f_J8_putCharsAt
  change AW ρI γ l ck_J8_putCharsAt g 0 [(0, .ref x0), (1, .int x1), (2, .int x2), (3, .int x3), (4, .int x4), (5, .int x5)] [] g _
  refine r_iload_n (pc := 0) dJ8_putCharsAt_0 rfl 1 rfl ?_
  refine r_iconst (v := (4 : Int32)) (pc := 1) dJ8_putCharsAt_1 (by decide) ?_
  refine r_iadd (pc := 2) dJ8_putCharsAt_2 ?_
  refine r_istore (pc := 3) dJ8_putCharsAt_3 (Nat.le_of_ble_eq_true rfl) rfl ?_
  refine r_iload_n (pc := 5) dJ8_putCharsAt_5 rfl 2 rfl ?_
  refine r_iload (pc := 6) dJ8_putCharsAt_6 0 rfl ?_
  refine r_aload_n (pc := 8) dJ8_putCharsAt_8 rfl 1 rfl ?_
  refine r_cV (pc := 9) (rest := []) (run_S (n := 3) (As := [.int x1, .int (x1 + (4 : Int32)), .ref x0]) (rest := []) (t_J8_checkBoundsBeginEnd γ l hl x1 (x1 + (4 : Int32)) x0 g) dJ8_putCharsAt_9 q515 q516 q120 q517 (by decide +kernel) rfl (Nat.le_of_ble_eq_true rfl) (Nat.le_of_ble_eq_true rfl) rfl (Nat.le_of_ble_eq_true rfl)) (fun g1 => ?_)
  refine r_aload_n (pc := 12) dJ8_putCharsAt_12 rfl 1 rfl ?_
  refine r_iload_n (pc := 13) dJ8_putCharsAt_13 rfl 2 rfl ?_
  refine r_iinc (j := 2) (v := (x1 + (1 : Int32))) (pc := 14) dJ8_putCharsAt_14 rfl rfl (Nat.le_of_ble_eq_true rfl) rfl ?_
  refine r_iload_n (pc := 17) dJ8_putCharsAt_17 rfl 3 rfl ?_
  refine r_cV (pc := 18) (rest := []) (run_S (n := 3) (As := [.ref x0, .int x1, .int x2]) (rest := []) (t_J8_putChar γ l hl x0 x1 x2 g1) dJ8_putCharsAt_18 q529 q530 q120 q531 (by decide +kernel) rfl (Nat.le_of_ble_eq_true rfl) (Nat.le_of_ble_eq_true rfl) rfl (Nat.le_of_ble_eq_true rfl)) (fun g2 => ?_)
  refine r_aload_n (pc := 21) dJ8_putCharsAt_21 rfl 2 rfl ?_
  refine r_iload_n (pc := 22) dJ8_putCharsAt_22 rfl 0 rfl ?_
  refine r_iinc (j := 0) (v := ((x1 + (1 : Int32)) + (1 : Int32))) (pc := 23) dJ8_putCharsAt_23 rfl rfl (Nat.le_of_ble_eq_true rfl) rfl ?_
  refine r_iload_n (pc := 26) dJ8_putCharsAt_26 rfl 4 rfl ?_
  refine r_cV (pc := 27) (rest := []) (run_S (n := 3) (As := [.ref x0, .int (x1 + (1 : Int32)), .int x3]) (rest := []) (t_J8_putChar γ l hl x0 (x1 + (1 : Int32)) x3 g2) dJ8_putCharsAt_27 q529 q530 q120 q531 (by decide +kernel) rfl (Nat.le_of_ble_eq_true rfl) (Nat.le_of_ble_eq_true rfl) rfl (Nat.le_of_ble_eq_true rfl)) (fun g3 => ?_)
  refine r_aload_n (pc := 30) dJ8_putCharsAt_30 rfl 2 rfl ?_
  refine r_iload_n (pc := 31) dJ8_putCharsAt_31 rfl 0 rfl ?_
  refine r_iinc (j := 0) (v := (((x1 + (1 : Int32)) + (1 : Int32)) + (1 : Int32))) (pc := 32) dJ8_putCharsAt_32 rfl rfl (Nat.le_of_ble_eq_true rfl) rfl ?_
  refine r_iload (pc := 35) dJ8_putCharsAt_35 5 rfl ?_
  refine r_cV (pc := 37) (rest := []) (run_S (n := 3) (As := [.ref x0, .int ((x1 + (1 : Int32)) + (1 : Int32)), .int x4]) (rest := []) (t_J8_putChar γ l hl x0 ((x1 + (1 : Int32)) + (1 : Int32)) x4 g3) dJ8_putCharsAt_37 q529 q530 q120 q531 (by decide +kernel) rfl (Nat.le_of_ble_eq_true rfl) (Nat.le_of_ble_eq_true rfl) rfl (Nat.le_of_ble_eq_true rfl)) (fun g4 => ?_)
  refine r_aload_n (pc := 40) dJ8_putCharsAt_40 rfl 2 rfl ?_
  refine r_iload_n (pc := 41) dJ8_putCharsAt_41 rfl 0 rfl ?_
  refine r_iinc (j := 0) (v := ((((x1 + (1 : Int32)) + (1 : Int32)) + (1 : Int32)) + (1 : Int32))) (pc := 42) dJ8_putCharsAt_42 rfl rfl (Nat.le_of_ble_eq_true rfl) rfl ?_
  refine r_iload (pc := 45) dJ8_putCharsAt_45 6 rfl ?_
  refine r_cV (pc := 47) (rest := []) (run_S (n := 3) (As := [.ref x0, .int (((x1 + (1 : Int32)) + (1 : Int32)) + (1 : Int32)), .int x5]) (rest := []) (t_J8_putChar γ l hl x0 (((x1 + (1 : Int32)) + (1 : Int32)) + (1 : Int32)) x5 g4) dJ8_putCharsAt_47 q529 q530 q120 q531 (by decide +kernel) rfl (Nat.le_of_ble_eq_true rfl) (Nat.le_of_ble_eq_true rfl) rfl (Nat.le_of_ble_eq_true rfl)) (fun g5 => ?_)
  refine r_getsI (v := (1 : Int32)) (pc := 50) dJ8_putCharsAt_50 q532 (List.mem_of_getElem? (i := 1) rfl) rfl ?_
  refine r_if_ne (tgt := 70) (pc := 53) dJ8_putCharsAt_53 (by decide) ?_ ?_
  · skip
    refine r_iload_n (pc := 56) dJ8_putCharsAt_56 rfl 0 rfl ?_
    refine r_iload (pc := 57) dJ8_putCharsAt_57 1 rfl ?_
    refine r_icmp_eq (tgt := 70) (pc := 59) dJ8_putCharsAt_59 (by decide) ?_ ?_
    · skip
      refine r_iload (pc := 70) dJ8_putCharsAt_70 1 rfl ?_
      exact r_iret (pc := 72) dJ8_putCharsAt_72 rfl
    · skip
      exact AW_none
  · skip
    refine r_iload (pc := 70) dJ8_putCharsAt_70 1 rfl ?_
    exact r_iret (pc := 72) dJ8_putCharsAt_72 rfl
abbrev ck_J5_appendNull : CK := ("java/lang/AbstractStringBuilder", prog_27_method_26_code, 3, (some (.object "java/lang/AbstractStringBuilder")), "appendNull", [], 5)
def f_J5_appendNull (γ : GP) (x0 : Nat) (g : AH) : Option (Nat × AH) := gI g x0 25 fun v1 => bV ((if hK g x0 = 6 then f_J5_ensureCapacityInternal γ x0 (v1 + (4 : Int32)) g else none)) fun g2 => gI g2 x0 25 fun v3 => gR g2 x0 22 fun v4 => bI ((if hK g2 x0 = 6 then f_J5_isLatin1 γ x0 g2 else none)) fun v6 g5 => (if v6 = 0 then bI (f_J8_putCharsAt γ v4 v3 (110 : Int32) (117 : Int32) (108 : Int32) (108 : Int32) g5) fun v8 g7 => pI γ g7 x0 25 v8 fun g9 => (some (x0, g9)) else pA γ g5 102 v4 v3 (110 : Int32) fun g10 => pA γ g10 102 v4 (v3 + (1 : Int32)) (117 : Int32) fun g11 => pA γ g11 102 v4 ((v3 + (1 : Int32)) + (1 : Int32)) (108 : Int32) fun g12 => pA γ g12 102 v4 (((v3 + (1 : Int32)) + (1 : Int32)) + (1 : Int32)) (108 : Int32) fun g13 => pI γ g13 x0 25 ((((v3 + (1 : Int32)) + (1 : Int32)) + (1 : Int32)) + (1 : Int32)) fun g14 => (some (x0, g14)))
theorem t_J5_appendNull (γ : GP) (l : Launch) (hl : l.stackTraces = false) (x0 : Nat) (g : AH) : TrM ρR γ l ⟨"java/lang/AbstractStringBuilder", "appendNull", "()Ljava/lang/AbstractStringBuilder;"⟩ (ws_ ⟨"java/lang/AbstractStringBuilder", "appendNull", "()Ljava/lang/AbstractStringBuilder;"⟩ prog_27_method_26_code 3 (some (.object "java/lang/AbstractStringBuilder"))) 5 [.ref x0] g (f_J5_appendNull γ x0 g) := by
  refine TrM_of (plainFor_of_name (by decide)) (Nat.le_of_ble_eq_true rfl) ?_
  unfold f_J5_appendNull
  change AW ρR γ l ck_J5_appendNull g 0 [(0, .ref x0)] [] g _
  refine r_aload_n (pc := 0) dJ5_appendNull_0 rfl 0 rfl ?_
  refine r_aload_n (pc := 1) dJ5_appendNull_1 rfl 0 rfl ?_
  refine r_getI (f := 25) (pc := 2) dJ5_appendNull_2 q308 (Or.inl rfl) rfl (fun v1 => ?_)
  refine r_iconst (v := (4 : Int32)) (pc := 5) dJ5_appendNull_5 (by decide) ?_
  refine r_iadd (pc := 6) dJ5_appendNull_6 ?_
  refine r_cV (pc := 7) (rest := []) (RunOK_chk (fun h => run_P (n := 1) (c9 := 6) (As := [.int (v1 + (4 : Int32))]) (rest := []) (t_J5_ensureCapacityInternal γ l hl x0 (v1 + (4 : Int32)) g) dJ5_appendNull_7 q472 q3884 mv473 q474 q117 q475 (by decide +kernel) rfl h ⟨by decide, by decide⟩ (Nat.le_of_ble_eq_true rfl) (Nat.le_of_ble_eq_true rfl) rfl (Nat.le_of_ble_eq_true rfl))) (fun g2 => ?_)
  refine r_aload_n (pc := 10) dJ5_appendNull_10 rfl 0 rfl ?_
  refine r_getI (f := 25) (pc := 11) dJ5_appendNull_11 q308 (Or.inl rfl) rfl (fun v3 => ?_)
  refine r_istore_n (pc := 14) dJ5_appendNull_14 rfl (Nat.le_of_ble_eq_true rfl) rfl ?_
  refine r_aload_n (pc := 15) dJ5_appendNull_15 rfl 1 rfl ?_
  refine r_getR (f := 22) (pc := 16) dJ5_appendNull_16 q304 (Or.inl rfl) rfl (fun v4 => ?_)
  refine r_astore_n (pc := 19) dJ5_appendNull_19 rfl (Nat.le_of_ble_eq_true rfl) rfl ?_
  refine r_aload_n (pc := 20) dJ5_appendNull_20 rfl 2 rfl ?_
  refine r_cI (pc := 21) (rest := []) (RunOK_chk (fun h => run_U (n := 0) (c9 := 6) (As := []) (rest := []) (owner := "java/lang/AbstractStringBuilder") (t_J5_isLatin1 γ l hl x0 g2) dJ5_appendNull_21 q507 q509 q510 q508 q117 q511 rfl ⟨by decide, by decide, by decide +kernel⟩ rfl h ⟨by decide, by decide⟩ (Nat.le_of_ble_eq_true rfl) (Nat.le_of_ble_eq_true rfl) rfl (Nat.le_of_ble_eq_true rfl))) (fun v6 g5 => ?_)
  refine r_if_eq (tgt := 62) (pc := 24) dJ5_appendNull_24 (by decide) ?_ ?_
  · skip
    refine r_aload_n (pc := 62) dJ5_appendNull_62 rfl 0 rfl ?_
    refine r_iload_n (pc := 63) dJ5_appendNull_63 rfl 1 rfl ?_
    refine r_bipush (v := (110 : Int32)) (pc := 64) dJ5_appendNull_64 (by decide) ?_
    refine r_bipush (v := (117 : Int32)) (pc := 66) dJ5_appendNull_66 (by decide) ?_
    refine r_bipush (v := (108 : Int32)) (pc := 68) dJ5_appendNull_68 (by decide) ?_
    refine r_bipush (v := (108 : Int32)) (pc := 70) dJ5_appendNull_70 (by decide) ?_
    refine r_cI (pc := 72) (rest := []) (run_S (n := 6) (As := [.ref v4, .int v3, .int (110 : Int32), .int (117 : Int32), .int (108 : Int32), .int (108 : Int32)]) (rest := []) (t_J8_putCharsAt γ l hl v4 v3 (110 : Int32) (117 : Int32) (108 : Int32) (108 : Int32) g5) dJ5_appendNull_72 q512 q513 q120 q514 (by decide +kernel) rfl (Nat.le_of_ble_eq_true rfl) (Nat.le_of_ble_eq_true rfl) rfl (Nat.le_of_ble_eq_true rfl)) (fun v8 g7 => ?_)
    refine r_istore_n (pc := 75) dJ5_appendNull_75 rfl (Nat.le_of_ble_eq_true rfl) rfl ?_
    refine r_aload_n (pc := 76) dJ5_appendNull_76 rfl 2 rfl ?_
    refine r_iload_n (pc := 77) dJ5_appendNull_77 rfl 0 rfl ?_
    refine r_putI (f := 25) (pc := 78) dJ5_appendNull_78 q308 (Or.inl rfl) (Or.inl rfl) rfl (fun g9 => ?_)
    refine r_aload_n (pc := 81) dJ5_appendNull_81 rfl 2 rfl ?_
    exact r_aret (pc := 82) dJ5_appendNull_82 rfl (by first | exact Or.inl ⟨_, rfl⟩ | exact Or.inr ⟨_, rfl⟩)
  · skip
    refine r_aload_n (pc := 27) dJ5_appendNull_27 rfl 0 rfl ?_
    refine r_iload_n (pc := 28) dJ5_appendNull_28 rfl 1 rfl ?_
    refine r_iinc (j := 1) (v := (v3 + (1 : Int32))) (pc := 29) dJ5_appendNull_29 rfl rfl (Nat.le_of_ble_eq_true rfl) rfl ?_
    refine r_bipush (v := (110 : Int32)) (pc := 32) dJ5_appendNull_32 (by decide) ?_
    refine r_bast (pc := 34) dJ5_appendNull_34 (fun g10 => ?_)
    refine r_aload_n (pc := 35) dJ5_appendNull_35 rfl 1 rfl ?_
    refine r_iload_n (pc := 36) dJ5_appendNull_36 rfl 0 rfl ?_
    refine r_iinc (j := 0) (v := ((v3 + (1 : Int32)) + (1 : Int32))) (pc := 37) dJ5_appendNull_37 rfl rfl (Nat.le_of_ble_eq_true rfl) rfl ?_
    refine r_bipush (v := (117 : Int32)) (pc := 40) dJ5_appendNull_40 (by decide) ?_
    refine r_bast (pc := 42) dJ5_appendNull_42 (fun g11 => ?_)
    refine r_aload_n (pc := 43) dJ5_appendNull_43 rfl 1 rfl ?_
    refine r_iload_n (pc := 44) dJ5_appendNull_44 rfl 0 rfl ?_
    refine r_iinc (j := 0) (v := (((v3 + (1 : Int32)) + (1 : Int32)) + (1 : Int32))) (pc := 45) dJ5_appendNull_45 rfl rfl (Nat.le_of_ble_eq_true rfl) rfl ?_
    refine r_bipush (v := (108 : Int32)) (pc := 48) dJ5_appendNull_48 (by decide) ?_
    refine r_bast (pc := 50) dJ5_appendNull_50 (fun g12 => ?_)
    refine r_aload_n (pc := 51) dJ5_appendNull_51 rfl 1 rfl ?_
    refine r_iload_n (pc := 52) dJ5_appendNull_52 rfl 0 rfl ?_
    refine r_iinc (j := 0) (v := ((((v3 + (1 : Int32)) + (1 : Int32)) + (1 : Int32)) + (1 : Int32))) (pc := 53) dJ5_appendNull_53 rfl rfl (Nat.le_of_ble_eq_true rfl) rfl ?_
    refine r_bipush (v := (108 : Int32)) (pc := 56) dJ5_appendNull_56 (by decide) ?_
    refine r_bast (pc := 58) dJ5_appendNull_58 (fun g13 => ?_)
    refine r_goto (tgt := 76) (pc := 59) dJ5_appendNull_59 (by decide) ?_
    refine r_aload_n (pc := 76) dJ5_appendNull_76 rfl 2 rfl ?_
    refine r_iload_n (pc := 77) dJ5_appendNull_77 rfl 0 rfl ?_
    refine r_putI (f := 25) (pc := 78) dJ5_appendNull_78 q308 (Or.inl rfl) (Or.inl rfl) rfl (fun g14 => ?_)
    refine r_aload_n (pc := 81) dJ5_appendNull_81 rfl 2 rfl ?_
    exact r_aret (pc := 82) dJ5_appendNull_82 rfl (by first | exact Or.inl ⟨_, rfl⟩ | exact Or.inr ⟨_, rfl⟩)
abbrev ck_J5_inflateIfNeededFor : CK := ("java/lang/AbstractStringBuilder", prog_27_method_71_code, 2, none, "inflateIfNeededFor", [], 7)
def f_J5_inflateIfNeededFor (γ : GP) (x0 : Nat) (x1 : Nat) (g : AH) : Option (AH) := (if (1 : Int32) = 0 then (some g) else gI g x0 23 fun v1 => bI ((if hK g x1 = 7 then f_J7_coder γ x1 g else none)) fun v3 g2 => (if v1 = v3 then (some g2) else bV ((if hK g2 x0 = 6 then f_J5_inflate γ x0 g2 else none)) fun g4 => (some g4)))
theorem t_J5_inflateIfNeededFor (γ : GP) (l : Launch) (hl : l.stackTraces = false) (x0 : Nat) (x1 : Nat) (g : AH) : TrM ρV γ l ⟨"java/lang/AbstractStringBuilder", "inflateIfNeededFor", "(Ljava/lang/String;)V"⟩ (ws_ ⟨"java/lang/AbstractStringBuilder", "inflateIfNeededFor", "(Ljava/lang/String;)V"⟩ prog_27_method_71_code 2 none) 7 [.ref x0, .ref x1] g (f_J5_inflateIfNeededFor γ x0 x1 g) := by
  refine TrM_of (plainFor_of_name (by decide)) (Nat.le_of_ble_eq_true rfl) ?_
  unfold f_J5_inflateIfNeededFor
  change AW ρV γ l ck_J5_inflateIfNeededFor g 0 [(0, .ref x0), (1, .ref x1)] [] g _
  refine r_getsI (v := (1 : Int32)) (pc := 0) dJ5_inflateIfNeededFor_0 q295 (List.mem_of_getElem? (i := 0) rfl) rfl ?_
  refine r_if_eq (tgt := 21) (pc := 3) dJ5_inflateIfNeededFor_3 (by decide) ?_ ?_
  · skip
    exact r_vret (pc := 21) dJ5_inflateIfNeededFor_21 rfl
  · skip
    refine r_aload_n (pc := 6) dJ5_inflateIfNeededFor_6 rfl 0 rfl ?_
    refine r_getI (f := 23) (pc := 7) dJ5_inflateIfNeededFor_7 q305 (Or.inl rfl) rfl (fun v1 => ?_)
    refine r_aload_n (pc := 10) dJ5_inflateIfNeededFor_10 rfl 1 rfl ?_
    refine r_cI (pc := 11) (rest := [.int v1]) (RunOK_chk (fun h => run_V (n := 0) (c9 := 7) (As := []) (rest := [.int v1]) (t_J7_coder γ l hl x1 g) dJ5_inflateIfNeededFor_11 q555 q543 q544 q119 q545 (by decide +kernel) rfl h ⟨rfl, by decide, by decide⟩ (Nat.le_of_ble_eq_true rfl) (Nat.le_of_ble_eq_true rfl) rfl (Nat.le_of_ble_eq_true rfl))) (fun v3 g2 => ?_)
    refine r_icmp_eq (tgt := 21) (pc := 14) dJ5_inflateIfNeededFor_14 (by decide) ?_ ?_
    · skip
      exact r_vret (pc := 21) dJ5_inflateIfNeededFor_21 rfl
    · skip
      refine r_aload_n (pc := 17) dJ5_inflateIfNeededFor_17 rfl 0 rfl ?_
      refine r_cV (pc := 18) (rest := []) (RunOK_chk (fun h => run_P (n := 0) (c9 := 6) (As := []) (rest := []) (t_J5_inflate γ l hl x0 g2) dJ5_inflateIfNeededFor_18 q556 q3888 mv557 q558 q117 q559 (by decide +kernel) rfl h ⟨by decide, by decide⟩ (Nat.le_of_ble_eq_true rfl) (Nat.le_of_ble_eq_true rfl) rfl (Nat.le_of_ble_eq_true rfl))) (fun g4 => ?_)
      exact r_vret (pc := 21) dJ5_inflateIfNeededFor_21 rfl
abbrev ck_J7_getBytes : CK := ("java/lang/String", prog_48_method_147_code, 4, none, "getBytes", [], 6)
def f_J7_getBytes (γ : GP) (x0 : Nat) (x1 : Nat) (x2 : Int32) (x3 : Int32) (g : AH) : Option (AH) := bI ((if hK g x0 = 7 then f_J7_coder γ x0 g else none)) fun v2 g1 => (if v2 = x3 then gR g1 x0 26 fun v3 => gR g1 x0 26 fun v4 => gL g1 v4 fun v5 => nCA γ g1 102 v3 (0 : Int32) x1 (x2 <<< (x3 &&& 31)) v5 fun g6 => (some g6) else gR g1 x0 26 fun v7 => gR g1 x0 26 fun v8 => gL g1 v8 fun v9 => bV (f_J19_inflate γ v7 (0 : Int32) x1 x2 v9 g1) fun g10 => (some g10))
theorem t_J7_getBytes (γ : GP) (l : Launch) (hl : l.stackTraces = false) (x0 : Nat) (x1 : Nat) (x2 : Int32) (x3 : Int32) (g : AH) : TrM ρV γ l ⟨"java/lang/String", "getBytes", "([BIB)V"⟩ (ws_ ⟨"java/lang/String", "getBytes", "([BIB)V"⟩ prog_48_method_147_code 4 none) 6 [.ref x0, .ref x1, .int x2, .int x3] g (f_J7_getBytes γ x0 x1 x2 x3 g) := by
  refine TrM_of (plainFor_of_name (by decide)) (Nat.le_of_ble_eq_true rfl) ?_
  unfold f_J7_getBytes
  change AW ρV γ l ck_J7_getBytes g 0 [(0, .ref x0), (1, .ref x1), (2, .int x2), (3, .int x3)] [] g _
  refine r_aload_n (pc := 0) dJ7_getBytes_0 rfl 0 rfl ?_
  refine r_cI (pc := 1) (rest := []) (RunOK_chk (fun h => run_V (n := 0) (c9 := 7) (As := []) (rest := []) (t_J7_coder γ l hl x0 g) dJ7_getBytes_1 q542 q543 q544 q119 q545 (by decide +kernel) rfl h ⟨rfl, by decide, by decide⟩ (Nat.le_of_ble_eq_true rfl) (Nat.le_of_ble_eq_true rfl) rfl (Nat.le_of_ble_eq_true rfl))) (fun v2 g1 => ?_)
  refine r_iload_n (pc := 4) dJ7_getBytes_4 rfl 3 rfl ?_
  refine r_icmp_ne (tgt := 28) (pc := 5) dJ7_getBytes_5 (by decide) ?_ ?_
  · skip
    refine r_aload_n (pc := 8) dJ7_getBytes_8 rfl 0 rfl ?_
    refine r_getR (f := 26) (pc := 9) dJ7_getBytes_9 q696 (Or.inl rfl) rfl (fun v3 => ?_)
    refine r_iconst (v := (0 : Int32)) (pc := 12) dJ7_getBytes_12 (by decide) ?_
    refine r_aload_n (pc := 13) dJ7_getBytes_13 rfl 1 rfl ?_
    refine r_iload_n (pc := 14) dJ7_getBytes_14 rfl 2 rfl ?_
    refine r_iload_n (pc := 15) dJ7_getBytes_15 rfl 3 rfl ?_
    refine r_ishl (pc := 16) dJ7_getBytes_16 ?_
    refine r_aload_n (pc := 17) dJ7_getBytes_17 rfl 0 rfl ?_
    refine r_getR (f := 26) (pc := 18) dJ7_getBytes_18 q696 (Or.inl rfl) rfl (fun v4 => ?_)
    refine r_alen (pc := 21) dJ7_getBytes_21 (fun v5 => ?_)
    refine r_copyA (kd := 102) (by decide) (pc := 22) dJ7_getBytes_22 q579 q506 q505 q131 (by decide) (Nat.le_of_ble_eq_true rfl) (fun g6 => ?_)
    refine r_goto (tgt := 43) (pc := 25) dJ7_getBytes_25 (by decide) ?_
    exact r_vret (pc := 43) dJ7_getBytes_43 rfl
  · skip
    refine r_aload_n (pc := 28) dJ7_getBytes_28 rfl 0 rfl ?_
    refine r_getR (f := 26) (pc := 29) dJ7_getBytes_29 q696 (Or.inl rfl) rfl (fun v7 => ?_)
    refine r_iconst (v := (0 : Int32)) (pc := 32) dJ7_getBytes_32 (by decide) ?_
    refine r_aload_n (pc := 33) dJ7_getBytes_33 rfl 1 rfl ?_
    refine r_iload_n (pc := 34) dJ7_getBytes_34 rfl 2 rfl ?_
    refine r_aload_n (pc := 35) dJ7_getBytes_35 rfl 0 rfl ?_
    refine r_getR (f := 26) (pc := 36) dJ7_getBytes_36 q696 (Or.inl rfl) rfl (fun v8 => ?_)
    refine r_alen (pc := 39) dJ7_getBytes_39 (fun v9 => ?_)
    refine r_cV (pc := 40) (rest := []) (run_S (n := 5) (As := [.ref v7, .int (0 : Int32), .ref x1, .int x2, .int v9]) (rest := []) (t_J19_inflate γ l hl v7 (0 : Int32) x1 x2 v9 g1) dJ7_getBytes_40 q580 q561 q133 q562 (by decide +kernel) rfl (Nat.le_of_ble_eq_true rfl) (Nat.le_of_ble_eq_true rfl) rfl (Nat.le_of_ble_eq_true rfl)) (fun g10 => ?_)
    exact r_vret (pc := 43) dJ7_getBytes_43 rfl
abbrev ck_J5_putStringAt : CK := ("java/lang/AbstractStringBuilder", prog_27_method_73_code, 3, none, "putStringAt", [], 8)
def f_J5_putStringAt (γ : GP) (x0 : Nat) (x1 : Int32) (x2 : Nat) (g : AH) : Option (AH) := bV ((if hK g x0 = 6 then f_J5_inflateIfNeededFor γ x0 x2 g else none)) fun g1 => gR g1 x0 22 fun v2 => gI g1 x0 23 fun v3 => bV ((if hK g1 x2 = 7 then f_J7_getBytes γ x2 v2 x1 v3 g1 else none)) fun g4 => (some g4)
theorem t_J5_putStringAt (γ : GP) (l : Launch) (hl : l.stackTraces = false) (x0 : Nat) (x1 : Int32) (x2 : Nat) (g : AH) : TrM ρV γ l ⟨"java/lang/AbstractStringBuilder", "putStringAt", "(ILjava/lang/String;)V"⟩ (ws_ ⟨"java/lang/AbstractStringBuilder", "putStringAt", "(ILjava/lang/String;)V"⟩ prog_27_method_73_code 3 none) 8 [.ref x0, .int x1, .ref x2] g (f_J5_putStringAt γ x0 x1 x2 g) := by
  refine TrM_of (plainFor_of_name (by decide)) (Nat.le_of_ble_eq_true rfl) ?_
  unfold f_J5_putStringAt
  change AW ρV γ l ck_J5_putStringAt g 0 [(0, .ref x0), (1, .int x1), (2, .ref x2)] [] g _
  refine r_aload_n (pc := 0) dJ5_putStringAt_0 rfl 0 rfl ?_
  refine r_aload_n (pc := 1) dJ5_putStringAt_1 rfl 2 rfl ?_
  refine r_cV (pc := 2) (rest := []) (RunOK_chk (fun h => run_P (n := 1) (c9 := 6) (As := [.ref x2]) (rest := []) (t_J5_inflateIfNeededFor γ l hl x0 x2 g) dJ5_putStringAt_2 q551 q3887 mv552 q553 q117 q554 (by decide +kernel) rfl h ⟨by decide, by decide⟩ (Nat.le_of_ble_eq_true rfl) (Nat.le_of_ble_eq_true rfl) rfl (Nat.le_of_ble_eq_true rfl))) (fun g1 => ?_)
  refine r_aload_n (pc := 5) dJ5_putStringAt_5 rfl 2 rfl ?_
  refine r_aload_n (pc := 6) dJ5_putStringAt_6 rfl 0 rfl ?_
  refine r_getR (f := 22) (pc := 7) dJ5_putStringAt_7 q304 (Or.inl rfl) rfl (fun v2 => ?_)
  refine r_iload_n (pc := 10) dJ5_putStringAt_10 rfl 1 rfl ?_
  refine r_aload_n (pc := 11) dJ5_putStringAt_11 rfl 0 rfl ?_
  refine r_getI (f := 23) (pc := 12) dJ5_putStringAt_12 q305 (Or.inl rfl) rfl (fun v3 => ?_)
  refine r_cV (pc := 15) (rest := []) (RunOK_chk (fun h => run_V (n := 3) (c9 := 7) (As := [.ref v2, .int x1, .int v3]) (rest := []) (t_J7_getBytes γ l hl x2 v2 x1 v3 g1) dJ5_putStringAt_15 q575 q576 q577 q119 q578 (by decide +kernel) rfl h ⟨rfl, by decide, by decide⟩ (Nat.le_of_ble_eq_true rfl) (Nat.le_of_ble_eq_true rfl) rfl (Nat.le_of_ble_eq_true rfl))) (fun g4 => ?_)
  exact r_vret (pc := 18) dJ5_putStringAt_18 rfl
abbrev ck_J5_append : CK := ("java/lang/AbstractStringBuilder", prog_27_method_22_code, 3, (some (.object "java/lang/AbstractStringBuilder")), "append", [], 9)
def f_J5_append (γ : GP) (x0 : Nat) (x1 : Nat) (g : AH) : Option (Nat × AH) := (if x1 = 0 then bR ((if hK g x0 = 6 then f_J5_appendNull γ x0 g else none)) fun v2 g1 => (some (v2, g1)) else bI ((if hK g x1 = 7 then f_J7_length γ x1 g else none)) fun v4 g3 => gI g3 x0 25 fun v5 => bV ((if hK g3 x0 = 6 then f_J5_ensureCapacityInternal γ x0 (v5 + v4) g3 else none)) fun g6 => gI g6 x0 25 fun v7 => bV ((if hK g6 x0 = 6 then f_J5_putStringAt γ x0 v7 x1 g6 else none)) fun g8 => gI g8 x0 25 fun v9 => pI γ g8 x0 25 (v9 + v4) fun g10 => (some (x0, g10)))
theorem t_J5_append (γ : GP) (l : Launch) (hl : l.stackTraces = false) (x0 : Nat) (x1 : Nat) (g : AH) : TrM ρR γ l ⟨"java/lang/AbstractStringBuilder", "append", "(Ljava/lang/String;)Ljava/lang/AbstractStringBuilder;"⟩ (ws_ ⟨"java/lang/AbstractStringBuilder", "append", "(Ljava/lang/String;)Ljava/lang/AbstractStringBuilder;"⟩ prog_27_method_22_code 3 (some (.object "java/lang/AbstractStringBuilder"))) 9 [.ref x0, .ref x1] g (f_J5_append γ x0 x1 g) := by
  refine TrM_of (plainFor_of_name (by decide)) (Nat.le_of_ble_eq_true rfl) ?_
  unfold f_J5_append
  change AW ρR γ l ck_J5_append g 0 [(0, .ref x0), (1, .ref x1)] [] g _
  refine r_aload_n (pc := 0) dJ5_append_0 rfl 1 rfl ?_
  refine r_ifnonnull (tgt := 9) (pc := 1) dJ5_append_1 (by decide) ?_ ?_
  · skip
    refine r_aload_n (pc := 4) dJ5_append_4 rfl 0 rfl ?_
    refine r_cR (pc := 5) (rest := []) (RunOK_chk (fun h => run_P (n := 0) (c9 := 6) (As := []) (rest := []) (t_J5_appendNull γ l hl x0 g) dJ5_append_5 q468 q3883 mv469 q470 q117 q471 (by decide +kernel) rfl h ⟨by decide, by decide⟩ (Nat.le_of_ble_eq_true rfl) (Nat.le_of_ble_eq_true rfl) rfl (Nat.le_of_ble_eq_true rfl))) (fun v2 g1 => ?_)
    exact r_aret (pc := 8) dJ5_append_8 rfl (by first | exact Or.inl ⟨_, rfl⟩ | exact Or.inr ⟨_, rfl⟩)
  · skip
    refine r_aload_n (pc := 9) dJ5_append_9 rfl 1 rfl ?_
    refine r_cI (pc := 10) (rest := []) (RunOK_chk (fun h => run_V (n := 0) (c9 := 7) (As := []) (rest := []) (t_J7_length γ l hl x1 g) dJ5_append_10 q538 q539 q540 q119 q541 (by decide +kernel) rfl h ⟨rfl, by decide, by decide⟩ (Nat.le_of_ble_eq_true rfl) (Nat.le_of_ble_eq_true rfl) rfl (Nat.le_of_ble_eq_true rfl))) (fun v4 g3 => ?_)
    refine r_istore_n (pc := 13) dJ5_append_13 rfl (Nat.le_of_ble_eq_true rfl) rfl ?_
    refine r_aload_n (pc := 14) dJ5_append_14 rfl 1 rfl ?_
    refine r_aload_n (pc := 15) dJ5_append_15 rfl 1 rfl ?_
    refine r_getI (f := 25) (pc := 16) dJ5_append_16 q308 (Or.inl rfl) rfl (fun v5 => ?_)
    refine r_iload_n (pc := 19) dJ5_append_19 rfl 0 rfl ?_
    refine r_iadd (pc := 20) dJ5_append_20 ?_
    refine r_cV (pc := 21) (rest := []) (RunOK_chk (fun h => run_P (n := 1) (c9 := 6) (As := [.int (v5 + v4)]) (rest := []) (t_J5_ensureCapacityInternal γ l hl x0 (v5 + v4) g3) dJ5_append_21 q472 q3884 mv473 q474 q117 q475 (by decide +kernel) rfl h ⟨by decide, by decide⟩ (Nat.le_of_ble_eq_true rfl) (Nat.le_of_ble_eq_true rfl) rfl (Nat.le_of_ble_eq_true rfl))) (fun g6 => ?_)
    refine r_aload_n (pc := 24) dJ5_append_24 rfl 1 rfl ?_
    refine r_aload_n (pc := 25) dJ5_append_25 rfl 1 rfl ?_
    refine r_getI (f := 25) (pc := 26) dJ5_append_26 q308 (Or.inl rfl) rfl (fun v7 => ?_)
    refine r_aload_n (pc := 29) dJ5_append_29 rfl 2 rfl ?_
    refine r_cV (pc := 30) (rest := []) (RunOK_chk (fun h => run_P (n := 2) (c9 := 6) (As := [.int v7, .ref x1]) (rest := []) (t_J5_putStringAt γ l hl x0 v7 x1 g6) dJ5_append_30 q547 q3886 mv548 q549 q117 q550 (by decide +kernel) rfl h ⟨by decide, by decide⟩ (Nat.le_of_ble_eq_true rfl) (Nat.le_of_ble_eq_true rfl) rfl (Nat.le_of_ble_eq_true rfl))) (fun g8 => ?_)
    refine r_aload_n (pc := 33) dJ5_append_33 rfl 1 rfl ?_
    refine r_dup (pc := 34) dJ5_append_34 rfl ?_
    refine r_getI (f := 25) (pc := 35) dJ5_append_35 q308 (Or.inl rfl) rfl (fun v9 => ?_)
    refine r_iload_n (pc := 38) dJ5_append_38 rfl 0 rfl ?_
    refine r_iadd (pc := 39) dJ5_append_39 ?_
    refine r_putI (f := 25) (pc := 40) dJ5_append_40 q308 (Or.inl rfl) (Or.inl rfl) rfl (fun g10 => ?_)
    refine r_aload_n (pc := 43) dJ5_append_43 rfl 1 rfl ?_
    exact r_aret (pc := 44) dJ5_append_44 rfl (by first | exact Or.inl ⟨_, rfl⟩ | exact Or.inr ⟨_, rfl⟩)
abbrev ck_J6_append : CK := ("java/lang/StringBuilder", prog_49_method_7_code, 2, (some (.object "java/lang/StringBuilder")), "append", [], 10)
def f_J6_append (γ : GP) (x0 : Nat) (x1 : Nat) (g : AH) : Option (Nat × AH) := bR ((if hK g x0 = 6 then f_J5_append γ x0 x1 g else none)) fun v2 g1 => (some (x0, g1))
theorem t_J6_append (γ : GP) (l : Launch) (hl : l.stackTraces = false) (x0 : Nat) (x1 : Nat) (g : AH) : TrM ρR γ l ⟨"java/lang/StringBuilder", "append", "(Ljava/lang/String;)Ljava/lang/StringBuilder;"⟩ (ws_ ⟨"java/lang/StringBuilder", "append", "(Ljava/lang/String;)Ljava/lang/StringBuilder;"⟩ prog_49_method_7_code 2 (some (.object "java/lang/StringBuilder"))) 10 [.ref x0, .ref x1] g (f_J6_append γ x0 x1 g) := by
  refine TrM_of (plainFor_of_name (by decide)) (Nat.le_of_ble_eq_true rfl) ?_
  unfold f_J6_append
  change AW ρR γ l ck_J6_append g 0 [(0, .ref x0), (1, .ref x1)] [] g _
  refine r_aload_n (pc := 0) dJ6_append_0 rfl 0 rfl ?_
  refine r_aload_n (pc := 1) dJ6_append_1 rfl 1 rfl ?_
  refine r_cR (pc := 2) (rest := []) (RunOK_chk (fun h => run_SU (n := 1) (As := [.ref x1]) (rest := []) (t_J5_append γ l hl x0 x1 g) dJ6_append_2 q465 q3882 q317 q466 q117 q467 ⟨by decide, by decide +kernel⟩ rfl h ⟨by decide, by decide⟩ (Nat.le_of_ble_eq_true rfl) (Nat.le_of_ble_eq_true rfl) rfl (Nat.le_of_ble_eq_true rfl))) (fun v2 g1 => ?_)
  refine r_pop (pc := 5) dJ6_append_5 rfl ?_
  refine r_aload_n (pc := 6) dJ6_append_6 rfl 0 rfl ?_
  exact r_aret (pc := 7) dJ6_append_7 rfl (by first | exact Or.inl ⟨_, rfl⟩ | exact Or.inr ⟨_, rfl⟩)
abbrev ck_J7_valueOf : CK := ("java/lang/String", prog_48_method_133_code, 1, (some (.object "java/lang/String")), "valueOf", [], 9)
def f_J7_valueOf (γ : GP) (x0 : Nat) (g : AH) : Option (Nat × AH) := (if x0 = 0 then none else bR ((if hK g x0 = 6 then f_J6_toString γ x0 g else none)) fun v2 g1 => (some (v2, g1)))
theorem t_J7_valueOf (γ : GP) (l : Launch) (hl : l.stackTraces = false) (x0 : Nat) (g : AH) : TrM ρR γ l ⟨"java/lang/String", "valueOf", "(Ljava/lang/Object;)Ljava/lang/String;"⟩ (ws_ ⟨"java/lang/String", "valueOf", "(Ljava/lang/Object;)Ljava/lang/String;"⟩ prog_48_method_133_code 1 (some (.object "java/lang/String"))) 9 [.ref x0] g (f_J7_valueOf γ x0 g) := by
  refine TrM_of (plainFor_of_name (by decide)) (Nat.le_of_ble_eq_true rfl) ?_
  unfold f_J7_valueOf
  change AW ρR γ l ck_J7_valueOf g 0 [(0, .ref x0)] [] g _
  refine r_aload_n (pc := 0) dJ7_valueOf_0 rfl 0 rfl ?_
  refine r_ifnonnull (tgt := 10) (pc := 1) dJ7_valueOf_1 (by decide) ?_ ?_
  · skip
    exact AW_none
  · skip
    refine r_aload_n (pc := 10) dJ7_valueOf_10 rfl 0 rfl ?_
    refine r_cR (pc := 11) (rest := []) (RunOK_chk (fun h => run_A (n := 0) (c9 := 6) (As := []) (rest := []) (owner := "java/lang/Object") (t_J6_toString γ l hl x0 g) dJ7_valueOf_11 q3061 q3063 q3105 q608 q118 q610 mv3060 ⟨by decide, by decide, by decide +kernel⟩ rfl h ⟨by decide, by decide⟩ (Nat.le_of_ble_eq_true rfl) (Nat.le_of_ble_eq_true rfl) rfl (Nat.le_of_ble_eq_true rfl))) (fun v2 g1 => ?_)
    exact r_aret (pc := 14) dJ7_valueOf_14 rfl (by first | exact Or.inl ⟨_, rfl⟩ | exact Or.inr ⟨_, rfl⟩)
abbrev ck_J6_append_4 : CK := ("java/lang/StringBuilder", prog_49_method_6_code, 2, (some (.object "java/lang/StringBuilder")), "append", [], 11)
def f_J6_append_4 (γ : GP) (x0 : Nat) (x1 : Nat) (g : AH) : Option (Nat × AH) := bR (f_J7_valueOf γ x1 g) fun v2 g1 => bR ((if hK g1 x0 = 6 then f_J6_append γ x0 v2 g1 else none)) fun v4 g3 => (some (v4, g3))
theorem t_J6_append_4 (γ : GP) (l : Launch) (hl : l.stackTraces = false) (x0 : Nat) (x1 : Nat) (g : AH) : TrM ρR γ l ⟨"java/lang/StringBuilder", "append", "(Ljava/lang/Object;)Ljava/lang/StringBuilder;"⟩ (ws_ ⟨"java/lang/StringBuilder", "append", "(Ljava/lang/Object;)Ljava/lang/StringBuilder;"⟩ prog_49_method_6_code 2 (some (.object "java/lang/StringBuilder"))) 11 [.ref x0, .ref x1] g (f_J6_append_4 γ x0 x1 g) := by
  refine TrM_of (plainFor_of_name (by decide)) (Nat.le_of_ble_eq_true rfl) ?_
  unfold f_J6_append_4
  change AW ρR γ l ck_J6_append_4 g 0 [(0, .ref x0), (1, .ref x1)] [] g _
  refine r_aload_n (pc := 0) dJ6_append_4_0 rfl 0 rfl ?_
  refine r_aload_n (pc := 1) dJ6_append_4_1 rfl 1 rfl ?_
  refine r_cR (pc := 2) (rest := [.ref x0]) (run_S (n := 1) (As := [.ref x1]) (rest := [.ref x0]) (t_J7_valueOf γ l hl x1 g) dJ6_append_4_2 q3056 q3057 q119 q3058 (by decide +kernel) rfl (Nat.le_of_ble_eq_true rfl) (Nat.le_of_ble_eq_true rfl) rfl (Nat.le_of_ble_eq_true rfl)) (fun v2 g1 => ?_)
  refine r_cR (pc := 5) (rest := []) (RunOK_chk (fun h => run_V (n := 1) (c9 := 6) (As := [.ref v2]) (rest := []) (t_J6_append γ l hl x0 v2 g1) dJ6_append_4_5 q3110 q462 q463 q118 q464 (by decide +kernel) rfl h ⟨rfl, by decide, by decide⟩ (Nat.le_of_ble_eq_true rfl) (Nat.le_of_ble_eq_true rfl) rfl (Nat.le_of_ble_eq_true rfl))) (fun v4 g3 => ?_)
  exact r_aret (pc := 8) dJ6_append_4_8 rfl (by first | exact Or.inl ⟨_, rfl⟩ | exact Or.inr ⟨_, rfl⟩)
abbrev ck_J19_indexOf_2 : CK := ("java/lang/StringLatin1", prog_51_method_25_code, 11, (some .int), "indexOf", [], 1)
def f_J19_indexOf_2_L76 (γ : GP) (x0 : Nat) (x2 : Nat) (x3 : Int32) (x5 : Int32) (x6 : Int32) (x7 : Int32) (x9 : Int32) (K103 : Int32 → AH → Option (Int32 × AH)) : Nat → Int32 → Int32 → AH → Option (Int32 × AH)
  | 0, _, _, _ => none
  | n + 1, x8, x10, g => (if x9 ≤ x8 then K103 x8 g else gA g 102 x0 x8 fun v6 => gA g 102 x2 x10 fun v7 => (if v6 = v7 then f_J19_indexOf_2_L76 γ x0 x2 x3 x5 x6 x7 x9 K103 n (x8 + (1 : Int32)) (x10 + (1 : Int32)) g else K103 x8 g))
def f_J19_indexOf_2_L30 (γ : GP) (x0 : Nat) (x2 : Nat) (x3 : Int32) (x5 : Int32) (x6 : Int32) (K52 : Int32 → AH → Option (Int32 × AH)) : Nat → Int32 → AH → Option (Int32 × AH)
  | 0, _, _ => none
  | n + 1, x7, g => (if x6 < (x7 + (1 : Int32)) then K52 (x7 + (1 : Int32)) g else gA g 102 x0 (x7 + (1 : Int32)) fun v10 => (if v10 = x5 then K52 (x7 + (1 : Int32)) g else f_J19_indexOf_2_L30 γ x0 x2 x3 x5 x6 K52 n (x7 + (1 : Int32)) g))
def f_J19_indexOf_2_L14 (γ : GP) (x0 : Nat) (x2 : Nat) (x3 : Int32) (x5 : Int32) (x6 : Int32) : Nat → Int32 → AH → Option (Int32 × AH)
  | 0, _, _ => none
  | n + 1, x7, g => (if x6 < x7 then (some ((-1 : Int32), g)) else gA g 102 x0 x7 fun v2 => jn (fun (y3 : Int32) (g4 : AH) => (if x6 < y3 then f_J19_indexOf_2_L14 γ x0 x2 x3 x5 x6 n (y3 + (1 : Int32)) g4 else f_J19_indexOf_2_L76 γ x0 x2 x3 x5 x6 y3 (((y3 + (1 : Int32)) + x3) - (1 : Int32)) (fun (y8 : Int32) (g9 : AH) => (if y8 = (((y3 + (1 : Int32)) + x3) - (1 : Int32)) then (some (y3, g9)) else f_J19_indexOf_2_L14 γ x0 x2 x3 x5 x6 n (y3 + (1 : Int32)) g9)) FU (y3 + (1 : Int32)) (1 : Int32) g4)) (fun (j5 : Int32 → AH → Option (Int32 × AH)) => (if v2 = x5 then j5 x7 g else f_J19_indexOf_2_L30 γ x0 x2 x3 x5 x6 (fun (y11 : Int32) (g12 : AH) => j5 y11 g12) FU x7 g)))
def f_J19_indexOf_2 (γ : GP) (x0 : Nat) (x1 : Int32) (x2 : Nat) (x3 : Int32) (x4 : Int32) (g : AH) : Option (Int32 × AH) := gA g 102 x2 (0 : Int32) fun v1 => f_J19_indexOf_2_L14 γ x0 x2 x3 v1 (x1 - x3) FU x4 g
theorem f_J19_indexOf_2_L76_w (γ : GP) (l : Launch) (hl : l.stackTraces = false) (G0 : AH) (x0 : Nat) (x2 : Nat) (x3 : Int32) (x5 : Int32) (x6 : Int32) (x7 : Int32) (x9 : Int32) (K103 : Int32 → AH → Option (Int32 × AH)) (h_K103 : ∀ (y8 : Int32) (g : AH), AW ρI γ l ck_J19_indexOf_2 G0 103 [(0, .ref x0), (2, .ref x2), (3, .int x3), (5, .int x5), (6, .int x6), (7, .int x7), (8, .int y8), (9, .int x9)] [] g (K103 y8 g)) : ∀ (n : Nat) (x8 : Int32) (x10 : Int32) (g : AH), AW ρI γ l ck_J19_indexOf_2 G0 76 [(0, .ref x0), (2, .ref x2), (3, .int x3), (5, .int x5), (6, .int x6), (7, .int x7), (8, .int x8), (9, .int x9), (10, .int x10)] [] g (f_J19_indexOf_2_L76 γ x0 x2 x3 x5 x6 x7 x9 K103 n x8 x10 g) := by
  intro n
  induction n with
  | zero => intro x8 x10 g; exact AW_none
  | succ n ih =>
    intro x8 x10 g
    unfold f_J19_indexOf_2_L76
    refine r_iload (pc := 76) dJ19_indexOf_2_76 6 rfl ?_
    refine r_iload (pc := 78) dJ19_indexOf_2_78 7 rfl ?_
    refine r_icmp_ge (tgt := 103) (pc := 80) dJ19_indexOf_2_80 (by decide) ?_ ?_
    · skip
      refine AW_sub [0, 1, 2, 3, 4, 5, 6, 7] rfl ?_
      exact h_K103 x8 g
    · skip
      refine r_aload_n (pc := 83) dJ19_indexOf_2_83 rfl 0 rfl ?_
      refine r_iload (pc := 84) dJ19_indexOf_2_84 6 rfl ?_
      refine r_bald (pc := 86) dJ19_indexOf_2_86 (fun v6 => ?_)
      refine r_aload_n (pc := 87) dJ19_indexOf_2_87 rfl 1 rfl ?_
      refine r_iload (pc := 88) dJ19_indexOf_2_88 8 rfl ?_
      refine r_bald (pc := 90) dJ19_indexOf_2_90 (fun v7 => ?_)
      refine r_icmp_ne (tgt := 103) (pc := 91) dJ19_indexOf_2_91 (by decide) ?_ ?_
      · skip
        refine r_iinc (j := 6) (v := (x8 + (1 : Int32))) (pc := 94) dJ19_indexOf_2_94 rfl rfl (Nat.le_of_ble_eq_true rfl) rfl ?_
        refine r_iinc (j := 8) (v := (x10 + (1 : Int32))) (pc := 97) dJ19_indexOf_2_97 rfl rfl (Nat.le_of_ble_eq_true rfl) rfl ?_
        refine r_goto (tgt := 76) (pc := 100) dJ19_indexOf_2_100 (by decide) ?_
        refine AW_sub [2, 3, 4, 5, 6, 7, 1, 8, 0] rfl ?_
        exact ih (x8 + (1 : Int32)) (x10 + (1 : Int32)) g
      · skip
        refine AW_sub [0, 1, 2, 3, 4, 5, 6, 7] rfl ?_
        exact h_K103 x8 g
theorem f_J19_indexOf_2_L30_w (γ : GP) (l : Launch) (hl : l.stackTraces = false) (G0 : AH) (x0 : Nat) (x2 : Nat) (x3 : Int32) (x5 : Int32) (x6 : Int32) (K52 : Int32 → AH → Option (Int32 × AH)) (h_K52 : ∀ (y7 : Int32) (g : AH), AW ρI γ l ck_J19_indexOf_2 G0 52 [(0, .ref x0), (2, .ref x2), (3, .int x3), (5, .int x5), (6, .int x6), (7, .int y7)] [] g (K52 y7 g)) : ∀ (n : Nat) (x7 : Int32) (g : AH), AW ρI γ l ck_J19_indexOf_2 G0 30 [(0, .ref x0), (2, .ref x2), (3, .int x3), (5, .int x5), (6, .int x6), (7, .int x7)] [] g (f_J19_indexOf_2_L30 γ x0 x2 x3 x5 x6 K52 n x7 g) := by
  intro n
  induction n with
  | zero => intro x7 g; exact AW_none
  | succ n ih =>
    intro x7 g
    unfold f_J19_indexOf_2_L30
    refine r_iinc (j := 5) (v := (x7 + (1 : Int32))) (pc := 30) dJ19_indexOf_2_30 rfl rfl (Nat.le_of_ble_eq_true rfl) rfl ?_
    refine r_iload (pc := 33) dJ19_indexOf_2_33 0 rfl ?_
    refine r_iload (pc := 35) dJ19_indexOf_2_35 5 rfl ?_
    refine r_icmp_gt (tgt := 52) (pc := 37) dJ19_indexOf_2_37 (by decide) ?_ ?_
    · skip
      refine AW_sub [1, 2, 3, 4, 5, 0] rfl ?_
      exact h_K52 (x7 + (1 : Int32)) g
    · skip
      refine r_aload_n (pc := 40) dJ19_indexOf_2_40 rfl 1 rfl ?_
      refine r_iload (pc := 41) dJ19_indexOf_2_41 0 rfl ?_
      refine r_bald (pc := 43) dJ19_indexOf_2_43 (fun v10 => ?_)
      refine r_iload (pc := 44) dJ19_indexOf_2_44 4 rfl ?_
      refine r_icmp_eq (tgt := 52) (pc := 46) dJ19_indexOf_2_46 (by decide) ?_ ?_
      · skip
        refine AW_sub [1, 2, 3, 4, 5, 0] rfl ?_
        exact h_K52 (x7 + (1 : Int32)) g
      · skip
        refine r_goto (tgt := 30) (pc := 49) dJ19_indexOf_2_49 (by decide) ?_
        refine AW_sub [1, 2, 3, 4, 5, 0] rfl ?_
        exact ih (x7 + (1 : Int32)) g
theorem f_J19_indexOf_2_L14_w (γ : GP) (l : Launch) (hl : l.stackTraces = false) (G0 : AH) (x0 : Nat) (x2 : Nat) (x3 : Int32) (x5 : Int32) (x6 : Int32) : ∀ (n : Nat) (x7 : Int32) (g : AH), AW ρI γ l ck_J19_indexOf_2 G0 14 [(0, .ref x0), (2, .ref x2), (3, .int x3), (5, .int x5), (6, .int x6), (7, .int x7)] [] g (f_J19_indexOf_2_L14 γ x0 x2 x3 x5 x6 n x7 g) := by
  intro n
  induction n with
  | zero => intro x7 g; exact AW_none
  | succ n ih =>
    intro x7 g
    unfold f_J19_indexOf_2_L14
    refine r_iload (pc := 14) dJ19_indexOf_2_14 5 rfl ?_
    refine r_iload (pc := 16) dJ19_indexOf_2_16 4 rfl ?_
    refine r_icmp_gt (tgt := 119) (pc := 18) dJ19_indexOf_2_18 (by decide) ?_ ?_
    · skip
      refine r_iconst (v := (-1 : Int32)) (pc := 119) dJ19_indexOf_2_119 (by decide) ?_
      exact r_iret (pc := 120) dJ19_indexOf_2_120 rfl
    · skip
      refine r_aload_n (pc := 21) dJ19_indexOf_2_21 rfl 0 rfl ?_
      refine r_iload (pc := 22) dJ19_indexOf_2_22 5 rfl ?_
      refine r_bald (pc := 24) dJ19_indexOf_2_24 (fun v2 => ?_)
      refine r_iload (pc := 25) dJ19_indexOf_2_25 3 rfl ?_
      refine AW_jn (P := fun (j : Int32 → AH → Option (Int32 × AH)) => ∀ (y3 : Int32) (g4 : AH), AW ρI γ l ck_J19_indexOf_2 G0 52 [(0, .ref x0), (2, .ref x2), (3, .int x3), (5, .int x5), (6, .int x6), (7, .int y3)] [] g4 (j y3 g4)) (fun y3 g4 => ?_) (fun j5 h_j5 => ?_)
      · skip
        refine r_iload (pc := 52) dJ19_indexOf_2_52 5 rfl ?_
        refine r_iload (pc := 54) dJ19_indexOf_2_54 4 rfl ?_
        refine r_icmp_gt (tgt := 113) (pc := 56) dJ19_indexOf_2_56 (by decide) ?_ ?_
        · skip
          refine r_iinc (j := 5) (v := (y3 + (1 : Int32))) (pc := 113) dJ19_indexOf_2_113 rfl rfl (Nat.le_of_ble_eq_true rfl) rfl ?_
          refine r_goto (tgt := 14) (pc := 116) dJ19_indexOf_2_116 (by decide) ?_
          refine AW_sub [1, 2, 3, 4, 5, 0] rfl ?_
          exact ih (y3 + (1 : Int32)) g4
        · skip
          refine r_iload (pc := 59) dJ19_indexOf_2_59 5 rfl ?_
          refine r_iconst (v := (1 : Int32)) (pc := 61) dJ19_indexOf_2_61 (by decide) ?_
          refine r_iadd (pc := 62) dJ19_indexOf_2_62 ?_
          refine r_istore (pc := 63) dJ19_indexOf_2_63 (Nat.le_of_ble_eq_true rfl) rfl ?_
          refine r_iload (pc := 65) dJ19_indexOf_2_65 0 rfl ?_
          refine r_iload_n (pc := 67) dJ19_indexOf_2_67 rfl 3 rfl ?_
          refine r_iadd (pc := 68) dJ19_indexOf_2_68 ?_
          refine r_iconst (v := (1 : Int32)) (pc := 69) dJ19_indexOf_2_69 (by decide) ?_
          refine r_isub (pc := 70) dJ19_indexOf_2_70 ?_
          refine r_istore (pc := 71) dJ19_indexOf_2_71 (Nat.le_of_ble_eq_true rfl) rfl ?_
          refine r_iconst (v := (1 : Int32)) (pc := 73) dJ19_indexOf_2_73 (by decide) ?_
          refine r_istore (pc := 74) dJ19_indexOf_2_74 (Nat.le_of_ble_eq_true rfl) rfl ?_
          refine AW_sub [3, 4, 5, 6, 7, 8, 2, 1, 0] rfl ?_
          refine f_J19_indexOf_2_L76_w γ l hl _ x0 x2 x3 x5 x6 y3 (((y3 + (1 : Int32)) + x3) - (1 : Int32)) _ ?_ FU (y3 + (1 : Int32)) (1 : Int32) g4
          · intro y8 g9
            refine r_iload (pc := 103) dJ19_indexOf_2_103 6 rfl ?_
            refine r_iload (pc := 105) dJ19_indexOf_2_105 7 rfl ?_
            refine r_icmp_ne (tgt := 113) (pc := 107) dJ19_indexOf_2_107 (by decide) ?_ ?_
            · skip
              refine r_iload (pc := 110) dJ19_indexOf_2_110 5 rfl ?_
              exact r_iret (pc := 112) dJ19_indexOf_2_112 rfl
            · skip
              refine r_iinc (j := 5) (v := (y3 + (1 : Int32))) (pc := 113) dJ19_indexOf_2_113 rfl rfl (Nat.le_of_ble_eq_true rfl) rfl ?_
              refine r_goto (tgt := 14) (pc := 116) dJ19_indexOf_2_116 (by decide) ?_
              refine AW_sub [1, 2, 3, 4, 5, 0] rfl ?_
              exact ih (y3 + (1 : Int32)) g9
      · skip
        refine r_icmp_eq (tgt := 52) (pc := 27) dJ19_indexOf_2_27 (by decide) ?_ ?_
        · skip
          exact h_j5 x7 g
        · skip
          refine f_J19_indexOf_2_L30_w γ l hl _ x0 x2 x3 x5 x6 _ ?_ FU x7 g
          · intro y11 g12
            exact h_j5 y11 g12
theorem t_J19_indexOf_2 (γ : GP) (l : Launch) (hl : l.stackTraces = false) (x0 : Nat) (x1 : Int32) (x2 : Nat) (x3 : Int32) (x4 : Int32) (g : AH) : TrM ρI γ l ⟨"java/lang/StringLatin1", "indexOf", "([BI[BII)I"⟩ (ws_ ⟨"java/lang/StringLatin1", "indexOf", "([BI[BII)I"⟩ prog_51_method_25_code 11 (some .int)) 1 [.ref x0, .int x1, .ref x2, .int x3, .int x4] g (f_J19_indexOf_2 γ x0 x1 x2 x3 x4 g) := by
  refine TrM_of (plainFor_of_name (by decide)) (Nat.le_of_ble_eq_true rfl) ?_
  unfold f_J19_indexOf_2
  change AW ρI γ l ck_J19_indexOf_2 g 0 [(0, .ref x0), (1, .int x1), (2, .ref x2), (3, .int x3), (4, .int x4)] [] g _
  refine r_aload_n (pc := 0) dJ19_indexOf_2_0 rfl 2 rfl ?_
  refine r_iconst (v := (0 : Int32)) (pc := 1) dJ19_indexOf_2_1 (by decide) ?_
  refine r_bald (pc := 2) dJ19_indexOf_2_2 (fun v1 => ?_)
  refine r_istore (pc := 3) dJ19_indexOf_2_3 (Nat.le_of_ble_eq_true rfl) rfl ?_
  refine r_iload_n (pc := 5) dJ19_indexOf_2_5 rfl 2 rfl ?_
  refine r_iload_n (pc := 6) dJ19_indexOf_2_6 rfl 4 rfl ?_
  refine r_isub (pc := 7) dJ19_indexOf_2_7 ?_
  refine r_istore (pc := 8) dJ19_indexOf_2_8 (Nat.le_of_ble_eq_true rfl) rfl ?_
  refine r_iload (pc := 10) dJ19_indexOf_2_10 6 rfl ?_
  refine r_istore (pc := 12) dJ19_indexOf_2_12 (Nat.le_of_ble_eq_true rfl) rfl ?_
  refine AW_sub [3, 5, 6, 2, 1, 0] rfl ?_
  refine f_J19_indexOf_2_L14_w γ l hl _ x0 x2 x3 v1 (x1 - x3) FU x4 g
abbrev ck_J19_indexOf : CK := ("java/lang/StringLatin1", prog_51_method_24_code, 2, (some .int), "indexOf", [], 2)
def f_J19_indexOf (γ : GP) (x0 : Nat) (x1 : Nat) (g : AH) : Option (Int32 × AH) := gL g x1 fun v1 => (if v1 = 0 then (some ((0 : Int32), g)) else gL g x0 fun v2 => (if v2 = 0 then (some ((-1 : Int32), g)) else gL g x0 fun v3 => gL g x1 fun v4 => bI (f_J19_indexOf_2 γ x0 v3 x1 v4 (0 : Int32) g) fun v6 g5 => (some (v6, g5))))
theorem t_J19_indexOf (γ : GP) (l : Launch) (hl : l.stackTraces = false) (x0 : Nat) (x1 : Nat) (g : AH) : TrM ρI γ l ⟨"java/lang/StringLatin1", "indexOf", "([B[B)I"⟩ (ws_ ⟨"java/lang/StringLatin1", "indexOf", "([B[B)I"⟩ prog_51_method_24_code 2 (some .int)) 2 [.ref x0, .ref x1] g (f_J19_indexOf γ x0 x1 g) := by
  refine TrM_of (plainFor_of_name (by decide)) (Nat.le_of_ble_eq_true rfl) ?_
  unfold f_J19_indexOf
  change AW ρI γ l ck_J19_indexOf g 0 [(0, .ref x0), (1, .ref x1)] [] g _
  refine r_aload_n (pc := 0) dJ19_indexOf_0 rfl 1 rfl ?_
  refine r_alen (pc := 1) dJ19_indexOf_1 (fun v1 => ?_)
  refine r_if_ne (tgt := 7) (pc := 2) dJ19_indexOf_2 (by decide) ?_ ?_
  · skip
    refine r_iconst (v := (0 : Int32)) (pc := 5) dJ19_indexOf_5 (by decide) ?_
    exact r_iret (pc := 6) dJ19_indexOf_6 rfl
  · skip
    refine r_aload_n (pc := 7) dJ19_indexOf_7 rfl 0 rfl ?_
    refine r_alen (pc := 8) dJ19_indexOf_8 (fun v2 => ?_)
    refine r_if_ne (tgt := 14) (pc := 9) dJ19_indexOf_9 (by decide) ?_ ?_
    · skip
      refine r_iconst (v := (-1 : Int32)) (pc := 12) dJ19_indexOf_12 (by decide) ?_
      exact r_iret (pc := 13) dJ19_indexOf_13 rfl
    · skip
      refine r_aload_n (pc := 14) dJ19_indexOf_14 rfl 0 rfl ?_
      refine r_aload_n (pc := 15) dJ19_indexOf_15 rfl 0 rfl ?_
      refine r_alen (pc := 16) dJ19_indexOf_16 (fun v3 => ?_)
      refine r_aload_n (pc := 17) dJ19_indexOf_17 rfl 1 rfl ?_
      refine r_aload_n (pc := 18) dJ19_indexOf_18 rfl 1 rfl ?_
      refine r_alen (pc := 19) dJ19_indexOf_19 (fun v4 => ?_)
      refine r_iconst (v := (0 : Int32)) (pc := 20) dJ19_indexOf_20 (by decide) ?_
      refine r_cI (pc := 21) (rest := []) (run_S (n := 5) (As := [.ref x0, .int v3, .ref x1, .int v4, .int (0 : Int32)]) (rest := []) (t_J19_indexOf_2 γ l hl x0 v3 x1 v4 (0 : Int32) g) dJ19_indexOf_21 q3136 q3137 q133 q3138 (by decide +kernel) rfl (Nat.le_of_ble_eq_true rfl) (Nat.le_of_ble_eq_true rfl) rfl (Nat.le_of_ble_eq_true rfl)) (fun v6 g5 => ?_)
      exact r_iret (pc := 24) dJ19_indexOf_24 rfl
abbrev ck_J8_indexOfUnsafe : CK := ("java/lang/StringUTF16", prog_52_method_43_code, 11, (some .int), "indexOfUnsafe", [], 3)
def f_J8_indexOfUnsafe_L160 (γ : GP) (x0 : Nat) (x2 : Nat) (x3 : Int32) (x5 : Int32) (x6 : Int32) (x7 : Int32) (x9 : Int32) (K191 : Int32 → AH → Option (Int32 × AH)) : Nat → Int32 → Int32 → AH → Option (Int32 × AH)
  | 0, _, _, _ => none
  | n + 1, x8, x10, g => (if x9 ≤ x8 then K191 x8 g else bI (f_J8_getChar γ x0 x8 g) fun v17 g16 => bI (f_J8_getChar γ x2 x10 g16) fun v19 g18 => (if v17 = v19 then f_J8_indexOfUnsafe_L160 γ x0 x2 x3 x5 x6 x7 x9 K191 n (x8 + (1 : Int32)) (x10 + (1 : Int32)) g18 else K191 x8 g18))
def f_J8_indexOfUnsafe_L112 (γ : GP) (x0 : Nat) (x2 : Nat) (x3 : Int32) (x5 : Int32) (x6 : Int32) (K136 : Int32 → AH → Option (Int32 × AH)) : Nat → Int32 → AH → Option (Int32 × AH)
  | 0, _, _ => none
  | n + 1, x7, g => (if x6 < (x7 + (1 : Int32)) then K136 (x7 + (1 : Int32)) g else bI (f_J8_getChar γ x0 (x7 + (1 : Int32)) g) fun v23 g22 => (if v23 = x5 then K136 (x7 + (1 : Int32)) g22 else f_J8_indexOfUnsafe_L112 γ x0 x2 x3 x5 x6 K136 n (x7 + (1 : Int32)) g22))
def f_J8_indexOfUnsafe_L94 (γ : GP) (x0 : Nat) (x2 : Nat) (x3 : Int32) (x5 : Int32) (x6 : Int32) : Nat → Int32 → AH → Option (Int32 × AH)
  | 0, _, _ => none
  | n + 1, x7, g => (if x6 < x7 then (some ((-1 : Int32), g)) else bI (f_J8_getChar γ x0 x7 g) fun v12 g11 => jn (fun (y13 : Int32) (g14 : AH) => (if x6 < y13 then f_J8_indexOfUnsafe_L94 γ x0 x2 x3 x5 x6 n (y13 + (1 : Int32)) g14 else f_J8_indexOfUnsafe_L160 γ x0 x2 x3 x5 x6 y13 (((y13 + (1 : Int32)) + x3) - (1 : Int32)) (fun (y20 : Int32) (g21 : AH) => (if y20 = (((y13 + (1 : Int32)) + x3) - (1 : Int32)) then (some (y13, g21)) else f_J8_indexOfUnsafe_L94 γ x0 x2 x3 x5 x6 n (y13 + (1 : Int32)) g21)) FU (y13 + (1 : Int32)) (1 : Int32) g14)) (fun (j15 : Int32 → AH → Option (Int32 × AH)) => (if v12 = x5 then j15 x7 g11 else f_J8_indexOfUnsafe_L112 γ x0 x2 x3 x5 x6 (fun (y24 : Int32) (g25 : AH) => j15 y24 g25) FU x7 g11)))
def f_J8_indexOfUnsafe (γ : GP) (x0 : Nat) (x1 : Int32) (x2 : Nat) (x3 : Int32) (x4 : Int32) (g : AH) : Option (Int32 × AH) := jn (fun (g1 : AH) => jn (fun (g3 : AH) => jn (fun (g5 : AH) => jn (fun (g7 : AH) => bI (f_J8_getChar γ x2 (0 : Int32) g7) fun v10 g9 => f_J8_indexOfUnsafe_L94 γ x0 x2 x3 v10 (x1 - x3) FU x4 g9) (fun (j8 : AH → Option (Int32 × AH)) => (if (1 : Int32) = 0 then (if x3 ≤ x1 then j8 g5 else none) else j8 g5))) (fun (j6 : AH → Option (Int32 × AH)) => (if (1 : Int32) = 0 then bI (f_J8_length γ x2 g3) fun v27 g26 => (if x3 ≤ v27 then j6 g26 else none) else j6 g3))) (fun (j4 : AH → Option (Int32 × AH)) => (if (1 : Int32) = 0 then (if 0 < x3 then j4 g1 else none) else j4 g1))) (fun (j2 : AH → Option (Int32 × AH)) => (if (1 : Int32) = 0 then (if 0 ≤ x4 then j2 g else none) else j2 g))
theorem f_J8_indexOfUnsafe_L160_w (γ : GP) (l : Launch) (hl : l.stackTraces = false) (G0 : AH) (x0 : Nat) (x2 : Nat) (x3 : Int32) (x5 : Int32) (x6 : Int32) (x7 : Int32) (x9 : Int32) (K191 : Int32 → AH → Option (Int32 × AH)) (h_K191 : ∀ (y8 : Int32) (g : AH), AW ρI γ l ck_J8_indexOfUnsafe G0 191 [(0, .ref x0), (2, .ref x2), (3, .int x3), (5, .int x5), (6, .int x6), (7, .int x7), (8, .int y8), (9, .int x9)] [] g (K191 y8 g)) : ∀ (n : Nat) (x8 : Int32) (x10 : Int32) (g : AH), AW ρI γ l ck_J8_indexOfUnsafe G0 160 [(0, .ref x0), (2, .ref x2), (3, .int x3), (5, .int x5), (6, .int x6), (7, .int x7), (8, .int x8), (9, .int x9), (10, .int x10)] [] g (f_J8_indexOfUnsafe_L160 γ x0 x2 x3 x5 x6 x7 x9 K191 n x8 x10 g) := by
  intro n
  induction n with
  | zero => intro x8 x10 g; exact AW_none
  | succ n ih =>
    intro x8 x10 g
    unfold f_J8_indexOfUnsafe_L160
    refine r_iload (pc := 160) dJ8_indexOfUnsafe_160 6 rfl ?_
    refine r_iload (pc := 162) dJ8_indexOfUnsafe_162 7 rfl ?_
    refine r_icmp_ge (tgt := 191) (pc := 164) dJ8_indexOfUnsafe_164 (by decide) ?_ ?_
    · skip
      refine AW_sub [0, 1, 2, 3, 4, 5, 6, 7] rfl ?_
      exact h_K191 x8 g
    · skip
      refine r_aload_n (pc := 167) dJ8_indexOfUnsafe_167 rfl 0 rfl ?_
      refine r_iload (pc := 168) dJ8_indexOfUnsafe_168 6 rfl ?_
      refine r_cI (pc := 170) (rest := []) (run_S (n := 2) (As := [.ref x0, .int x8]) (rest := []) (t_J8_getChar γ l hl x0 x8 g) dJ8_indexOfUnsafe_170 q689 q690 q120 q691 (by decide +kernel) rfl (Nat.le_of_ble_eq_true rfl) (Nat.le_of_ble_eq_true rfl) rfl (Nat.le_of_ble_eq_true rfl)) (fun v17 g16 => ?_)
      refine r_aload_n (pc := 173) dJ8_indexOfUnsafe_173 rfl 1 rfl ?_
      refine r_iload (pc := 174) dJ8_indexOfUnsafe_174 8 rfl ?_
      refine r_cI (pc := 176) (rest := [.int v17]) (run_S (n := 2) (As := [.ref x2, .int x10]) (rest := [.int v17]) (t_J8_getChar γ l hl x2 x10 g16) dJ8_indexOfUnsafe_176 q689 q690 q120 q691 (by decide +kernel) rfl (Nat.le_of_ble_eq_true rfl) (Nat.le_of_ble_eq_true rfl) rfl (Nat.le_of_ble_eq_true rfl)) (fun v19 g18 => ?_)
      refine r_icmp_ne (tgt := 191) (pc := 179) dJ8_indexOfUnsafe_179 (by decide) ?_ ?_
      · skip
        refine r_iinc (j := 6) (v := (x8 + (1 : Int32))) (pc := 182) dJ8_indexOfUnsafe_182 rfl rfl (Nat.le_of_ble_eq_true rfl) rfl ?_
        refine r_iinc (j := 8) (v := (x10 + (1 : Int32))) (pc := 185) dJ8_indexOfUnsafe_185 rfl rfl (Nat.le_of_ble_eq_true rfl) rfl ?_
        refine r_goto (tgt := 160) (pc := 188) dJ8_indexOfUnsafe_188 (by decide) ?_
        refine AW_sub [2, 3, 4, 5, 6, 7, 1, 8, 0] rfl ?_
        exact ih (x8 + (1 : Int32)) (x10 + (1 : Int32)) g18
      · skip
        refine AW_sub [0, 1, 2, 3, 4, 5, 6, 7] rfl ?_
        exact h_K191 x8 g18
theorem f_J8_indexOfUnsafe_L112_w (γ : GP) (l : Launch) (hl : l.stackTraces = false) (G0 : AH) (x0 : Nat) (x2 : Nat) (x3 : Int32) (x5 : Int32) (x6 : Int32) (K136 : Int32 → AH → Option (Int32 × AH)) (h_K136 : ∀ (y7 : Int32) (g : AH), AW ρI γ l ck_J8_indexOfUnsafe G0 136 [(0, .ref x0), (2, .ref x2), (3, .int x3), (5, .int x5), (6, .int x6), (7, .int y7)] [] g (K136 y7 g)) : ∀ (n : Nat) (x7 : Int32) (g : AH), AW ρI γ l ck_J8_indexOfUnsafe G0 112 [(0, .ref x0), (2, .ref x2), (3, .int x3), (5, .int x5), (6, .int x6), (7, .int x7)] [] g (f_J8_indexOfUnsafe_L112 γ x0 x2 x3 x5 x6 K136 n x7 g) := by
  intro n
  induction n with
  | zero => intro x7 g; exact AW_none
  | succ n ih =>
    intro x7 g
    unfold f_J8_indexOfUnsafe_L112
    refine r_iinc (j := 5) (v := (x7 + (1 : Int32))) (pc := 112) dJ8_indexOfUnsafe_112 rfl rfl (Nat.le_of_ble_eq_true rfl) rfl ?_
    refine r_iload (pc := 115) dJ8_indexOfUnsafe_115 0 rfl ?_
    refine r_iload (pc := 117) dJ8_indexOfUnsafe_117 5 rfl ?_
    refine r_icmp_gt (tgt := 136) (pc := 119) dJ8_indexOfUnsafe_119 (by decide) ?_ ?_
    · skip
      refine AW_sub [1, 2, 3, 4, 5, 0] rfl ?_
      exact h_K136 (x7 + (1 : Int32)) g
    · skip
      refine r_aload_n (pc := 122) dJ8_indexOfUnsafe_122 rfl 1 rfl ?_
      refine r_iload (pc := 123) dJ8_indexOfUnsafe_123 0 rfl ?_
      refine r_cI (pc := 125) (rest := []) (run_S (n := 2) (As := [.ref x0, .int (x7 + (1 : Int32))]) (rest := []) (t_J8_getChar γ l hl x0 (x7 + (1 : Int32)) g) dJ8_indexOfUnsafe_125 q689 q690 q120 q691 (by decide +kernel) rfl (Nat.le_of_ble_eq_true rfl) (Nat.le_of_ble_eq_true rfl) rfl (Nat.le_of_ble_eq_true rfl)) (fun v23 g22 => ?_)
      refine r_iload (pc := 128) dJ8_indexOfUnsafe_128 4 rfl ?_
      refine r_icmp_eq (tgt := 136) (pc := 130) dJ8_indexOfUnsafe_130 (by decide) ?_ ?_
      · skip
        refine AW_sub [1, 2, 3, 4, 5, 0] rfl ?_
        exact h_K136 (x7 + (1 : Int32)) g22
      · skip
        refine r_goto (tgt := 112) (pc := 133) dJ8_indexOfUnsafe_133 (by decide) ?_
        refine AW_sub [1, 2, 3, 4, 5, 0] rfl ?_
        exact ih (x7 + (1 : Int32)) g22
theorem f_J8_indexOfUnsafe_L94_w (γ : GP) (l : Launch) (hl : l.stackTraces = false) (G0 : AH) (x0 : Nat) (x2 : Nat) (x3 : Int32) (x5 : Int32) (x6 : Int32) : ∀ (n : Nat) (x7 : Int32) (g : AH), AW ρI γ l ck_J8_indexOfUnsafe G0 94 [(0, .ref x0), (2, .ref x2), (3, .int x3), (5, .int x5), (6, .int x6), (7, .int x7)] [] g (f_J8_indexOfUnsafe_L94 γ x0 x2 x3 x5 x6 n x7 g) := by
  intro n
  induction n with
  | zero => intro x7 g; exact AW_none
  | succ n ih =>
    intro x7 g
    unfold f_J8_indexOfUnsafe_L94
    refine r_iload (pc := 94) dJ8_indexOfUnsafe_94 5 rfl ?_
    refine r_iload (pc := 96) dJ8_indexOfUnsafe_96 4 rfl ?_
    refine r_icmp_gt (tgt := 207) (pc := 98) dJ8_indexOfUnsafe_98 (by decide) ?_ ?_
    · skip
      refine r_iconst (v := (-1 : Int32)) (pc := 207) dJ8_indexOfUnsafe_207 (by decide) ?_
      exact r_iret (pc := 208) dJ8_indexOfUnsafe_208 rfl
    · skip
      refine r_aload_n (pc := 101) dJ8_indexOfUnsafe_101 rfl 0 rfl ?_
      refine r_iload (pc := 102) dJ8_indexOfUnsafe_102 5 rfl ?_
      refine r_cI (pc := 104) (rest := []) (run_S (n := 2) (As := [.ref x0, .int x7]) (rest := []) (t_J8_getChar γ l hl x0 x7 g) dJ8_indexOfUnsafe_104 q689 q690 q120 q691 (by decide +kernel) rfl (Nat.le_of_ble_eq_true rfl) (Nat.le_of_ble_eq_true rfl) rfl (Nat.le_of_ble_eq_true rfl)) (fun v12 g11 => ?_)
      refine r_iload (pc := 107) dJ8_indexOfUnsafe_107 3 rfl ?_
      refine AW_jn (P := fun (j : Int32 → AH → Option (Int32 × AH)) => ∀ (y13 : Int32) (g14 : AH), AW ρI γ l ck_J8_indexOfUnsafe G0 136 [(0, .ref x0), (2, .ref x2), (3, .int x3), (5, .int x5), (6, .int x6), (7, .int y13)] [] g14 (j y13 g14)) (fun y13 g14 => ?_) (fun j15 h_j15 => ?_)
      · skip
        refine r_iload (pc := 136) dJ8_indexOfUnsafe_136 5 rfl ?_
        refine r_iload (pc := 138) dJ8_indexOfUnsafe_138 4 rfl ?_
        refine r_icmp_gt (tgt := 201) (pc := 140) dJ8_indexOfUnsafe_140 (by decide) ?_ ?_
        · skip
          refine r_iinc (j := 5) (v := (y13 + (1 : Int32))) (pc := 201) dJ8_indexOfUnsafe_201 rfl rfl (Nat.le_of_ble_eq_true rfl) rfl ?_
          refine r_goto (tgt := 94) (pc := 204) dJ8_indexOfUnsafe_204 (by decide) ?_
          refine AW_sub [1, 2, 3, 4, 5, 0] rfl ?_
          exact ih (y13 + (1 : Int32)) g14
        · skip
          refine r_iload (pc := 143) dJ8_indexOfUnsafe_143 5 rfl ?_
          refine r_iconst (v := (1 : Int32)) (pc := 145) dJ8_indexOfUnsafe_145 (by decide) ?_
          refine r_iadd (pc := 146) dJ8_indexOfUnsafe_146 ?_
          refine r_istore (pc := 147) dJ8_indexOfUnsafe_147 (Nat.le_of_ble_eq_true rfl) rfl ?_
          refine r_iload (pc := 149) dJ8_indexOfUnsafe_149 0 rfl ?_
          refine r_iload_n (pc := 151) dJ8_indexOfUnsafe_151 rfl 3 rfl ?_
          refine r_iadd (pc := 152) dJ8_indexOfUnsafe_152 ?_
          refine r_iconst (v := (1 : Int32)) (pc := 153) dJ8_indexOfUnsafe_153 (by decide) ?_
          refine r_isub (pc := 154) dJ8_indexOfUnsafe_154 ?_
          refine r_istore (pc := 155) dJ8_indexOfUnsafe_155 (Nat.le_of_ble_eq_true rfl) rfl ?_
          refine r_iconst (v := (1 : Int32)) (pc := 157) dJ8_indexOfUnsafe_157 (by decide) ?_
          refine r_istore (pc := 158) dJ8_indexOfUnsafe_158 (Nat.le_of_ble_eq_true rfl) rfl ?_
          refine AW_sub [3, 4, 5, 6, 7, 8, 2, 1, 0] rfl ?_
          refine f_J8_indexOfUnsafe_L160_w γ l hl _ x0 x2 x3 x5 x6 y13 (((y13 + (1 : Int32)) + x3) - (1 : Int32)) _ ?_ FU (y13 + (1 : Int32)) (1 : Int32) g14
          · intro y20 g21
            refine r_iload (pc := 191) dJ8_indexOfUnsafe_191 6 rfl ?_
            refine r_iload (pc := 193) dJ8_indexOfUnsafe_193 7 rfl ?_
            refine r_icmp_ne (tgt := 201) (pc := 195) dJ8_indexOfUnsafe_195 (by decide) ?_ ?_
            · skip
              refine r_iload (pc := 198) dJ8_indexOfUnsafe_198 5 rfl ?_
              exact r_iret (pc := 200) dJ8_indexOfUnsafe_200 rfl
            · skip
              refine r_iinc (j := 5) (v := (y13 + (1 : Int32))) (pc := 201) dJ8_indexOfUnsafe_201 rfl rfl (Nat.le_of_ble_eq_true rfl) rfl ?_
              refine r_goto (tgt := 94) (pc := 204) dJ8_indexOfUnsafe_204 (by decide) ?_
              refine AW_sub [1, 2, 3, 4, 5, 0] rfl ?_
              exact ih (y13 + (1 : Int32)) g21
      · skip
        refine r_icmp_eq (tgt := 136) (pc := 109) dJ8_indexOfUnsafe_109 (by decide) ?_ ?_
        · skip
          exact h_j15 x7 g11
        · skip
          refine f_J8_indexOfUnsafe_L112_w γ l hl _ x0 x2 x3 x5 x6 _ ?_ FU x7 g11
          · intro y24 g25
            exact h_j15 y24 g25
theorem t_J8_indexOfUnsafe (γ : GP) (l : Launch) (hl : l.stackTraces = false) (x0 : Nat) (x1 : Int32) (x2 : Nat) (x3 : Int32) (x4 : Int32) (g : AH) : TrM ρI γ l ⟨"java/lang/StringUTF16", "indexOfUnsafe", "([BI[BII)I"⟩ (ws_ ⟨"java/lang/StringUTF16", "indexOfUnsafe", "([BI[BII)I"⟩ prog_52_method_43_code 11 (some .int)) 3 [.ref x0, .int x1, .ref x2, .int x3, .int x4] g (f_J8_indexOfUnsafe γ x0 x1 x2 x3 x4 g) := by
  refine TrM_of (plainFor_of_name (by decide)) (Nat.le_of_ble_eq_true rfl) ?_
  unfold f_J8_indexOfUnsafe
  change AW ρI γ l ck_J8_indexOfUnsafe g 0 [(0, .ref x0), (1, .int x1), (2, .ref x2), (3, .int x3), (4, .int x4)] [] g _
  refine r_getsI (v := (1 : Int32)) (pc := 0) dJ8_indexOfUnsafe_0 q532 (List.mem_of_getElem? (i := 1) rfl) rfl ?_
  refine AW_jn (P := fun (j : AH → Option (Int32 × AH)) => ∀ (g1 : AH), AW ρI γ l ck_J8_indexOfUnsafe g 19 [(0, .ref x0), (1, .int x1), (2, .ref x2), (3, .int x3), (4, .int x4)] [] g1 (j g1)) (fun g1 => ?_) (fun j2 h_j2 => ?_)
  · skip
    refine r_getsI (v := (1 : Int32)) (pc := 19) dJ8_indexOfUnsafe_19 q532 (List.mem_of_getElem? (i := 1) rfl) rfl ?_
    refine AW_jn (P := fun (j : AH → Option (Int32 × AH)) => ∀ (g3 : AH), AW ρI γ l ck_J8_indexOfUnsafe g 37 [(0, .ref x0), (1, .int x1), (2, .ref x2), (3, .int x3), (4, .int x4)] [] g3 (j g3)) (fun g3 => ?_) (fun j4 h_j4 => ?_)
    · skip
      refine r_getsI (v := (1 : Int32)) (pc := 37) dJ8_indexOfUnsafe_37 q532 (List.mem_of_getElem? (i := 1) rfl) rfl ?_
      refine AW_jn (P := fun (j : AH → Option (Int32 × AH)) => ∀ (g5 : AH), AW ρI γ l ck_J8_indexOfUnsafe g 59 [(0, .ref x0), (1, .int x1), (2, .ref x2), (3, .int x3), (4, .int x4)] [] g5 (j g5)) (fun g5 => ?_) (fun j6 h_j6 => ?_)
      · skip
        refine r_getsI (v := (1 : Int32)) (pc := 59) dJ8_indexOfUnsafe_59 q532 (List.mem_of_getElem? (i := 1) rfl) rfl ?_
        refine AW_jn (P := fun (j : AH → Option (Int32 × AH)) => ∀ (g7 : AH), AW ρI γ l ck_J8_indexOfUnsafe g 78 [(0, .ref x0), (1, .int x1), (2, .ref x2), (3, .int x3), (4, .int x4)] [] g7 (j g7)) (fun g7 => ?_) (fun j8 h_j8 => ?_)
        · skip
          refine r_aload_n (pc := 78) dJ8_indexOfUnsafe_78 rfl 2 rfl ?_
          refine r_iconst (v := (0 : Int32)) (pc := 79) dJ8_indexOfUnsafe_79 (by decide) ?_
          refine r_cI (pc := 80) (rest := []) (run_S (n := 2) (As := [.ref x2, .int (0 : Int32)]) (rest := []) (t_J8_getChar γ l hl x2 (0 : Int32) g7) dJ8_indexOfUnsafe_80 q689 q690 q120 q691 (by decide +kernel) rfl (Nat.le_of_ble_eq_true rfl) (Nat.le_of_ble_eq_true rfl) rfl (Nat.le_of_ble_eq_true rfl)) (fun v10 g9 => ?_)
          refine r_istore (pc := 83) dJ8_indexOfUnsafe_83 (Nat.le_of_ble_eq_true rfl) rfl ?_
          refine r_iload_n (pc := 85) dJ8_indexOfUnsafe_85 rfl 2 rfl ?_
          refine r_iload_n (pc := 86) dJ8_indexOfUnsafe_86 rfl 4 rfl ?_
          refine r_isub (pc := 87) dJ8_indexOfUnsafe_87 ?_
          refine r_istore (pc := 88) dJ8_indexOfUnsafe_88 (Nat.le_of_ble_eq_true rfl) rfl ?_
          refine r_iload (pc := 90) dJ8_indexOfUnsafe_90 6 rfl ?_
          refine r_istore (pc := 92) dJ8_indexOfUnsafe_92 (Nat.le_of_ble_eq_true rfl) rfl ?_
          refine AW_sub [3, 5, 6, 2, 1, 0] rfl ?_
          refine f_J8_indexOfUnsafe_L94_w γ l hl _ x0 x2 x3 v10 (x1 - x3) FU x4 g9
        · skip
          refine r_if_ne (tgt := 78) (pc := 62) dJ8_indexOfUnsafe_62 (by decide) ?_ ?_
          · skip
            refine r_iload_n (pc := 65) dJ8_indexOfUnsafe_65 rfl 1 rfl ?_
            refine r_iload_n (pc := 66) dJ8_indexOfUnsafe_66 rfl 3 rfl ?_
            refine r_icmp_ge (tgt := 78) (pc := 67) dJ8_indexOfUnsafe_67 (by decide) ?_ ?_
            · skip
              exact h_j8 g5
            · skip
              exact AW_none
          · skip
            exact h_j8 g5
      · skip
        refine r_if_ne (tgt := 59) (pc := 40) dJ8_indexOfUnsafe_40 (by decide) ?_ ?_
        · skip
          refine r_iload_n (pc := 43) dJ8_indexOfUnsafe_43 rfl 3 rfl ?_
          refine r_aload_n (pc := 44) dJ8_indexOfUnsafe_44 rfl 2 rfl ?_
          refine r_cI (pc := 45) (rest := [.int x3]) (run_S (n := 1) (As := [.ref x2]) (rest := [.int x3]) (t_J8_length γ l hl x2 g3) dJ8_indexOfUnsafe_45 q518 q519 q120 q520 (by decide +kernel) rfl (Nat.le_of_ble_eq_true rfl) (Nat.le_of_ble_eq_true rfl) rfl (Nat.le_of_ble_eq_true rfl)) (fun v27 g26 => ?_)
          refine r_icmp_le (tgt := 59) (pc := 48) dJ8_indexOfUnsafe_48 (by decide) ?_ ?_
          · skip
            exact h_j6 g26
          · skip
            exact AW_none
        · skip
          exact h_j6 g3
    · skip
      refine r_if_ne (tgt := 37) (pc := 22) dJ8_indexOfUnsafe_22 (by decide) ?_ ?_
      · skip
        refine r_iload_n (pc := 25) dJ8_indexOfUnsafe_25 rfl 3 rfl ?_
        refine r_if_gt (tgt := 37) (pc := 26) dJ8_indexOfUnsafe_26 (by decide) ?_ ?_
        · skip
          exact h_j4 g1
        · skip
          exact AW_none
      · skip
        exact h_j4 g1
  · skip
    refine r_if_ne (tgt := 19) (pc := 3) dJ8_indexOfUnsafe_3 (by decide) ?_ ?_
    · skip
      refine r_iload (pc := 6) dJ8_indexOfUnsafe_6 4 rfl ?_
      refine r_if_ge (tgt := 19) (pc := 8) dJ8_indexOfUnsafe_8 (by decide) ?_ ?_
      · skip
        exact h_j2 g
      · skip
        exact AW_none
    · skip
      exact h_j2 g
abbrev ck_J8_indexOf : CK := ("java/lang/StringUTF16", prog_52_method_41_code, 2, (some .int), "indexOf", [], 4)
def f_J8_indexOf (γ : GP) (x0 : Nat) (x1 : Nat) (g : AH) : Option (Int32 × AH) := gL g x1 fun v1 => (if v1 = 0 then (some ((0 : Int32), g)) else gL g x0 fun v2 => gL g x1 fun v3 => (if v3 ≤ v2 then bI (f_J8_length γ x0 g) fun v5 g4 => bI (f_J8_length γ x1 g4) fun v7 g6 => bI (f_J8_indexOfUnsafe γ x0 v5 x1 v7 (0 : Int32) g6) fun v9 g8 => (some (v9, g8)) else (some ((-1 : Int32), g))))
theorem t_J8_indexOf (γ : GP) (l : Launch) (hl : l.stackTraces = false) (x0 : Nat) (x1 : Nat) (g : AH) : TrM ρI γ l ⟨"java/lang/StringUTF16", "indexOf", "([B[B)I"⟩ (ws_ ⟨"java/lang/StringUTF16", "indexOf", "([B[B)I"⟩ prog_52_method_41_code 2 (some .int)) 4 [.ref x0, .ref x1] g (f_J8_indexOf γ x0 x1 g) := by
  refine TrM_of (plainFor_of_name (by decide)) (Nat.le_of_ble_eq_true rfl) ?_
  unfold f_J8_indexOf
  change AW ρI γ l ck_J8_indexOf g 0 [(0, .ref x0), (1, .ref x1)] [] g _
  refine r_aload_n (pc := 0) dJ8_indexOf_0 rfl 1 rfl ?_
  refine r_alen (pc := 1) dJ8_indexOf_1 (fun v1 => ?_)
  refine r_if_ne (tgt := 7) (pc := 2) dJ8_indexOf_2 (by decide) ?_ ?_
  · skip
    refine r_iconst (v := (0 : Int32)) (pc := 5) dJ8_indexOf_5 (by decide) ?_
    exact r_iret (pc := 6) dJ8_indexOf_6 rfl
  · skip
    refine r_aload_n (pc := 7) dJ8_indexOf_7 rfl 0 rfl ?_
    refine r_alen (pc := 8) dJ8_indexOf_8 (fun v2 => ?_)
    refine r_aload_n (pc := 9) dJ8_indexOf_9 rfl 1 rfl ?_
    refine r_alen (pc := 10) dJ8_indexOf_10 (fun v3 => ?_)
    refine r_icmp_ge (tgt := 16) (pc := 11) dJ8_indexOf_11 (by decide) ?_ ?_
    · skip
      refine r_aload_n (pc := 16) dJ8_indexOf_16 rfl 0 rfl ?_
      refine r_aload_n (pc := 17) dJ8_indexOf_17 rfl 0 rfl ?_
      refine r_cI (pc := 18) (rest := [.ref x0]) (run_S (n := 1) (As := [.ref x0]) (rest := [.ref x0]) (t_J8_length γ l hl x0 g) dJ8_indexOf_18 q518 q519 q120 q520 (by decide +kernel) rfl (Nat.le_of_ble_eq_true rfl) (Nat.le_of_ble_eq_true rfl) rfl (Nat.le_of_ble_eq_true rfl)) (fun v5 g4 => ?_)
      refine r_aload_n (pc := 21) dJ8_indexOf_21 rfl 1 rfl ?_
      refine r_aload_n (pc := 22) dJ8_indexOf_22 rfl 1 rfl ?_
      refine r_cI (pc := 23) (rest := [.ref x1, .int v5, .ref x0]) (run_S (n := 1) (As := [.ref x1]) (rest := [.ref x1, .int v5, .ref x0]) (t_J8_length γ l hl x1 g4) dJ8_indexOf_23 q518 q519 q120 q520 (by decide +kernel) rfl (Nat.le_of_ble_eq_true rfl) (Nat.le_of_ble_eq_true rfl) rfl (Nat.le_of_ble_eq_true rfl)) (fun v7 g6 => ?_)
      refine r_iconst (v := (0 : Int32)) (pc := 26) dJ8_indexOf_26 (by decide) ?_
      refine r_cI (pc := 27) (rest := []) (run_S (n := 5) (As := [.ref x0, .int v5, .ref x1, .int v7, .int (0 : Int32)]) (rest := []) (t_J8_indexOfUnsafe γ l hl x0 v5 x1 v7 (0 : Int32) g6) dJ8_indexOf_27 q3142 q3143 q120 q3144 (by decide +kernel) rfl (Nat.le_of_ble_eq_true rfl) (Nat.le_of_ble_eq_true rfl) rfl (Nat.le_of_ble_eq_true rfl)) (fun v9 g8 => ?_)
      exact r_iret (pc := 30) dJ8_indexOf_30 rfl
    · skip
      refine r_iconst (v := (-1 : Int32)) (pc := 14) dJ8_indexOf_14 (by decide) ?_
      exact r_iret (pc := 15) dJ8_indexOf_15 rfl
