set_option maxRecDepth 100000
abbrev cJ8_getChars : ByteArray := prog_52_method_77_code
def dkwJ8_getChars_1 : List UInt8 := [159, 0, 11, 187, 0, 52, 89, 183, 0, 66, 191, 21, 4, 172]
abbrev dktJ8_getChars_1 : List UInt8 := dkwJ8_getChars_1 ++ []
def dkwJ8_getChars_0 : List UInt8 := [27, 28, 45, 184, 0, 96, 26, 28, 45, 184, 1, 137, 54, 4, 178, 0, 44, 154, 0, 17, 27, 21, 4]
abbrev dktJ8_getChars_0 : List UInt8 := dkwJ8_getChars_0 ++ dktJ8_getChars_1
theorem dksJ8_getChars_0 : cJ8_getChars.data.toList.drop 0 = dktJ8_getChars_0 := by decide +kernel
theorem dksJ8_getChars_1 : cJ8_getChars.data.toList.drop 23 = dktJ8_getChars_1 := dk_seg dksJ8_getChars_0 23 rfl rfl
theorem dJ8_getChars_0 : decode cJ8_getChars 0 = .ok (.iload_n 1, 1) := dk_27 (dk_at dksJ8_getChars_0 0 rfl rfl)
theorem dJ8_getChars_1 : decode cJ8_getChars 1 = .ok (.iload_n 2, 1) := dk_28 (dk_at dksJ8_getChars_0 1 rfl rfl)
theorem dJ8_getChars_2 : decode cJ8_getChars 2 = .ok (.aload_n 3, 1) := dk_45 (dk_at dksJ8_getChars_0 2 rfl rfl)
theorem dJ8_getChars_3 : decode cJ8_getChars 3 = .ok (.invokestatic 96, 3) := dk_184 0 96 (dk_at dksJ8_getChars_0 3 rfl rfl)
theorem dJ8_getChars_6 : decode cJ8_getChars 6 = .ok (.iload_n 0, 1) := dk_26 (dk_at dksJ8_getChars_0 6 rfl rfl)
theorem dJ8_getChars_7 : decode cJ8_getChars 7 = .ok (.iload_n 2, 1) := dk_28 (dk_at dksJ8_getChars_0 7 rfl rfl)
theorem dJ8_getChars_8 : decode cJ8_getChars 8 = .ok (.aload_n 3, 1) := dk_45 (dk_at dksJ8_getChars_0 8 rfl rfl)
theorem dJ8_getChars_9 : decode cJ8_getChars 9 = .ok (.invokestatic 393, 3) := dk_184 1 137 (dk_at dksJ8_getChars_0 9 rfl rfl)
theorem dJ8_getChars_12 : decode cJ8_getChars 12 = .ok (.istore 4, 2) := dk_54 4 (dk_at dksJ8_getChars_0 12 rfl rfl)
theorem dJ8_getChars_14 : decode cJ8_getChars 14 = .ok (.getstatic 44, 3) := dk_178 0 44 (dk_at dksJ8_getChars_0 14 rfl rfl)
theorem dJ8_getChars_17 : decode cJ8_getChars 17 = .ok (.ifCond .ne 17, 3) := dk_154 0 17 (dk_at dksJ8_getChars_0 17 rfl rfl)
theorem dJ8_getChars_20 : decode cJ8_getChars 20 = .ok (.iload_n 1, 1) := dk_27 (dk_at dksJ8_getChars_0 20 rfl rfl)
theorem dJ8_getChars_21 : decode cJ8_getChars 21 = .ok (.iload 4, 2) := dk_21 4 (dk_at dksJ8_getChars_0 21 rfl rfl)
theorem dJ8_getChars_23 : decode cJ8_getChars 23 = .ok (.if_icmp .eq 11, 3) := dk_159 0 11 (dk_at dksJ8_getChars_1 0 rfl rfl)
theorem dJ8_getChars_26 : decode cJ8_getChars 26 = .ok (.new 52, 3) := dk_187 0 52 (dk_at dksJ8_getChars_1 3 rfl rfl)
theorem dJ8_getChars_34 : decode cJ8_getChars 34 = .ok (.iload 4, 2) := dk_21 4 (dk_at dksJ8_getChars_1 11 rfl rfl)
theorem dJ8_getChars_36 : decode cJ8_getChars 36 = .ok (.ireturn, 1) := dk_172 (dk_at dksJ8_getChars_1 13 rfl rfl)
abbrev cJ8_getChars_2 : ByteArray := prog_52_method_89_code
def dkwJ8_getChars_2_5 : List UInt8 := [132, 5, 255, 21, 5, 16, 45, 184, 0, 111, 21, 5, 172]
abbrev dktJ8_getChars_2_5 : List UInt8 := dkwJ8_getChars_2_5 ++ []
def dkwJ8_getChars_2_4 : List UInt8 := [162, 0, 18, 44, 132, 5, 255, 21, 5, 178, 1, 151, 26, 116, 51, 184, 0, 111, 21, 6, 153, 0, 14, 44]
abbrev dktJ8_getChars_2_4 : List UInt8 := dkwJ8_getChars_2_4 ++ dktJ8_getChars_2_5
def dkwJ8_getChars_2_3 : List UInt8 := [184, 0, 111, 167, 255, 205, 44, 132, 5, 255, 21, 5, 178, 1, 147, 26, 116, 51, 184, 0, 111, 26, 16, 247]
abbrev dktJ8_getChars_2_3 : List UInt8 := dkwJ8_getChars_2_3 ++ dktJ8_getChars_2_4
def dkwJ8_getChars_2_2 : List UInt8 := [21, 5, 178, 1, 147, 21, 4, 51, 184, 0, 111, 44, 132, 5, 255, 21, 5, 178, 1, 151, 21, 4, 51]
abbrev dktJ8_getChars_2_2 : List UInt8 := dkwJ8_getChars_2_2 ++ dktJ8_getChars_2_3
def dkwJ8_getChars_2_1 : List UInt8 := [16, 156, 163, 0, 51, 26, 16, 100, 108, 62, 29, 16, 100, 104, 26, 100, 54, 4, 29, 59, 44, 132, 5, 255]
abbrev dktJ8_getChars_2_1 : List UInt8 := dkwJ8_getChars_2_1 ++ dktJ8_getChars_2_2
def dkwJ8_getChars_2_0 : List UInt8 := [27, 54, 5, 26, 156, 0, 7, 4, 167, 0, 4, 3, 54, 6, 21, 6, 154, 0, 6, 26, 116, 59, 26]
abbrev dktJ8_getChars_2_0 : List UInt8 := dkwJ8_getChars_2_0 ++ dktJ8_getChars_2_1
theorem dksJ8_getChars_2_0 : cJ8_getChars_2.data.toList.drop 0 = dktJ8_getChars_2_0 := by decide +kernel
theorem dksJ8_getChars_2_1 : cJ8_getChars_2.data.toList.drop 23 = dktJ8_getChars_2_1 := dk_seg dksJ8_getChars_2_0 23 rfl rfl
theorem dksJ8_getChars_2_2 : cJ8_getChars_2.data.toList.drop 47 = dktJ8_getChars_2_2 := dk_seg dksJ8_getChars_2_1 24 rfl rfl
theorem dksJ8_getChars_2_3 : cJ8_getChars_2.data.toList.drop 70 = dktJ8_getChars_2_3 := dk_seg dksJ8_getChars_2_2 23 rfl rfl
theorem dksJ8_getChars_2_4 : cJ8_getChars_2.data.toList.drop 94 = dktJ8_getChars_2_4 := dk_seg dksJ8_getChars_2_3 24 rfl rfl
theorem dksJ8_getChars_2_5 : cJ8_getChars_2.data.toList.drop 118 = dktJ8_getChars_2_5 := dk_seg dksJ8_getChars_2_4 24 rfl rfl
theorem dJ8_getChars_2_0 : decode cJ8_getChars_2 0 = .ok (.iload_n 1, 1) := dk_27 (dk_at dksJ8_getChars_2_0 0 rfl rfl)
theorem dJ8_getChars_2_1 : decode cJ8_getChars_2 1 = .ok (.istore 5, 2) := dk_54 5 (dk_at dksJ8_getChars_2_0 1 rfl rfl)
theorem dJ8_getChars_2_3 : decode cJ8_getChars_2 3 = .ok (.iload_n 0, 1) := dk_26 (dk_at dksJ8_getChars_2_0 3 rfl rfl)
theorem dJ8_getChars_2_4 : decode cJ8_getChars_2 4 = .ok (.ifCond .ge 7, 3) := dk_156 0 7 (dk_at dksJ8_getChars_2_0 4 rfl rfl)
theorem dJ8_getChars_2_7 : decode cJ8_getChars_2 7 = .ok (.iconst 1, 1) := dk_4 (dk_at dksJ8_getChars_2_0 7 rfl rfl)
theorem dJ8_getChars_2_8 : decode cJ8_getChars_2 8 = .ok (.goto 4, 3) := dk_167 0 4 (dk_at dksJ8_getChars_2_0 8 rfl rfl)
theorem dJ8_getChars_2_11 : decode cJ8_getChars_2 11 = .ok (.iconst 0, 1) := dk_3 (dk_at dksJ8_getChars_2_0 11 rfl rfl)
theorem dJ8_getChars_2_12 : decode cJ8_getChars_2 12 = .ok (.istore 6, 2) := dk_54 6 (dk_at dksJ8_getChars_2_0 12 rfl rfl)
theorem dJ8_getChars_2_14 : decode cJ8_getChars_2 14 = .ok (.iload 6, 2) := dk_21 6 (dk_at dksJ8_getChars_2_0 14 rfl rfl)
theorem dJ8_getChars_2_16 : decode cJ8_getChars_2 16 = .ok (.ifCond .ne 6, 3) := dk_154 0 6 (dk_at dksJ8_getChars_2_0 16 rfl rfl)
theorem dJ8_getChars_2_19 : decode cJ8_getChars_2 19 = .ok (.iload_n 0, 1) := dk_26 (dk_at dksJ8_getChars_2_0 19 rfl rfl)
theorem dJ8_getChars_2_20 : decode cJ8_getChars_2 20 = .ok (.ineg, 1) := dk_116 (dk_at dksJ8_getChars_2_0 20 rfl rfl)
theorem dJ8_getChars_2_21 : decode cJ8_getChars_2 21 = .ok (.istore_n 0, 1) := dk_59 (dk_at dksJ8_getChars_2_0 21 rfl rfl)
theorem dJ8_getChars_2_22 : decode cJ8_getChars_2 22 = .ok (.iload_n 0, 1) := dk_26 (dk_at dksJ8_getChars_2_0 22 rfl rfl)
theorem dJ8_getChars_2_23 : decode cJ8_getChars_2 23 = .ok (.bipush (-100), 2) := dk_16 156 (dk_at dksJ8_getChars_2_1 0 rfl rfl)
theorem dJ8_getChars_2_25 : decode cJ8_getChars_2 25 = .ok (.if_icmp .gt 51, 3) := dk_163 0 51 (dk_at dksJ8_getChars_2_1 2 rfl rfl)
theorem dJ8_getChars_2_28 : decode cJ8_getChars_2 28 = .ok (.iload_n 0, 1) := dk_26 (dk_at dksJ8_getChars_2_1 5 rfl rfl)
theorem dJ8_getChars_2_29 : decode cJ8_getChars_2 29 = .ok (.bipush 100, 2) := dk_16 100 (dk_at dksJ8_getChars_2_1 6 rfl rfl)
theorem dJ8_getChars_2_31 : decode cJ8_getChars_2 31 = .ok (.idiv, 1) := dk_108 (dk_at dksJ8_getChars_2_1 8 rfl rfl)
theorem dJ8_getChars_2_32 : decode cJ8_getChars_2 32 = .ok (.istore_n 3, 1) := dk_62 (dk_at dksJ8_getChars_2_1 9 rfl rfl)
theorem dJ8_getChars_2_33 : decode cJ8_getChars_2 33 = .ok (.iload_n 3, 1) := dk_29 (dk_at dksJ8_getChars_2_1 10 rfl rfl)
theorem dJ8_getChars_2_34 : decode cJ8_getChars_2 34 = .ok (.bipush 100, 2) := dk_16 100 (dk_at dksJ8_getChars_2_1 11 rfl rfl)
theorem dJ8_getChars_2_36 : decode cJ8_getChars_2 36 = .ok (.imul, 1) := dk_104 (dk_at dksJ8_getChars_2_1 13 rfl rfl)
theorem dJ8_getChars_2_37 : decode cJ8_getChars_2 37 = .ok (.iload_n 0, 1) := dk_26 (dk_at dksJ8_getChars_2_1 14 rfl rfl)
theorem dJ8_getChars_2_38 : decode cJ8_getChars_2 38 = .ok (.isub, 1) := dk_100 (dk_at dksJ8_getChars_2_1 15 rfl rfl)
theorem dJ8_getChars_2_39 : decode cJ8_getChars_2 39 = .ok (.istore 4, 2) := dk_54 4 (dk_at dksJ8_getChars_2_1 16 rfl rfl)
theorem dJ8_getChars_2_41 : decode cJ8_getChars_2 41 = .ok (.iload_n 3, 1) := dk_29 (dk_at dksJ8_getChars_2_1 18 rfl rfl)
theorem dJ8_getChars_2_42 : decode cJ8_getChars_2 42 = .ok (.istore_n 0, 1) := dk_59 (dk_at dksJ8_getChars_2_1 19 rfl rfl)
theorem dJ8_getChars_2_43 : decode cJ8_getChars_2 43 = .ok (.aload_n 2, 1) := dk_44 (dk_at dksJ8_getChars_2_1 20 rfl rfl)
theorem dJ8_getChars_2_44 : decode cJ8_getChars_2 44 = .ok (.iinc 5 (-1), 3) := dk_132 5 255 (dk_at dksJ8_getChars_2_1 21 rfl rfl)
theorem dJ8_getChars_2_47 : decode cJ8_getChars_2 47 = .ok (.iload 5, 2) := dk_21 5 (dk_at dksJ8_getChars_2_2 0 rfl rfl)
theorem dJ8_getChars_2_49 : decode cJ8_getChars_2 49 = .ok (.getstatic 403, 3) := dk_178 1 147 (dk_at dksJ8_getChars_2_2 2 rfl rfl)
theorem dJ8_getChars_2_52 : decode cJ8_getChars_2 52 = .ok (.iload 4, 2) := dk_21 4 (dk_at dksJ8_getChars_2_2 5 rfl rfl)
theorem dJ8_getChars_2_54 : decode cJ8_getChars_2 54 = .ok (.baload, 1) := dk_51 (dk_at dksJ8_getChars_2_2 7 rfl rfl)
theorem dJ8_getChars_2_55 : decode cJ8_getChars_2 55 = .ok (.invokestatic 111, 3) := dk_184 0 111 (dk_at dksJ8_getChars_2_2 8 rfl rfl)
theorem dJ8_getChars_2_58 : decode cJ8_getChars_2 58 = .ok (.aload_n 2, 1) := dk_44 (dk_at dksJ8_getChars_2_2 11 rfl rfl)
theorem dJ8_getChars_2_59 : decode cJ8_getChars_2 59 = .ok (.iinc 5 (-1), 3) := dk_132 5 255 (dk_at dksJ8_getChars_2_2 12 rfl rfl)
theorem dJ8_getChars_2_62 : decode cJ8_getChars_2 62 = .ok (.iload 5, 2) := dk_21 5 (dk_at dksJ8_getChars_2_2 15 rfl rfl)
theorem dJ8_getChars_2_64 : decode cJ8_getChars_2 64 = .ok (.getstatic 407, 3) := dk_178 1 151 (dk_at dksJ8_getChars_2_2 17 rfl rfl)
theorem dJ8_getChars_2_67 : decode cJ8_getChars_2 67 = .ok (.iload 4, 2) := dk_21 4 (dk_at dksJ8_getChars_2_2 20 rfl rfl)
theorem dJ8_getChars_2_69 : decode cJ8_getChars_2 69 = .ok (.baload, 1) := dk_51 (dk_at dksJ8_getChars_2_2 22 rfl rfl)
theorem dJ8_getChars_2_70 : decode cJ8_getChars_2 70 = .ok (.invokestatic 111, 3) := dk_184 0 111 (dk_at dksJ8_getChars_2_3 0 rfl rfl)
theorem dJ8_getChars_2_73 : decode cJ8_getChars_2 73 = .ok (.goto (-51), 3) := dk_167 255 205 (dk_at dksJ8_getChars_2_3 3 rfl rfl)
theorem dJ8_getChars_2_76 : decode cJ8_getChars_2 76 = .ok (.aload_n 2, 1) := dk_44 (dk_at dksJ8_getChars_2_3 6 rfl rfl)
theorem dJ8_getChars_2_77 : decode cJ8_getChars_2 77 = .ok (.iinc 5 (-1), 3) := dk_132 5 255 (dk_at dksJ8_getChars_2_3 7 rfl rfl)
theorem dJ8_getChars_2_80 : decode cJ8_getChars_2 80 = .ok (.iload 5, 2) := dk_21 5 (dk_at dksJ8_getChars_2_3 10 rfl rfl)
theorem dJ8_getChars_2_82 : decode cJ8_getChars_2 82 = .ok (.getstatic 403, 3) := dk_178 1 147 (dk_at dksJ8_getChars_2_3 12 rfl rfl)
theorem dJ8_getChars_2_85 : decode cJ8_getChars_2 85 = .ok (.iload_n 0, 1) := dk_26 (dk_at dksJ8_getChars_2_3 15 rfl rfl)
theorem dJ8_getChars_2_86 : decode cJ8_getChars_2 86 = .ok (.ineg, 1) := dk_116 (dk_at dksJ8_getChars_2_3 16 rfl rfl)
theorem dJ8_getChars_2_87 : decode cJ8_getChars_2 87 = .ok (.baload, 1) := dk_51 (dk_at dksJ8_getChars_2_3 17 rfl rfl)
theorem dJ8_getChars_2_88 : decode cJ8_getChars_2 88 = .ok (.invokestatic 111, 3) := dk_184 0 111 (dk_at dksJ8_getChars_2_3 18 rfl rfl)
theorem dJ8_getChars_2_91 : decode cJ8_getChars_2 91 = .ok (.iload_n 0, 1) := dk_26 (dk_at dksJ8_getChars_2_3 21 rfl rfl)
theorem dJ8_getChars_2_92 : decode cJ8_getChars_2 92 = .ok (.bipush (-9), 2) := dk_16 247 (dk_at dksJ8_getChars_2_3 22 rfl rfl)
theorem dJ8_getChars_2_94 : decode cJ8_getChars_2 94 = .ok (.if_icmp .ge 18, 3) := dk_162 0 18 (dk_at dksJ8_getChars_2_4 0 rfl rfl)
theorem dJ8_getChars_2_97 : decode cJ8_getChars_2 97 = .ok (.aload_n 2, 1) := dk_44 (dk_at dksJ8_getChars_2_4 3 rfl rfl)
theorem dJ8_getChars_2_98 : decode cJ8_getChars_2 98 = .ok (.iinc 5 (-1), 3) := dk_132 5 255 (dk_at dksJ8_getChars_2_4 4 rfl rfl)
theorem dJ8_getChars_2_101 : decode cJ8_getChars_2 101 = .ok (.iload 5, 2) := dk_21 5 (dk_at dksJ8_getChars_2_4 7 rfl rfl)
theorem dJ8_getChars_2_103 : decode cJ8_getChars_2 103 = .ok (.getstatic 407, 3) := dk_178 1 151 (dk_at dksJ8_getChars_2_4 9 rfl rfl)
theorem dJ8_getChars_2_106 : decode cJ8_getChars_2 106 = .ok (.iload_n 0, 1) := dk_26 (dk_at dksJ8_getChars_2_4 12 rfl rfl)
theorem dJ8_getChars_2_107 : decode cJ8_getChars_2 107 = .ok (.ineg, 1) := dk_116 (dk_at dksJ8_getChars_2_4 13 rfl rfl)
theorem dJ8_getChars_2_108 : decode cJ8_getChars_2 108 = .ok (.baload, 1) := dk_51 (dk_at dksJ8_getChars_2_4 14 rfl rfl)
theorem dJ8_getChars_2_109 : decode cJ8_getChars_2 109 = .ok (.invokestatic 111, 3) := dk_184 0 111 (dk_at dksJ8_getChars_2_4 15 rfl rfl)
theorem dJ8_getChars_2_112 : decode cJ8_getChars_2 112 = .ok (.iload 6, 2) := dk_21 6 (dk_at dksJ8_getChars_2_4 18 rfl rfl)
theorem dJ8_getChars_2_114 : decode cJ8_getChars_2 114 = .ok (.ifCond .eq 14, 3) := dk_153 0 14 (dk_at dksJ8_getChars_2_4 20 rfl rfl)
theorem dJ8_getChars_2_117 : decode cJ8_getChars_2 117 = .ok (.aload_n 2, 1) := dk_44 (dk_at dksJ8_getChars_2_4 23 rfl rfl)
theorem dJ8_getChars_2_118 : decode cJ8_getChars_2 118 = .ok (.iinc 5 (-1), 3) := dk_132 5 255 (dk_at dksJ8_getChars_2_5 0 rfl rfl)
theorem dJ8_getChars_2_121 : decode cJ8_getChars_2 121 = .ok (.iload 5, 2) := dk_21 5 (dk_at dksJ8_getChars_2_5 3 rfl rfl)
theorem dJ8_getChars_2_123 : decode cJ8_getChars_2 123 = .ok (.bipush 45, 2) := dk_16 45 (dk_at dksJ8_getChars_2_5 5 rfl rfl)
theorem dJ8_getChars_2_125 : decode cJ8_getChars_2 125 = .ok (.invokestatic 111, 3) := dk_184 0 111 (dk_at dksJ8_getChars_2_5 7 rfl rfl)
theorem dJ8_getChars_2_128 : decode cJ8_getChars_2 128 = .ok (.iload 5, 2) := dk_21 5 (dk_at dksJ8_getChars_2_5 10 rfl rfl)
theorem dJ8_getChars_2_130 : decode cJ8_getChars_2 130 = .ok (.ireturn, 1) := dk_172 (dk_at dksJ8_getChars_2_5 12 rfl rfl)
abbrev cJ8_indexOfLatin1 : ByteArray := prog_52_method_44_code
def dkwJ8_indexOfLatin1_1 : List UInt8 := [43, 190, 3, 184, 0, 238, 172]
abbrev dktJ8_indexOfLatin1_1 : List UInt8 := dkwJ8_indexOfLatin1_1 ++ []
def dkwJ8_indexOfLatin1_0 : List UInt8 := [43, 190, 154, 0, 5, 3, 172, 42, 184, 0, 48, 43, 190, 162, 0, 5, 2, 172, 42, 42, 184, 0, 48, 43]
abbrev dktJ8_indexOfLatin1_0 : List UInt8 := dkwJ8_indexOfLatin1_0 ++ dktJ8_indexOfLatin1_1
theorem dksJ8_indexOfLatin1_0 : cJ8_indexOfLatin1.data.toList.drop 0 = dktJ8_indexOfLatin1_0 := by decide +kernel
theorem dksJ8_indexOfLatin1_1 : cJ8_indexOfLatin1.data.toList.drop 24 = dktJ8_indexOfLatin1_1 := dk_seg dksJ8_indexOfLatin1_0 24 rfl rfl
theorem dJ8_indexOfLatin1_0 : decode cJ8_indexOfLatin1 0 = .ok (.aload_n 1, 1) := dk_43 (dk_at dksJ8_indexOfLatin1_0 0 rfl rfl)
theorem dJ8_indexOfLatin1_1 : decode cJ8_indexOfLatin1 1 = .ok (.arraylength, 1) := dk_190 (dk_at dksJ8_indexOfLatin1_0 1 rfl rfl)
theorem dJ8_indexOfLatin1_2 : decode cJ8_indexOfLatin1 2 = .ok (.ifCond .ne 5, 3) := dk_154 0 5 (dk_at dksJ8_indexOfLatin1_0 2 rfl rfl)
theorem dJ8_indexOfLatin1_5 : decode cJ8_indexOfLatin1 5 = .ok (.iconst 0, 1) := dk_3 (dk_at dksJ8_indexOfLatin1_0 5 rfl rfl)
theorem dJ8_indexOfLatin1_6 : decode cJ8_indexOfLatin1 6 = .ok (.ireturn, 1) := dk_172 (dk_at dksJ8_indexOfLatin1_0 6 rfl rfl)
theorem dJ8_indexOfLatin1_7 : decode cJ8_indexOfLatin1 7 = .ok (.aload_n 0, 1) := dk_42 (dk_at dksJ8_indexOfLatin1_0 7 rfl rfl)
theorem dJ8_indexOfLatin1_8 : decode cJ8_indexOfLatin1 8 = .ok (.invokestatic 48, 3) := dk_184 0 48 (dk_at dksJ8_indexOfLatin1_0 8 rfl rfl)
theorem dJ8_indexOfLatin1_11 : decode cJ8_indexOfLatin1 11 = .ok (.aload_n 1, 1) := dk_43 (dk_at dksJ8_indexOfLatin1_0 11 rfl rfl)
theorem dJ8_indexOfLatin1_12 : decode cJ8_indexOfLatin1 12 = .ok (.arraylength, 1) := dk_190 (dk_at dksJ8_indexOfLatin1_0 12 rfl rfl)
theorem dJ8_indexOfLatin1_13 : decode cJ8_indexOfLatin1 13 = .ok (.if_icmp .ge 5, 3) := dk_162 0 5 (dk_at dksJ8_indexOfLatin1_0 13 rfl rfl)
theorem dJ8_indexOfLatin1_16 : decode cJ8_indexOfLatin1 16 = .ok (.iconst (-1), 1) := dk_2 (dk_at dksJ8_indexOfLatin1_0 16 rfl rfl)
theorem dJ8_indexOfLatin1_17 : decode cJ8_indexOfLatin1 17 = .ok (.ireturn, 1) := dk_172 (dk_at dksJ8_indexOfLatin1_0 17 rfl rfl)
theorem dJ8_indexOfLatin1_18 : decode cJ8_indexOfLatin1 18 = .ok (.aload_n 0, 1) := dk_42 (dk_at dksJ8_indexOfLatin1_0 18 rfl rfl)
theorem dJ8_indexOfLatin1_19 : decode cJ8_indexOfLatin1 19 = .ok (.aload_n 0, 1) := dk_42 (dk_at dksJ8_indexOfLatin1_0 19 rfl rfl)
theorem dJ8_indexOfLatin1_20 : decode cJ8_indexOfLatin1 20 = .ok (.invokestatic 48, 3) := dk_184 0 48 (dk_at dksJ8_indexOfLatin1_0 20 rfl rfl)
theorem dJ8_indexOfLatin1_23 : decode cJ8_indexOfLatin1 23 = .ok (.aload_n 1, 1) := dk_43 (dk_at dksJ8_indexOfLatin1_0 23 rfl rfl)
theorem dJ8_indexOfLatin1_24 : decode cJ8_indexOfLatin1 24 = .ok (.aload_n 1, 1) := dk_43 (dk_at dksJ8_indexOfLatin1_1 0 rfl rfl)
theorem dJ8_indexOfLatin1_25 : decode cJ8_indexOfLatin1 25 = .ok (.arraylength, 1) := dk_190 (dk_at dksJ8_indexOfLatin1_1 1 rfl rfl)
theorem dJ8_indexOfLatin1_26 : decode cJ8_indexOfLatin1 26 = .ok (.iconst 0, 1) := dk_3 (dk_at dksJ8_indexOfLatin1_1 2 rfl rfl)
theorem dJ8_indexOfLatin1_27 : decode cJ8_indexOfLatin1 27 = .ok (.invokestatic 238, 3) := dk_184 0 238 (dk_at dksJ8_indexOfLatin1_1 3 rfl rfl)
theorem dJ8_indexOfLatin1_30 : decode cJ8_indexOfLatin1 30 = .ok (.ireturn, 1) := dk_172 (dk_at dksJ8_indexOfLatin1_1 6 rfl rfl)
abbrev cJ8_indexOfLatin1Unsafe : ByteArray := prog_52_method_46_code
def dkwJ8_indexOfLatin1Unsafe_9 : List UInt8 := [167, 255, 144, 2, 172]
abbrev dktJ8_indexOfLatin1Unsafe_9 : List UInt8 := dkwJ8_indexOfLatin1Unsafe_9 ++ []
def dkwJ8_indexOfLatin1Unsafe_8 : List UInt8 := [132, 8, 1, 132, 10, 1, 167, 255, 226, 21, 8, 21, 9, 160, 0, 6, 21, 7, 172, 132, 7, 1]
abbrev dktJ8_indexOfLatin1Unsafe_8 : List UInt8 := dkwJ8_indexOfLatin1Unsafe_8 ++ dktJ8_indexOfLatin1Unsafe_9
def dkwJ8_indexOfLatin1Unsafe_7 : List UInt8 := [21, 8, 21, 9, 162, 0, 29, 42, 21, 8, 184, 0, 71, 44, 21, 10, 51, 17, 0, 255, 126, 160, 0, 12]
abbrev dktJ8_indexOfLatin1Unsafe_7 : List UInt8 := dkwJ8_indexOfLatin1Unsafe_7 ++ dktJ8_indexOfLatin1Unsafe_8
def dkwJ8_indexOfLatin1Unsafe_6 : List UInt8 := [21, 7, 21, 6, 163, 0, 63, 21, 7, 4, 96, 54, 8, 21, 8, 29, 96, 4, 100, 54, 9, 4, 54, 10]
abbrev dktJ8_indexOfLatin1Unsafe_6 : List UInt8 := dkwJ8_indexOfLatin1Unsafe_6 ++ dktJ8_indexOfLatin1Unsafe_7
def dkwJ8_indexOfLatin1Unsafe_5 : List UInt8 := [132, 7, 1, 21, 7, 21, 6, 163, 0, 17, 42, 21, 7, 184, 0, 71, 21, 5, 159, 0, 6, 167, 255, 235]
abbrev dktJ8_indexOfLatin1Unsafe_5 : List UInt8 := dkwJ8_indexOfLatin1Unsafe_5 ++ dktJ8_indexOfLatin1Unsafe_6
def dkwJ8_indexOfLatin1Unsafe_4 : List UInt8 := [21, 4, 54, 7, 21, 7, 21, 6, 163, 0, 111, 42, 21, 7, 184, 0, 71, 21, 5, 159, 0, 27]
abbrev dktJ8_indexOfLatin1Unsafe_4 : List UInt8 := dkwJ8_indexOfLatin1Unsafe_4 ++ dktJ8_indexOfLatin1Unsafe_5
def dkwJ8_indexOfLatin1Unsafe_3 : List UInt8 := [187, 0, 52, 89, 183, 0, 66, 191, 44, 3, 51, 17, 0, 255, 126, 146, 54, 5, 27, 29, 100, 54, 6]
abbrev dktJ8_indexOfLatin1Unsafe_3 : List UInt8 := dkwJ8_indexOfLatin1Unsafe_3 ++ dktJ8_indexOfLatin1Unsafe_4
def dkwJ8_indexOfLatin1Unsafe_2 : List UInt8 := [164, 0, 11, 187, 0, 52, 89, 183, 0, 66, 191, 178, 0, 44, 154, 0, 16, 27, 29, 162, 0, 11]
abbrev dktJ8_indexOfLatin1Unsafe_2 : List UInt8 := dkwJ8_indexOfLatin1Unsafe_2 ++ dktJ8_indexOfLatin1Unsafe_3
def dkwJ8_indexOfLatin1Unsafe_1 : List UInt8 := [154, 0, 15, 29, 157, 0, 11, 187, 0, 52, 89, 183, 0, 66, 191, 178, 0, 44, 154, 0, 17, 29, 44, 190]
abbrev dktJ8_indexOfLatin1Unsafe_1 : List UInt8 := dkwJ8_indexOfLatin1Unsafe_1 ++ dktJ8_indexOfLatin1Unsafe_2
def dkwJ8_indexOfLatin1Unsafe_0 : List UInt8 := [178, 0, 44, 154, 0, 16, 21, 4, 156, 0, 11, 187, 0, 52, 89, 183, 0, 66, 191, 178, 0, 44]
abbrev dktJ8_indexOfLatin1Unsafe_0 : List UInt8 := dkwJ8_indexOfLatin1Unsafe_0 ++ dktJ8_indexOfLatin1Unsafe_1
theorem dksJ8_indexOfLatin1Unsafe_0 : cJ8_indexOfLatin1Unsafe.data.toList.drop 0 = dktJ8_indexOfLatin1Unsafe_0 := by decide +kernel
theorem dksJ8_indexOfLatin1Unsafe_1 : cJ8_indexOfLatin1Unsafe.data.toList.drop 22 = dktJ8_indexOfLatin1Unsafe_1 := dk_seg dksJ8_indexOfLatin1Unsafe_0 22 rfl rfl
theorem dksJ8_indexOfLatin1Unsafe_2 : cJ8_indexOfLatin1Unsafe.data.toList.drop 46 = dktJ8_indexOfLatin1Unsafe_2 := dk_seg dksJ8_indexOfLatin1Unsafe_1 24 rfl rfl
theorem dksJ8_indexOfLatin1Unsafe_3 : cJ8_indexOfLatin1Unsafe.data.toList.drop 68 = dktJ8_indexOfLatin1Unsafe_3 := dk_seg dksJ8_indexOfLatin1Unsafe_2 22 rfl rfl
theorem dksJ8_indexOfLatin1Unsafe_4 : cJ8_indexOfLatin1Unsafe.data.toList.drop 91 = dktJ8_indexOfLatin1Unsafe_4 := dk_seg dksJ8_indexOfLatin1Unsafe_3 23 rfl rfl
theorem dksJ8_indexOfLatin1Unsafe_5 : cJ8_indexOfLatin1Unsafe.data.toList.drop 113 = dktJ8_indexOfLatin1Unsafe_5 := dk_seg dksJ8_indexOfLatin1Unsafe_4 22 rfl rfl
theorem dksJ8_indexOfLatin1Unsafe_6 : cJ8_indexOfLatin1Unsafe.data.toList.drop 137 = dktJ8_indexOfLatin1Unsafe_6 := dk_seg dksJ8_indexOfLatin1Unsafe_5 24 rfl rfl
theorem dksJ8_indexOfLatin1Unsafe_7 : cJ8_indexOfLatin1Unsafe.data.toList.drop 161 = dktJ8_indexOfLatin1Unsafe_7 := dk_seg dksJ8_indexOfLatin1Unsafe_6 24 rfl rfl
theorem dksJ8_indexOfLatin1Unsafe_8 : cJ8_indexOfLatin1Unsafe.data.toList.drop 185 = dktJ8_indexOfLatin1Unsafe_8 := dk_seg dksJ8_indexOfLatin1Unsafe_7 24 rfl rfl
theorem dksJ8_indexOfLatin1Unsafe_9 : cJ8_indexOfLatin1Unsafe.data.toList.drop 207 = dktJ8_indexOfLatin1Unsafe_9 := dk_seg dksJ8_indexOfLatin1Unsafe_8 22 rfl rfl
theorem dJ8_indexOfLatin1Unsafe_0 : decode cJ8_indexOfLatin1Unsafe 0 = .ok (.getstatic 44, 3) := dk_178 0 44 (dk_at dksJ8_indexOfLatin1Unsafe_0 0 rfl rfl)
theorem dJ8_indexOfLatin1Unsafe_3 : decode cJ8_indexOfLatin1Unsafe 3 = .ok (.ifCond .ne 16, 3) := dk_154 0 16 (dk_at dksJ8_indexOfLatin1Unsafe_0 3 rfl rfl)
theorem dJ8_indexOfLatin1Unsafe_6 : decode cJ8_indexOfLatin1Unsafe 6 = .ok (.iload 4, 2) := dk_21 4 (dk_at dksJ8_indexOfLatin1Unsafe_0 6 rfl rfl)
theorem dJ8_indexOfLatin1Unsafe_8 : decode cJ8_indexOfLatin1Unsafe 8 = .ok (.ifCond .ge 11, 3) := dk_156 0 11 (dk_at dksJ8_indexOfLatin1Unsafe_0 8 rfl rfl)
theorem dJ8_indexOfLatin1Unsafe_11 : decode cJ8_indexOfLatin1Unsafe 11 = .ok (.new 52, 3) := dk_187 0 52 (dk_at dksJ8_indexOfLatin1Unsafe_0 11 rfl rfl)
theorem dJ8_indexOfLatin1Unsafe_19 : decode cJ8_indexOfLatin1Unsafe 19 = .ok (.getstatic 44, 3) := dk_178 0 44 (dk_at dksJ8_indexOfLatin1Unsafe_0 19 rfl rfl)
theorem dJ8_indexOfLatin1Unsafe_22 : decode cJ8_indexOfLatin1Unsafe 22 = .ok (.ifCond .ne 15, 3) := dk_154 0 15 (dk_at dksJ8_indexOfLatin1Unsafe_1 0 rfl rfl)
theorem dJ8_indexOfLatin1Unsafe_25 : decode cJ8_indexOfLatin1Unsafe 25 = .ok (.iload_n 3, 1) := dk_29 (dk_at dksJ8_indexOfLatin1Unsafe_1 3 rfl rfl)
theorem dJ8_indexOfLatin1Unsafe_26 : decode cJ8_indexOfLatin1Unsafe 26 = .ok (.ifCond .gt 11, 3) := dk_157 0 11 (dk_at dksJ8_indexOfLatin1Unsafe_1 4 rfl rfl)
theorem dJ8_indexOfLatin1Unsafe_29 : decode cJ8_indexOfLatin1Unsafe 29 = .ok (.new 52, 3) := dk_187 0 52 (dk_at dksJ8_indexOfLatin1Unsafe_1 7 rfl rfl)
theorem dJ8_indexOfLatin1Unsafe_37 : decode cJ8_indexOfLatin1Unsafe 37 = .ok (.getstatic 44, 3) := dk_178 0 44 (dk_at dksJ8_indexOfLatin1Unsafe_1 15 rfl rfl)
theorem dJ8_indexOfLatin1Unsafe_40 : decode cJ8_indexOfLatin1Unsafe 40 = .ok (.ifCond .ne 17, 3) := dk_154 0 17 (dk_at dksJ8_indexOfLatin1Unsafe_1 18 rfl rfl)
theorem dJ8_indexOfLatin1Unsafe_43 : decode cJ8_indexOfLatin1Unsafe 43 = .ok (.iload_n 3, 1) := dk_29 (dk_at dksJ8_indexOfLatin1Unsafe_1 21 rfl rfl)
theorem dJ8_indexOfLatin1Unsafe_44 : decode cJ8_indexOfLatin1Unsafe 44 = .ok (.aload_n 2, 1) := dk_44 (dk_at dksJ8_indexOfLatin1Unsafe_1 22 rfl rfl)
theorem dJ8_indexOfLatin1Unsafe_45 : decode cJ8_indexOfLatin1Unsafe 45 = .ok (.arraylength, 1) := dk_190 (dk_at dksJ8_indexOfLatin1Unsafe_1 23 rfl rfl)
theorem dJ8_indexOfLatin1Unsafe_46 : decode cJ8_indexOfLatin1Unsafe 46 = .ok (.if_icmp .le 11, 3) := dk_164 0 11 (dk_at dksJ8_indexOfLatin1Unsafe_2 0 rfl rfl)
theorem dJ8_indexOfLatin1Unsafe_49 : decode cJ8_indexOfLatin1Unsafe 49 = .ok (.new 52, 3) := dk_187 0 52 (dk_at dksJ8_indexOfLatin1Unsafe_2 3 rfl rfl)
theorem dJ8_indexOfLatin1Unsafe_57 : decode cJ8_indexOfLatin1Unsafe 57 = .ok (.getstatic 44, 3) := dk_178 0 44 (dk_at dksJ8_indexOfLatin1Unsafe_2 11 rfl rfl)
theorem dJ8_indexOfLatin1Unsafe_60 : decode cJ8_indexOfLatin1Unsafe 60 = .ok (.ifCond .ne 16, 3) := dk_154 0 16 (dk_at dksJ8_indexOfLatin1Unsafe_2 14 rfl rfl)
theorem dJ8_indexOfLatin1Unsafe_63 : decode cJ8_indexOfLatin1Unsafe 63 = .ok (.iload_n 1, 1) := dk_27 (dk_at dksJ8_indexOfLatin1Unsafe_2 17 rfl rfl)
theorem dJ8_indexOfLatin1Unsafe_64 : decode cJ8_indexOfLatin1Unsafe 64 = .ok (.iload_n 3, 1) := dk_29 (dk_at dksJ8_indexOfLatin1Unsafe_2 18 rfl rfl)
theorem dJ8_indexOfLatin1Unsafe_65 : decode cJ8_indexOfLatin1Unsafe 65 = .ok (.if_icmp .ge 11, 3) := dk_162 0 11 (dk_at dksJ8_indexOfLatin1Unsafe_2 19 rfl rfl)
theorem dJ8_indexOfLatin1Unsafe_68 : decode cJ8_indexOfLatin1Unsafe 68 = .ok (.new 52, 3) := dk_187 0 52 (dk_at dksJ8_indexOfLatin1Unsafe_3 0 rfl rfl)
theorem dJ8_indexOfLatin1Unsafe_76 : decode cJ8_indexOfLatin1Unsafe 76 = .ok (.aload_n 2, 1) := dk_44 (dk_at dksJ8_indexOfLatin1Unsafe_3 8 rfl rfl)
theorem dJ8_indexOfLatin1Unsafe_77 : decode cJ8_indexOfLatin1Unsafe 77 = .ok (.iconst 0, 1) := dk_3 (dk_at dksJ8_indexOfLatin1Unsafe_3 9 rfl rfl)
theorem dJ8_indexOfLatin1Unsafe_78 : decode cJ8_indexOfLatin1Unsafe 78 = .ok (.baload, 1) := dk_51 (dk_at dksJ8_indexOfLatin1Unsafe_3 10 rfl rfl)
theorem dJ8_indexOfLatin1Unsafe_79 : decode cJ8_indexOfLatin1Unsafe 79 = .ok (.sipush 255, 3) := dk_17 0 255 (dk_at dksJ8_indexOfLatin1Unsafe_3 11 rfl rfl)
theorem dJ8_indexOfLatin1Unsafe_82 : decode cJ8_indexOfLatin1Unsafe 82 = .ok (.iand, 1) := dk_126 (dk_at dksJ8_indexOfLatin1Unsafe_3 14 rfl rfl)
theorem dJ8_indexOfLatin1Unsafe_83 : decode cJ8_indexOfLatin1Unsafe 83 = .ok (.i2c, 1) := dk_146 (dk_at dksJ8_indexOfLatin1Unsafe_3 15 rfl rfl)
theorem dJ8_indexOfLatin1Unsafe_84 : decode cJ8_indexOfLatin1Unsafe 84 = .ok (.istore 5, 2) := dk_54 5 (dk_at dksJ8_indexOfLatin1Unsafe_3 16 rfl rfl)
theorem dJ8_indexOfLatin1Unsafe_86 : decode cJ8_indexOfLatin1Unsafe 86 = .ok (.iload_n 1, 1) := dk_27 (dk_at dksJ8_indexOfLatin1Unsafe_3 18 rfl rfl)
theorem dJ8_indexOfLatin1Unsafe_87 : decode cJ8_indexOfLatin1Unsafe 87 = .ok (.iload_n 3, 1) := dk_29 (dk_at dksJ8_indexOfLatin1Unsafe_3 19 rfl rfl)
theorem dJ8_indexOfLatin1Unsafe_88 : decode cJ8_indexOfLatin1Unsafe 88 = .ok (.isub, 1) := dk_100 (dk_at dksJ8_indexOfLatin1Unsafe_3 20 rfl rfl)
theorem dJ8_indexOfLatin1Unsafe_89 : decode cJ8_indexOfLatin1Unsafe 89 = .ok (.istore 6, 2) := dk_54 6 (dk_at dksJ8_indexOfLatin1Unsafe_3 21 rfl rfl)
theorem dJ8_indexOfLatin1Unsafe_91 : decode cJ8_indexOfLatin1Unsafe 91 = .ok (.iload 4, 2) := dk_21 4 (dk_at dksJ8_indexOfLatin1Unsafe_4 0 rfl rfl)
theorem dJ8_indexOfLatin1Unsafe_93 : decode cJ8_indexOfLatin1Unsafe 93 = .ok (.istore 7, 2) := dk_54 7 (dk_at dksJ8_indexOfLatin1Unsafe_4 2 rfl rfl)
theorem dJ8_indexOfLatin1Unsafe_95 : decode cJ8_indexOfLatin1Unsafe 95 = .ok (.iload 7, 2) := dk_21 7 (dk_at dksJ8_indexOfLatin1Unsafe_4 4 rfl rfl)
theorem dJ8_indexOfLatin1Unsafe_97 : decode cJ8_indexOfLatin1Unsafe 97 = .ok (.iload 6, 2) := dk_21 6 (dk_at dksJ8_indexOfLatin1Unsafe_4 6 rfl rfl)
theorem dJ8_indexOfLatin1Unsafe_99 : decode cJ8_indexOfLatin1Unsafe 99 = .ok (.if_icmp .gt 111, 3) := dk_163 0 111 (dk_at dksJ8_indexOfLatin1Unsafe_4 8 rfl rfl)
theorem dJ8_indexOfLatin1Unsafe_102 : decode cJ8_indexOfLatin1Unsafe 102 = .ok (.aload_n 0, 1) := dk_42 (dk_at dksJ8_indexOfLatin1Unsafe_4 11 rfl rfl)
theorem dJ8_indexOfLatin1Unsafe_103 : decode cJ8_indexOfLatin1Unsafe 103 = .ok (.iload 7, 2) := dk_21 7 (dk_at dksJ8_indexOfLatin1Unsafe_4 12 rfl rfl)
theorem dJ8_indexOfLatin1Unsafe_105 : decode cJ8_indexOfLatin1Unsafe 105 = .ok (.invokestatic 71, 3) := dk_184 0 71 (dk_at dksJ8_indexOfLatin1Unsafe_4 14 rfl rfl)
theorem dJ8_indexOfLatin1Unsafe_108 : decode cJ8_indexOfLatin1Unsafe 108 = .ok (.iload 5, 2) := dk_21 5 (dk_at dksJ8_indexOfLatin1Unsafe_4 17 rfl rfl)
theorem dJ8_indexOfLatin1Unsafe_110 : decode cJ8_indexOfLatin1Unsafe 110 = .ok (.if_icmp .eq 27, 3) := dk_159 0 27 (dk_at dksJ8_indexOfLatin1Unsafe_4 19 rfl rfl)
theorem dJ8_indexOfLatin1Unsafe_113 : decode cJ8_indexOfLatin1Unsafe 113 = .ok (.iinc 7 1, 3) := dk_132 7 1 (dk_at dksJ8_indexOfLatin1Unsafe_5 0 rfl rfl)
theorem dJ8_indexOfLatin1Unsafe_116 : decode cJ8_indexOfLatin1Unsafe 116 = .ok (.iload 7, 2) := dk_21 7 (dk_at dksJ8_indexOfLatin1Unsafe_5 3 rfl rfl)
theorem dJ8_indexOfLatin1Unsafe_118 : decode cJ8_indexOfLatin1Unsafe 118 = .ok (.iload 6, 2) := dk_21 6 (dk_at dksJ8_indexOfLatin1Unsafe_5 5 rfl rfl)
theorem dJ8_indexOfLatin1Unsafe_120 : decode cJ8_indexOfLatin1Unsafe 120 = .ok (.if_icmp .gt 17, 3) := dk_163 0 17 (dk_at dksJ8_indexOfLatin1Unsafe_5 7 rfl rfl)
theorem dJ8_indexOfLatin1Unsafe_123 : decode cJ8_indexOfLatin1Unsafe 123 = .ok (.aload_n 0, 1) := dk_42 (dk_at dksJ8_indexOfLatin1Unsafe_5 10 rfl rfl)
theorem dJ8_indexOfLatin1Unsafe_124 : decode cJ8_indexOfLatin1Unsafe 124 = .ok (.iload 7, 2) := dk_21 7 (dk_at dksJ8_indexOfLatin1Unsafe_5 11 rfl rfl)
theorem dJ8_indexOfLatin1Unsafe_126 : decode cJ8_indexOfLatin1Unsafe 126 = .ok (.invokestatic 71, 3) := dk_184 0 71 (dk_at dksJ8_indexOfLatin1Unsafe_5 13 rfl rfl)
theorem dJ8_indexOfLatin1Unsafe_129 : decode cJ8_indexOfLatin1Unsafe 129 = .ok (.iload 5, 2) := dk_21 5 (dk_at dksJ8_indexOfLatin1Unsafe_5 16 rfl rfl)
theorem dJ8_indexOfLatin1Unsafe_131 : decode cJ8_indexOfLatin1Unsafe 131 = .ok (.if_icmp .eq 6, 3) := dk_159 0 6 (dk_at dksJ8_indexOfLatin1Unsafe_5 18 rfl rfl)
theorem dJ8_indexOfLatin1Unsafe_134 : decode cJ8_indexOfLatin1Unsafe 134 = .ok (.goto (-21), 3) := dk_167 255 235 (dk_at dksJ8_indexOfLatin1Unsafe_5 21 rfl rfl)
theorem dJ8_indexOfLatin1Unsafe_137 : decode cJ8_indexOfLatin1Unsafe 137 = .ok (.iload 7, 2) := dk_21 7 (dk_at dksJ8_indexOfLatin1Unsafe_6 0 rfl rfl)
theorem dJ8_indexOfLatin1Unsafe_139 : decode cJ8_indexOfLatin1Unsafe 139 = .ok (.iload 6, 2) := dk_21 6 (dk_at dksJ8_indexOfLatin1Unsafe_6 2 rfl rfl)
theorem dJ8_indexOfLatin1Unsafe_141 : decode cJ8_indexOfLatin1Unsafe 141 = .ok (.if_icmp .gt 63, 3) := dk_163 0 63 (dk_at dksJ8_indexOfLatin1Unsafe_6 4 rfl rfl)
theorem dJ8_indexOfLatin1Unsafe_144 : decode cJ8_indexOfLatin1Unsafe 144 = .ok (.iload 7, 2) := dk_21 7 (dk_at dksJ8_indexOfLatin1Unsafe_6 7 rfl rfl)
theorem dJ8_indexOfLatin1Unsafe_146 : decode cJ8_indexOfLatin1Unsafe 146 = .ok (.iconst 1, 1) := dk_4 (dk_at dksJ8_indexOfLatin1Unsafe_6 9 rfl rfl)
theorem dJ8_indexOfLatin1Unsafe_147 : decode cJ8_indexOfLatin1Unsafe 147 = .ok (.iadd, 1) := dk_96 (dk_at dksJ8_indexOfLatin1Unsafe_6 10 rfl rfl)
theorem dJ8_indexOfLatin1Unsafe_148 : decode cJ8_indexOfLatin1Unsafe 148 = .ok (.istore 8, 2) := dk_54 8 (dk_at dksJ8_indexOfLatin1Unsafe_6 11 rfl rfl)
theorem dJ8_indexOfLatin1Unsafe_150 : decode cJ8_indexOfLatin1Unsafe 150 = .ok (.iload 8, 2) := dk_21 8 (dk_at dksJ8_indexOfLatin1Unsafe_6 13 rfl rfl)
theorem dJ8_indexOfLatin1Unsafe_152 : decode cJ8_indexOfLatin1Unsafe 152 = .ok (.iload_n 3, 1) := dk_29 (dk_at dksJ8_indexOfLatin1Unsafe_6 15 rfl rfl)
theorem dJ8_indexOfLatin1Unsafe_153 : decode cJ8_indexOfLatin1Unsafe 153 = .ok (.iadd, 1) := dk_96 (dk_at dksJ8_indexOfLatin1Unsafe_6 16 rfl rfl)
theorem dJ8_indexOfLatin1Unsafe_154 : decode cJ8_indexOfLatin1Unsafe 154 = .ok (.iconst 1, 1) := dk_4 (dk_at dksJ8_indexOfLatin1Unsafe_6 17 rfl rfl)
theorem dJ8_indexOfLatin1Unsafe_155 : decode cJ8_indexOfLatin1Unsafe 155 = .ok (.isub, 1) := dk_100 (dk_at dksJ8_indexOfLatin1Unsafe_6 18 rfl rfl)
theorem dJ8_indexOfLatin1Unsafe_156 : decode cJ8_indexOfLatin1Unsafe 156 = .ok (.istore 9, 2) := dk_54 9 (dk_at dksJ8_indexOfLatin1Unsafe_6 19 rfl rfl)
theorem dJ8_indexOfLatin1Unsafe_158 : decode cJ8_indexOfLatin1Unsafe 158 = .ok (.iconst 1, 1) := dk_4 (dk_at dksJ8_indexOfLatin1Unsafe_6 21 rfl rfl)
theorem dJ8_indexOfLatin1Unsafe_159 : decode cJ8_indexOfLatin1Unsafe 159 = .ok (.istore 10, 2) := dk_54 10 (dk_at dksJ8_indexOfLatin1Unsafe_6 22 rfl rfl)
theorem dJ8_indexOfLatin1Unsafe_161 : decode cJ8_indexOfLatin1Unsafe 161 = .ok (.iload 8, 2) := dk_21 8 (dk_at dksJ8_indexOfLatin1Unsafe_7 0 rfl rfl)
theorem dJ8_indexOfLatin1Unsafe_163 : decode cJ8_indexOfLatin1Unsafe 163 = .ok (.iload 9, 2) := dk_21 9 (dk_at dksJ8_indexOfLatin1Unsafe_7 2 rfl rfl)
theorem dJ8_indexOfLatin1Unsafe_165 : decode cJ8_indexOfLatin1Unsafe 165 = .ok (.if_icmp .ge 29, 3) := dk_162 0 29 (dk_at dksJ8_indexOfLatin1Unsafe_7 4 rfl rfl)
theorem dJ8_indexOfLatin1Unsafe_168 : decode cJ8_indexOfLatin1Unsafe 168 = .ok (.aload_n 0, 1) := dk_42 (dk_at dksJ8_indexOfLatin1Unsafe_7 7 rfl rfl)
theorem dJ8_indexOfLatin1Unsafe_169 : decode cJ8_indexOfLatin1Unsafe 169 = .ok (.iload 8, 2) := dk_21 8 (dk_at dksJ8_indexOfLatin1Unsafe_7 8 rfl rfl)
theorem dJ8_indexOfLatin1Unsafe_171 : decode cJ8_indexOfLatin1Unsafe 171 = .ok (.invokestatic 71, 3) := dk_184 0 71 (dk_at dksJ8_indexOfLatin1Unsafe_7 10 rfl rfl)
theorem dJ8_indexOfLatin1Unsafe_174 : decode cJ8_indexOfLatin1Unsafe 174 = .ok (.aload_n 2, 1) := dk_44 (dk_at dksJ8_indexOfLatin1Unsafe_7 13 rfl rfl)
theorem dJ8_indexOfLatin1Unsafe_175 : decode cJ8_indexOfLatin1Unsafe 175 = .ok (.iload 10, 2) := dk_21 10 (dk_at dksJ8_indexOfLatin1Unsafe_7 14 rfl rfl)
theorem dJ8_indexOfLatin1Unsafe_177 : decode cJ8_indexOfLatin1Unsafe 177 = .ok (.baload, 1) := dk_51 (dk_at dksJ8_indexOfLatin1Unsafe_7 16 rfl rfl)
theorem dJ8_indexOfLatin1Unsafe_178 : decode cJ8_indexOfLatin1Unsafe 178 = .ok (.sipush 255, 3) := dk_17 0 255 (dk_at dksJ8_indexOfLatin1Unsafe_7 17 rfl rfl)
theorem dJ8_indexOfLatin1Unsafe_181 : decode cJ8_indexOfLatin1Unsafe 181 = .ok (.iand, 1) := dk_126 (dk_at dksJ8_indexOfLatin1Unsafe_7 20 rfl rfl)
theorem dJ8_indexOfLatin1Unsafe_182 : decode cJ8_indexOfLatin1Unsafe 182 = .ok (.if_icmp .ne 12, 3) := dk_160 0 12 (dk_at dksJ8_indexOfLatin1Unsafe_7 21 rfl rfl)
theorem dJ8_indexOfLatin1Unsafe_185 : decode cJ8_indexOfLatin1Unsafe 185 = .ok (.iinc 8 1, 3) := dk_132 8 1 (dk_at dksJ8_indexOfLatin1Unsafe_8 0 rfl rfl)
theorem dJ8_indexOfLatin1Unsafe_188 : decode cJ8_indexOfLatin1Unsafe 188 = .ok (.iinc 10 1, 3) := dk_132 10 1 (dk_at dksJ8_indexOfLatin1Unsafe_8 3 rfl rfl)
theorem dJ8_indexOfLatin1Unsafe_191 : decode cJ8_indexOfLatin1Unsafe 191 = .ok (.goto (-30), 3) := dk_167 255 226 (dk_at dksJ8_indexOfLatin1Unsafe_8 6 rfl rfl)
theorem dJ8_indexOfLatin1Unsafe_194 : decode cJ8_indexOfLatin1Unsafe 194 = .ok (.iload 8, 2) := dk_21 8 (dk_at dksJ8_indexOfLatin1Unsafe_8 9 rfl rfl)
theorem dJ8_indexOfLatin1Unsafe_196 : decode cJ8_indexOfLatin1Unsafe 196 = .ok (.iload 9, 2) := dk_21 9 (dk_at dksJ8_indexOfLatin1Unsafe_8 11 rfl rfl)
theorem dJ8_indexOfLatin1Unsafe_198 : decode cJ8_indexOfLatin1Unsafe 198 = .ok (.if_icmp .ne 6, 3) := dk_160 0 6 (dk_at dksJ8_indexOfLatin1Unsafe_8 13 rfl rfl)
theorem dJ8_indexOfLatin1Unsafe_201 : decode cJ8_indexOfLatin1Unsafe 201 = .ok (.iload 7, 2) := dk_21 7 (dk_at dksJ8_indexOfLatin1Unsafe_8 16 rfl rfl)
theorem dJ8_indexOfLatin1Unsafe_203 : decode cJ8_indexOfLatin1Unsafe 203 = .ok (.ireturn, 1) := dk_172 (dk_at dksJ8_indexOfLatin1Unsafe_8 18 rfl rfl)
theorem dJ8_indexOfLatin1Unsafe_204 : decode cJ8_indexOfLatin1Unsafe 204 = .ok (.iinc 7 1, 3) := dk_132 7 1 (dk_at dksJ8_indexOfLatin1Unsafe_8 19 rfl rfl)
theorem dJ8_indexOfLatin1Unsafe_207 : decode cJ8_indexOfLatin1Unsafe 207 = .ok (.goto (-112), 3) := dk_167 255 144 (dk_at dksJ8_indexOfLatin1Unsafe_9 0 rfl rfl)
theorem dJ8_indexOfLatin1Unsafe_210 : decode cJ8_indexOfLatin1Unsafe 210 = .ok (.iconst (-1), 1) := dk_2 (dk_at dksJ8_indexOfLatin1Unsafe_9 3 rfl rfl)
theorem dJ8_indexOfLatin1Unsafe_211 : decode cJ8_indexOfLatin1Unsafe 211 = .ok (.ireturn, 1) := dk_172 (dk_at dksJ8_indexOfLatin1Unsafe_9 4 rfl rfl)
abbrev cJ8_indexOf_2 : ByteArray := prog_52_method_40_code
def dkwJ8_indexOf_2_1 : List UInt8 := [18, 227, 162, 0, 11, 42, 27, 28, 29, 184, 0, 228, 172, 42, 27, 28, 29, 184, 0, 232, 172]
abbrev dktJ8_indexOf_2_1 : List UInt8 := dkwJ8_indexOf_2_1 ++ []
def dkwJ8_indexOf_2_0 : List UInt8 := [28, 3, 184, 0, 224, 61, 29, 42, 190, 4, 122, 184, 0, 183, 62, 28, 29, 161, 0, 5, 2, 172, 27]
abbrev dktJ8_indexOf_2_0 : List UInt8 := dkwJ8_indexOf_2_0 ++ dktJ8_indexOf_2_1
theorem dksJ8_indexOf_2_0 : cJ8_indexOf_2.data.toList.drop 0 = dktJ8_indexOf_2_0 := by decide +kernel
theorem dksJ8_indexOf_2_1 : cJ8_indexOf_2.data.toList.drop 23 = dktJ8_indexOf_2_1 := dk_seg dksJ8_indexOf_2_0 23 rfl rfl
theorem dJ8_indexOf_2_0 : decode cJ8_indexOf_2 0 = .ok (.iload_n 2, 1) := dk_28 (dk_at dksJ8_indexOf_2_0 0 rfl rfl)
theorem dJ8_indexOf_2_1 : decode cJ8_indexOf_2 1 = .ok (.iconst 0, 1) := dk_3 (dk_at dksJ8_indexOf_2_0 1 rfl rfl)
theorem dJ8_indexOf_2_2 : decode cJ8_indexOf_2 2 = .ok (.invokestatic 224, 3) := dk_184 0 224 (dk_at dksJ8_indexOf_2_0 2 rfl rfl)
theorem dJ8_indexOf_2_5 : decode cJ8_indexOf_2 5 = .ok (.istore_n 2, 1) := dk_61 (dk_at dksJ8_indexOf_2_0 5 rfl rfl)
theorem dJ8_indexOf_2_6 : decode cJ8_indexOf_2 6 = .ok (.iload_n 3, 1) := dk_29 (dk_at dksJ8_indexOf_2_0 6 rfl rfl)
theorem dJ8_indexOf_2_7 : decode cJ8_indexOf_2 7 = .ok (.aload_n 0, 1) := dk_42 (dk_at dksJ8_indexOf_2_0 7 rfl rfl)
theorem dJ8_indexOf_2_8 : decode cJ8_indexOf_2 8 = .ok (.arraylength, 1) := dk_190 (dk_at dksJ8_indexOf_2_0 8 rfl rfl)
theorem dJ8_indexOf_2_9 : decode cJ8_indexOf_2 9 = .ok (.iconst 1, 1) := dk_4 (dk_at dksJ8_indexOf_2_0 9 rfl rfl)
theorem dJ8_indexOf_2_10 : decode cJ8_indexOf_2 10 = .ok (.ishr, 1) := dk_122 (dk_at dksJ8_indexOf_2_0 10 rfl rfl)
theorem dJ8_indexOf_2_11 : decode cJ8_indexOf_2 11 = .ok (.invokestatic 183, 3) := dk_184 0 183 (dk_at dksJ8_indexOf_2_0 11 rfl rfl)
theorem dJ8_indexOf_2_14 : decode cJ8_indexOf_2 14 = .ok (.istore_n 3, 1) := dk_62 (dk_at dksJ8_indexOf_2_0 14 rfl rfl)
theorem dJ8_indexOf_2_15 : decode cJ8_indexOf_2 15 = .ok (.iload_n 2, 1) := dk_28 (dk_at dksJ8_indexOf_2_0 15 rfl rfl)
theorem dJ8_indexOf_2_16 : decode cJ8_indexOf_2 16 = .ok (.iload_n 3, 1) := dk_29 (dk_at dksJ8_indexOf_2_0 16 rfl rfl)
theorem dJ8_indexOf_2_17 : decode cJ8_indexOf_2 17 = .ok (.if_icmp .lt 5, 3) := dk_161 0 5 (dk_at dksJ8_indexOf_2_0 17 rfl rfl)
theorem dJ8_indexOf_2_20 : decode cJ8_indexOf_2 20 = .ok (.iconst (-1), 1) := dk_2 (dk_at dksJ8_indexOf_2_0 20 rfl rfl)
theorem dJ8_indexOf_2_21 : decode cJ8_indexOf_2 21 = .ok (.ireturn, 1) := dk_172 (dk_at dksJ8_indexOf_2_0 21 rfl rfl)
theorem dJ8_indexOf_2_22 : decode cJ8_indexOf_2 22 = .ok (.iload_n 1, 1) := dk_27 (dk_at dksJ8_indexOf_2_0 22 rfl rfl)
theorem dJ8_indexOf_2_23 : decode cJ8_indexOf_2 23 = .ok (.ldc 227, 2) := dk_18 227 (dk_at dksJ8_indexOf_2_1 0 rfl rfl)
theorem dJ8_indexOf_2_25 : decode cJ8_indexOf_2 25 = .ok (.if_icmp .ge 11, 3) := dk_162 0 11 (dk_at dksJ8_indexOf_2_1 2 rfl rfl)
theorem dJ8_indexOf_2_28 : decode cJ8_indexOf_2 28 = .ok (.aload_n 0, 1) := dk_42 (dk_at dksJ8_indexOf_2_1 5 rfl rfl)
theorem dJ8_indexOf_2_29 : decode cJ8_indexOf_2 29 = .ok (.iload_n 1, 1) := dk_27 (dk_at dksJ8_indexOf_2_1 6 rfl rfl)
theorem dJ8_indexOf_2_30 : decode cJ8_indexOf_2 30 = .ok (.iload_n 2, 1) := dk_28 (dk_at dksJ8_indexOf_2_1 7 rfl rfl)
theorem dJ8_indexOf_2_31 : decode cJ8_indexOf_2 31 = .ok (.iload_n 3, 1) := dk_29 (dk_at dksJ8_indexOf_2_1 8 rfl rfl)
theorem dJ8_indexOf_2_32 : decode cJ8_indexOf_2 32 = .ok (.invokestatic 228, 3) := dk_184 0 228 (dk_at dksJ8_indexOf_2_1 9 rfl rfl)
theorem dJ8_indexOf_2_35 : decode cJ8_indexOf_2 35 = .ok (.ireturn, 1) := dk_172 (dk_at dksJ8_indexOf_2_1 12 rfl rfl)
theorem dJ8_indexOf_2_36 : decode cJ8_indexOf_2 36 = .ok (.aload_n 0, 1) := dk_42 (dk_at dksJ8_indexOf_2_1 13 rfl rfl)
theorem dJ8_indexOf_2_37 : decode cJ8_indexOf_2 37 = .ok (.iload_n 1, 1) := dk_27 (dk_at dksJ8_indexOf_2_1 14 rfl rfl)
theorem dJ8_indexOf_2_38 : decode cJ8_indexOf_2 38 = .ok (.iload_n 2, 1) := dk_28 (dk_at dksJ8_indexOf_2_1 15 rfl rfl)
theorem dJ8_indexOf_2_39 : decode cJ8_indexOf_2 39 = .ok (.iload_n 3, 1) := dk_29 (dk_at dksJ8_indexOf_2_1 16 rfl rfl)
theorem dJ8_indexOf_2_40 : decode cJ8_indexOf_2 40 = .ok (.invokestatic 232, 3) := dk_184 0 232 (dk_at dksJ8_indexOf_2_1 17 rfl rfl)
theorem dJ8_indexOf_2_43 : decode cJ8_indexOf_2 43 = .ok (.ireturn, 1) := dk_172 (dk_at dksJ8_indexOf_2_1 20 rfl rfl)
abbrev cJ8_indexOfChar : ByteArray := prog_52_method_47_code
def dkwJ8_indexOfChar_0 : List UInt8 := [28, 29, 42, 184, 0, 96, 42, 27, 28, 29, 184, 0, 244, 172]
abbrev dktJ8_indexOfChar_0 : List UInt8 := dkwJ8_indexOfChar_0 ++ []
theorem dksJ8_indexOfChar_0 : cJ8_indexOfChar.data.toList.drop 0 = dktJ8_indexOfChar_0 := by decide +kernel
theorem dJ8_indexOfChar_0 : decode cJ8_indexOfChar 0 = .ok (.iload_n 2, 1) := dk_28 (dk_at dksJ8_indexOfChar_0 0 rfl rfl)
theorem dJ8_indexOfChar_1 : decode cJ8_indexOfChar 1 = .ok (.iload_n 3, 1) := dk_29 (dk_at dksJ8_indexOfChar_0 1 rfl rfl)
theorem dJ8_indexOfChar_2 : decode cJ8_indexOfChar 2 = .ok (.aload_n 0, 1) := dk_42 (dk_at dksJ8_indexOfChar_0 2 rfl rfl)
theorem dJ8_indexOfChar_3 : decode cJ8_indexOfChar 3 = .ok (.invokestatic 96, 3) := dk_184 0 96 (dk_at dksJ8_indexOfChar_0 3 rfl rfl)
theorem dJ8_indexOfChar_6 : decode cJ8_indexOfChar 6 = .ok (.aload_n 0, 1) := dk_42 (dk_at dksJ8_indexOfChar_0 6 rfl rfl)
theorem dJ8_indexOfChar_7 : decode cJ8_indexOfChar 7 = .ok (.iload_n 1, 1) := dk_27 (dk_at dksJ8_indexOfChar_0 7 rfl rfl)
theorem dJ8_indexOfChar_8 : decode cJ8_indexOfChar 8 = .ok (.iload_n 2, 1) := dk_28 (dk_at dksJ8_indexOfChar_0 8 rfl rfl)
theorem dJ8_indexOfChar_9 : decode cJ8_indexOfChar 9 = .ok (.iload_n 3, 1) := dk_29 (dk_at dksJ8_indexOfChar_0 9 rfl rfl)
theorem dJ8_indexOfChar_10 : decode cJ8_indexOfChar 10 = .ok (.invokestatic 244, 3) := dk_184 0 244 (dk_at dksJ8_indexOfChar_0 10 rfl rfl)
theorem dJ8_indexOfChar_13 : decode cJ8_indexOfChar 13 = .ok (.ireturn, 1) := dk_172 (dk_at dksJ8_indexOfChar_0 13 rfl rfl)
abbrev cJ8_indexOfCharUnsafe : ByteArray := prog_52_method_48_code
def dkwJ8_indexOfCharUnsafe_1 : List UInt8 := [132, 4, 1, 167, 255, 234, 2, 172]
abbrev dktJ8_indexOfCharUnsafe_1 : List UInt8 := dkwJ8_indexOfCharUnsafe_1 ++ []
def dkwJ8_indexOfCharUnsafe_0 : List UInt8 := [28, 54, 4, 21, 4, 29, 162, 0, 22, 42, 21, 4, 184, 0, 71, 27, 160, 0, 6, 21, 4, 172]
abbrev dktJ8_indexOfCharUnsafe_0 : List UInt8 := dkwJ8_indexOfCharUnsafe_0 ++ dktJ8_indexOfCharUnsafe_1
theorem dksJ8_indexOfCharUnsafe_0 : cJ8_indexOfCharUnsafe.data.toList.drop 0 = dktJ8_indexOfCharUnsafe_0 := by decide +kernel
theorem dksJ8_indexOfCharUnsafe_1 : cJ8_indexOfCharUnsafe.data.toList.drop 22 = dktJ8_indexOfCharUnsafe_1 := dk_seg dksJ8_indexOfCharUnsafe_0 22 rfl rfl
theorem dJ8_indexOfCharUnsafe_0 : decode cJ8_indexOfCharUnsafe 0 = .ok (.iload_n 2, 1) := dk_28 (dk_at dksJ8_indexOfCharUnsafe_0 0 rfl rfl)
theorem dJ8_indexOfCharUnsafe_1 : decode cJ8_indexOfCharUnsafe 1 = .ok (.istore 4, 2) := dk_54 4 (dk_at dksJ8_indexOfCharUnsafe_0 1 rfl rfl)
theorem dJ8_indexOfCharUnsafe_3 : decode cJ8_indexOfCharUnsafe 3 = .ok (.iload 4, 2) := dk_21 4 (dk_at dksJ8_indexOfCharUnsafe_0 3 rfl rfl)
theorem dJ8_indexOfCharUnsafe_5 : decode cJ8_indexOfCharUnsafe 5 = .ok (.iload_n 3, 1) := dk_29 (dk_at dksJ8_indexOfCharUnsafe_0 5 rfl rfl)
theorem dJ8_indexOfCharUnsafe_6 : decode cJ8_indexOfCharUnsafe 6 = .ok (.if_icmp .ge 22, 3) := dk_162 0 22 (dk_at dksJ8_indexOfCharUnsafe_0 6 rfl rfl)
theorem dJ8_indexOfCharUnsafe_9 : decode cJ8_indexOfCharUnsafe 9 = .ok (.aload_n 0, 1) := dk_42 (dk_at dksJ8_indexOfCharUnsafe_0 9 rfl rfl)
theorem dJ8_indexOfCharUnsafe_10 : decode cJ8_indexOfCharUnsafe 10 = .ok (.iload 4, 2) := dk_21 4 (dk_at dksJ8_indexOfCharUnsafe_0 10 rfl rfl)
theorem dJ8_indexOfCharUnsafe_12 : decode cJ8_indexOfCharUnsafe 12 = .ok (.invokestatic 71, 3) := dk_184 0 71 (dk_at dksJ8_indexOfCharUnsafe_0 12 rfl rfl)
theorem dJ8_indexOfCharUnsafe_15 : decode cJ8_indexOfCharUnsafe 15 = .ok (.iload_n 1, 1) := dk_27 (dk_at dksJ8_indexOfCharUnsafe_0 15 rfl rfl)
theorem dJ8_indexOfCharUnsafe_16 : decode cJ8_indexOfCharUnsafe 16 = .ok (.if_icmp .ne 6, 3) := dk_160 0 6 (dk_at dksJ8_indexOfCharUnsafe_0 16 rfl rfl)
theorem dJ8_indexOfCharUnsafe_19 : decode cJ8_indexOfCharUnsafe 19 = .ok (.iload 4, 2) := dk_21 4 (dk_at dksJ8_indexOfCharUnsafe_0 19 rfl rfl)
theorem dJ8_indexOfCharUnsafe_21 : decode cJ8_indexOfCharUnsafe 21 = .ok (.ireturn, 1) := dk_172 (dk_at dksJ8_indexOfCharUnsafe_0 21 rfl rfl)
theorem dJ8_indexOfCharUnsafe_22 : decode cJ8_indexOfCharUnsafe 22 = .ok (.iinc 4 1, 3) := dk_132 4 1 (dk_at dksJ8_indexOfCharUnsafe_1 0 rfl rfl)
theorem dJ8_indexOfCharUnsafe_25 : decode cJ8_indexOfCharUnsafe 25 = .ok (.goto (-22), 3) := dk_167 255 234 (dk_at dksJ8_indexOfCharUnsafe_1 3 rfl rfl)
theorem dJ8_indexOfCharUnsafe_28 : decode cJ8_indexOfCharUnsafe 28 = .ok (.iconst (-1), 1) := dk_2 (dk_at dksJ8_indexOfCharUnsafe_1 6 rfl rfl)
theorem dJ8_indexOfCharUnsafe_29 : decode cJ8_indexOfCharUnsafe 29 = .ok (.ireturn, 1) := dk_172 (dk_at dksJ8_indexOfCharUnsafe_1 7 rfl rfl)
abbrev cJ8_indexOfSupplementary : ByteArray := prog_52_method_49_code
def dkwJ8_indexOfSupplementary_3 : List UInt8 := [167, 255, 218, 2, 172]
abbrev dktJ8_indexOfSupplementary_3 : List UInt8 := dkwJ8_indexOfSupplementary_3 ++ []
def dkwJ8_indexOfSupplementary_2 : List UInt8 := [160, 0, 19, 42, 21, 6, 4, 96, 184, 0, 71, 21, 5, 160, 0, 6, 21, 6, 172, 132, 6, 1]
abbrev dktJ8_indexOfSupplementary_2 : List UInt8 := dkwJ8_indexOfSupplementary_2 ++ dktJ8_indexOfSupplementary_3
def dkwJ8_indexOfSupplementary_1 : List UInt8 := [184, 0, 96, 28, 54, 6, 21, 6, 29, 4, 100, 162, 0, 36, 42, 21, 6, 184, 0, 71, 21, 4]
abbrev dktJ8_indexOfSupplementary_1 : List UInt8 := dkwJ8_indexOfSupplementary_1 ++ dktJ8_indexOfSupplementary_2
def dkwJ8_indexOfSupplementary_0 : List UInt8 := [27, 184, 0, 164, 153, 0, 65, 27, 184, 0, 157, 54, 4, 27, 184, 0, 161, 54, 5, 28, 29, 42]
abbrev dktJ8_indexOfSupplementary_0 : List UInt8 := dkwJ8_indexOfSupplementary_0 ++ dktJ8_indexOfSupplementary_1
theorem dksJ8_indexOfSupplementary_0 : cJ8_indexOfSupplementary.data.toList.drop 0 = dktJ8_indexOfSupplementary_0 := by decide +kernel
theorem dksJ8_indexOfSupplementary_1 : cJ8_indexOfSupplementary.data.toList.drop 22 = dktJ8_indexOfSupplementary_1 := dk_seg dksJ8_indexOfSupplementary_0 22 rfl rfl
theorem dksJ8_indexOfSupplementary_2 : cJ8_indexOfSupplementary.data.toList.drop 44 = dktJ8_indexOfSupplementary_2 := dk_seg dksJ8_indexOfSupplementary_1 22 rfl rfl
theorem dksJ8_indexOfSupplementary_3 : cJ8_indexOfSupplementary.data.toList.drop 66 = dktJ8_indexOfSupplementary_3 := dk_seg dksJ8_indexOfSupplementary_2 22 rfl rfl
theorem dJ8_indexOfSupplementary_0 : decode cJ8_indexOfSupplementary 0 = .ok (.iload_n 1, 1) := dk_27 (dk_at dksJ8_indexOfSupplementary_0 0 rfl rfl)
theorem dJ8_indexOfSupplementary_1 : decode cJ8_indexOfSupplementary 1 = .ok (.invokestatic 164, 3) := dk_184 0 164 (dk_at dksJ8_indexOfSupplementary_0 1 rfl rfl)
theorem dJ8_indexOfSupplementary_4 : decode cJ8_indexOfSupplementary 4 = .ok (.ifCond .eq 65, 3) := dk_153 0 65 (dk_at dksJ8_indexOfSupplementary_0 4 rfl rfl)
theorem dJ8_indexOfSupplementary_7 : decode cJ8_indexOfSupplementary 7 = .ok (.iload_n 1, 1) := dk_27 (dk_at dksJ8_indexOfSupplementary_0 7 rfl rfl)
theorem dJ8_indexOfSupplementary_8 : decode cJ8_indexOfSupplementary 8 = .ok (.invokestatic 157, 3) := dk_184 0 157 (dk_at dksJ8_indexOfSupplementary_0 8 rfl rfl)
theorem dJ8_indexOfSupplementary_11 : decode cJ8_indexOfSupplementary 11 = .ok (.istore 4, 2) := dk_54 4 (dk_at dksJ8_indexOfSupplementary_0 11 rfl rfl)
theorem dJ8_indexOfSupplementary_13 : decode cJ8_indexOfSupplementary 13 = .ok (.iload_n 1, 1) := dk_27 (dk_at dksJ8_indexOfSupplementary_0 13 rfl rfl)
theorem dJ8_indexOfSupplementary_14 : decode cJ8_indexOfSupplementary 14 = .ok (.invokestatic 161, 3) := dk_184 0 161 (dk_at dksJ8_indexOfSupplementary_0 14 rfl rfl)
theorem dJ8_indexOfSupplementary_17 : decode cJ8_indexOfSupplementary 17 = .ok (.istore 5, 2) := dk_54 5 (dk_at dksJ8_indexOfSupplementary_0 17 rfl rfl)
theorem dJ8_indexOfSupplementary_19 : decode cJ8_indexOfSupplementary 19 = .ok (.iload_n 2, 1) := dk_28 (dk_at dksJ8_indexOfSupplementary_0 19 rfl rfl)
theorem dJ8_indexOfSupplementary_20 : decode cJ8_indexOfSupplementary 20 = .ok (.iload_n 3, 1) := dk_29 (dk_at dksJ8_indexOfSupplementary_0 20 rfl rfl)
theorem dJ8_indexOfSupplementary_21 : decode cJ8_indexOfSupplementary 21 = .ok (.aload_n 0, 1) := dk_42 (dk_at dksJ8_indexOfSupplementary_0 21 rfl rfl)
theorem dJ8_indexOfSupplementary_22 : decode cJ8_indexOfSupplementary 22 = .ok (.invokestatic 96, 3) := dk_184 0 96 (dk_at dksJ8_indexOfSupplementary_1 0 rfl rfl)
theorem dJ8_indexOfSupplementary_25 : decode cJ8_indexOfSupplementary 25 = .ok (.iload_n 2, 1) := dk_28 (dk_at dksJ8_indexOfSupplementary_1 3 rfl rfl)
theorem dJ8_indexOfSupplementary_26 : decode cJ8_indexOfSupplementary 26 = .ok (.istore 6, 2) := dk_54 6 (dk_at dksJ8_indexOfSupplementary_1 4 rfl rfl)
theorem dJ8_indexOfSupplementary_28 : decode cJ8_indexOfSupplementary 28 = .ok (.iload 6, 2) := dk_21 6 (dk_at dksJ8_indexOfSupplementary_1 6 rfl rfl)
theorem dJ8_indexOfSupplementary_30 : decode cJ8_indexOfSupplementary 30 = .ok (.iload_n 3, 1) := dk_29 (dk_at dksJ8_indexOfSupplementary_1 8 rfl rfl)
theorem dJ8_indexOfSupplementary_31 : decode cJ8_indexOfSupplementary 31 = .ok (.iconst 1, 1) := dk_4 (dk_at dksJ8_indexOfSupplementary_1 9 rfl rfl)
theorem dJ8_indexOfSupplementary_32 : decode cJ8_indexOfSupplementary 32 = .ok (.isub, 1) := dk_100 (dk_at dksJ8_indexOfSupplementary_1 10 rfl rfl)
theorem dJ8_indexOfSupplementary_33 : decode cJ8_indexOfSupplementary 33 = .ok (.if_icmp .ge 36, 3) := dk_162 0 36 (dk_at dksJ8_indexOfSupplementary_1 11 rfl rfl)
theorem dJ8_indexOfSupplementary_36 : decode cJ8_indexOfSupplementary 36 = .ok (.aload_n 0, 1) := dk_42 (dk_at dksJ8_indexOfSupplementary_1 14 rfl rfl)
theorem dJ8_indexOfSupplementary_37 : decode cJ8_indexOfSupplementary 37 = .ok (.iload 6, 2) := dk_21 6 (dk_at dksJ8_indexOfSupplementary_1 15 rfl rfl)
theorem dJ8_indexOfSupplementary_39 : decode cJ8_indexOfSupplementary 39 = .ok (.invokestatic 71, 3) := dk_184 0 71 (dk_at dksJ8_indexOfSupplementary_1 17 rfl rfl)
theorem dJ8_indexOfSupplementary_42 : decode cJ8_indexOfSupplementary 42 = .ok (.iload 4, 2) := dk_21 4 (dk_at dksJ8_indexOfSupplementary_1 20 rfl rfl)
theorem dJ8_indexOfSupplementary_44 : decode cJ8_indexOfSupplementary 44 = .ok (.if_icmp .ne 19, 3) := dk_160 0 19 (dk_at dksJ8_indexOfSupplementary_2 0 rfl rfl)
theorem dJ8_indexOfSupplementary_47 : decode cJ8_indexOfSupplementary 47 = .ok (.aload_n 0, 1) := dk_42 (dk_at dksJ8_indexOfSupplementary_2 3 rfl rfl)
theorem dJ8_indexOfSupplementary_48 : decode cJ8_indexOfSupplementary 48 = .ok (.iload 6, 2) := dk_21 6 (dk_at dksJ8_indexOfSupplementary_2 4 rfl rfl)
theorem dJ8_indexOfSupplementary_50 : decode cJ8_indexOfSupplementary 50 = .ok (.iconst 1, 1) := dk_4 (dk_at dksJ8_indexOfSupplementary_2 6 rfl rfl)
theorem dJ8_indexOfSupplementary_51 : decode cJ8_indexOfSupplementary 51 = .ok (.iadd, 1) := dk_96 (dk_at dksJ8_indexOfSupplementary_2 7 rfl rfl)
theorem dJ8_indexOfSupplementary_52 : decode cJ8_indexOfSupplementary 52 = .ok (.invokestatic 71, 3) := dk_184 0 71 (dk_at dksJ8_indexOfSupplementary_2 8 rfl rfl)
theorem dJ8_indexOfSupplementary_55 : decode cJ8_indexOfSupplementary 55 = .ok (.iload 5, 2) := dk_21 5 (dk_at dksJ8_indexOfSupplementary_2 11 rfl rfl)
theorem dJ8_indexOfSupplementary_57 : decode cJ8_indexOfSupplementary 57 = .ok (.if_icmp .ne 6, 3) := dk_160 0 6 (dk_at dksJ8_indexOfSupplementary_2 13 rfl rfl)
theorem dJ8_indexOfSupplementary_60 : decode cJ8_indexOfSupplementary 60 = .ok (.iload 6, 2) := dk_21 6 (dk_at dksJ8_indexOfSupplementary_2 16 rfl rfl)
theorem dJ8_indexOfSupplementary_62 : decode cJ8_indexOfSupplementary 62 = .ok (.ireturn, 1) := dk_172 (dk_at dksJ8_indexOfSupplementary_2 18 rfl rfl)
theorem dJ8_indexOfSupplementary_63 : decode cJ8_indexOfSupplementary 63 = .ok (.iinc 6 1, 3) := dk_132 6 1 (dk_at dksJ8_indexOfSupplementary_2 19 rfl rfl)
theorem dJ8_indexOfSupplementary_66 : decode cJ8_indexOfSupplementary 66 = .ok (.goto (-38), 3) := dk_167 255 218 (dk_at dksJ8_indexOfSupplementary_3 0 rfl rfl)
theorem dJ8_indexOfSupplementary_69 : decode cJ8_indexOfSupplementary 69 = .ok (.iconst (-1), 1) := dk_2 (dk_at dksJ8_indexOfSupplementary_3 3 rfl rfl)
theorem dJ8_indexOfSupplementary_70 : decode cJ8_indexOfSupplementary 70 = .ok (.ireturn, 1) := dk_172 (dk_at dksJ8_indexOfSupplementary_3 4 rfl rfl)
abbrev cJ8_newString : ByteArray := prog_52_method_69_code
def dkwJ8_newString_2 : List UInt8 := [42, 27, 4, 120, 29, 4, 120, 184, 0, 126, 4, 183, 1, 7, 176]
abbrev dktJ8_newString_2 : List UInt8 := dkwJ8_newString_2 ++ []
def dkwJ8_newString_1 : List UInt8 := [184, 1, 3, 54, 4, 187, 0, 3, 89, 45, 21, 4, 183, 1, 7, 176, 27, 28, 96, 62, 187, 0, 3, 89]
abbrev dktJ8_newString_1 : List UInt8 := dkwJ8_newString_1 ++ dktJ8_newString_2
def dkwJ8_newString_0 : List UInt8 := [28, 154, 0, 7, 19, 1, 39, 176, 178, 0, 251, 153, 0, 28, 42, 27, 28, 184, 1, 1, 78, 45, 28]
abbrev dktJ8_newString_0 : List UInt8 := dkwJ8_newString_0 ++ dktJ8_newString_1
theorem dksJ8_newString_0 : cJ8_newString.data.toList.drop 0 = dktJ8_newString_0 := by decide +kernel
theorem dksJ8_newString_1 : cJ8_newString.data.toList.drop 23 = dktJ8_newString_1 := dk_seg dksJ8_newString_0 23 rfl rfl
theorem dksJ8_newString_2 : cJ8_newString.data.toList.drop 47 = dktJ8_newString_2 := dk_seg dksJ8_newString_1 24 rfl rfl
theorem dJ8_newString_0 : decode cJ8_newString 0 = .ok (.iload_n 2, 1) := dk_28 (dk_at dksJ8_newString_0 0 rfl rfl)
theorem dJ8_newString_1 : decode cJ8_newString 1 = .ok (.ifCond .ne 7, 3) := dk_154 0 7 (dk_at dksJ8_newString_0 1 rfl rfl)
theorem dJ8_newString_4 : decode cJ8_newString 4 = .ok (.ldc_w 295, 3) := dk_19 1 39 (dk_at dksJ8_newString_0 4 rfl rfl)
theorem dJ8_newString_8 : decode cJ8_newString 8 = .ok (.getstatic 251, 3) := dk_178 0 251 (dk_at dksJ8_newString_0 8 rfl rfl)
theorem dJ8_newString_11 : decode cJ8_newString 11 = .ok (.ifCond .eq 28, 3) := dk_153 0 28 (dk_at dksJ8_newString_0 11 rfl rfl)
theorem dJ8_newString_14 : decode cJ8_newString 14 = .ok (.aload_n 0, 1) := dk_42 (dk_at dksJ8_newString_0 14 rfl rfl)
theorem dJ8_newString_15 : decode cJ8_newString 15 = .ok (.iload_n 1, 1) := dk_27 (dk_at dksJ8_newString_0 15 rfl rfl)
theorem dJ8_newString_16 : decode cJ8_newString 16 = .ok (.iload_n 2, 1) := dk_28 (dk_at dksJ8_newString_0 16 rfl rfl)
theorem dJ8_newString_17 : decode cJ8_newString 17 = .ok (.invokestatic 257, 3) := dk_184 1 1 (dk_at dksJ8_newString_0 17 rfl rfl)
theorem dJ8_newString_20 : decode cJ8_newString 20 = .ok (.astore_n 3, 1) := dk_78 (dk_at dksJ8_newString_0 20 rfl rfl)
theorem dJ8_newString_21 : decode cJ8_newString 21 = .ok (.aload_n 3, 1) := dk_45 (dk_at dksJ8_newString_0 21 rfl rfl)
theorem dJ8_newString_22 : decode cJ8_newString 22 = .ok (.iload_n 2, 1) := dk_28 (dk_at dksJ8_newString_0 22 rfl rfl)
theorem dJ8_newString_23 : decode cJ8_newString 23 = .ok (.invokestatic 259, 3) := dk_184 1 3 (dk_at dksJ8_newString_1 0 rfl rfl)
theorem dJ8_newString_26 : decode cJ8_newString 26 = .ok (.istore 4, 2) := dk_54 4 (dk_at dksJ8_newString_1 3 rfl rfl)
theorem dJ8_newString_28 : decode cJ8_newString 28 = .ok (.new 3, 3) := dk_187 0 3 (dk_at dksJ8_newString_1 5 rfl rfl)
theorem dJ8_newString_31 : decode cJ8_newString 31 = .ok (.dup, 1) := dk_89 (dk_at dksJ8_newString_1 8 rfl rfl)
theorem dJ8_newString_32 : decode cJ8_newString 32 = .ok (.aload_n 3, 1) := dk_45 (dk_at dksJ8_newString_1 9 rfl rfl)
theorem dJ8_newString_33 : decode cJ8_newString 33 = .ok (.iload 4, 2) := dk_21 4 (dk_at dksJ8_newString_1 10 rfl rfl)
theorem dJ8_newString_35 : decode cJ8_newString 35 = .ok (.invokespecial 263, 3) := dk_183 1 7 (dk_at dksJ8_newString_1 12 rfl rfl)
theorem dJ8_newString_38 : decode cJ8_newString 38 = .ok (.areturn, 1) := dk_176 (dk_at dksJ8_newString_1 15 rfl rfl)
theorem dJ8_newString_39 : decode cJ8_newString 39 = .ok (.iload_n 1, 1) := dk_27 (dk_at dksJ8_newString_1 16 rfl rfl)
theorem dJ8_newString_40 : decode cJ8_newString 40 = .ok (.iload_n 2, 1) := dk_28 (dk_at dksJ8_newString_1 17 rfl rfl)
theorem dJ8_newString_41 : decode cJ8_newString 41 = .ok (.iadd, 1) := dk_96 (dk_at dksJ8_newString_1 18 rfl rfl)
theorem dJ8_newString_42 : decode cJ8_newString 42 = .ok (.istore_n 3, 1) := dk_62 (dk_at dksJ8_newString_1 19 rfl rfl)
theorem dJ8_newString_43 : decode cJ8_newString 43 = .ok (.new 3, 3) := dk_187 0 3 (dk_at dksJ8_newString_1 20 rfl rfl)
theorem dJ8_newString_46 : decode cJ8_newString 46 = .ok (.dup, 1) := dk_89 (dk_at dksJ8_newString_1 23 rfl rfl)
theorem dJ8_newString_47 : decode cJ8_newString 47 = .ok (.aload_n 0, 1) := dk_42 (dk_at dksJ8_newString_2 0 rfl rfl)
theorem dJ8_newString_48 : decode cJ8_newString 48 = .ok (.iload_n 1, 1) := dk_27 (dk_at dksJ8_newString_2 1 rfl rfl)
theorem dJ8_newString_49 : decode cJ8_newString 49 = .ok (.iconst 1, 1) := dk_4 (dk_at dksJ8_newString_2 2 rfl rfl)
theorem dJ8_newString_50 : decode cJ8_newString 50 = .ok (.ishl, 1) := dk_120 (dk_at dksJ8_newString_2 3 rfl rfl)
theorem dJ8_newString_51 : decode cJ8_newString 51 = .ok (.iload_n 3, 1) := dk_29 (dk_at dksJ8_newString_2 4 rfl rfl)
theorem dJ8_newString_52 : decode cJ8_newString 52 = .ok (.iconst 1, 1) := dk_4 (dk_at dksJ8_newString_2 5 rfl rfl)
theorem dJ8_newString_53 : decode cJ8_newString 53 = .ok (.ishl, 1) := dk_120 (dk_at dksJ8_newString_2 6 rfl rfl)
theorem dJ8_newString_54 : decode cJ8_newString 54 = .ok (.invokestatic 126, 3) := dk_184 0 126 (dk_at dksJ8_newString_2 7 rfl rfl)
theorem dJ8_newString_57 : decode cJ8_newString 57 = .ok (.iconst 1, 1) := dk_4 (dk_at dksJ8_newString_2 10 rfl rfl)
theorem dJ8_newString_58 : decode cJ8_newString 58 = .ok (.invokespecial 263, 3) := dk_183 1 7 (dk_at dksJ8_newString_2 11 rfl rfl)
theorem dJ8_newString_61 : decode cJ8_newString 61 = .ok (.areturn, 1) := dk_176 (dk_at dksJ8_newString_2 14 rfl rfl)
abbrev cJ7_init_3 : ByteArray := prog_48_method_151_code
def dkwJ7_init_3_0 : List UInt8 := [42, 183, 0, 1, 42, 43, 181, 0, 9, 42, 28, 181, 0, 15, 177]
abbrev dktJ7_init_3_0 : List UInt8 := dkwJ7_init_3_0 ++ []
theorem dksJ7_init_3_0 : cJ7_init_3.data.toList.drop 0 = dktJ7_init_3_0 := by decide +kernel
theorem dJ7_init_3_0 : decode cJ7_init_3 0 = .ok (.aload_n 0, 1) := dk_42 (dk_at dksJ7_init_3_0 0 rfl rfl)
theorem dJ7_init_3_1 : decode cJ7_init_3 1 = .ok (.invokespecial 1, 3) := dk_183 0 1 (dk_at dksJ7_init_3_0 1 rfl rfl)
theorem dJ7_init_3_4 : decode cJ7_init_3 4 = .ok (.aload_n 0, 1) := dk_42 (dk_at dksJ7_init_3_0 4 rfl rfl)
theorem dJ7_init_3_5 : decode cJ7_init_3 5 = .ok (.aload_n 1, 1) := dk_43 (dk_at dksJ7_init_3_0 5 rfl rfl)
theorem dJ7_init_3_6 : decode cJ7_init_3 6 = .ok (.putfield 9, 3) := dk_181 0 9 (dk_at dksJ7_init_3_0 6 rfl rfl)
theorem dJ7_init_3_9 : decode cJ7_init_3 9 = .ok (.aload_n 0, 1) := dk_42 (dk_at dksJ7_init_3_0 9 rfl rfl)
theorem dJ7_init_3_10 : decode cJ7_init_3 10 = .ok (.iload_n 2, 1) := dk_28 (dk_at dksJ7_init_3_0 10 rfl rfl)
theorem dJ7_init_3_11 : decode cJ7_init_3 11 = .ok (.putfield 15, 3) := dk_181 0 15 (dk_at dksJ7_init_3_0 11 rfl rfl)
theorem dJ7_init_3_14 : decode cJ7_init_3 14 = .ok (.return_, 1) := dk_177 (dk_at dksJ7_init_3_0 14 rfl rfl)
abbrev cJ7_contains : ByteArray := prog_48_method_97_code
def dkwJ7_contains_0 : List UInt8 := [42, 43, 185, 2, 198, 1, 0, 182, 2, 199, 155, 0, 7, 4, 167, 0, 4, 3, 172]
abbrev dktJ7_contains_0 : List UInt8 := dkwJ7_contains_0 ++ []
theorem dksJ7_contains_0 : cJ7_contains.data.toList.drop 0 = dktJ7_contains_0 := by decide +kernel
theorem dJ7_contains_0 : decode cJ7_contains 0 = .ok (.aload_n 0, 1) := dk_42 (dk_at dksJ7_contains_0 0 rfl rfl)
theorem dJ7_contains_1 : decode cJ7_contains 1 = .ok (.aload_n 1, 1) := dk_43 (dk_at dksJ7_contains_0 1 rfl rfl)
theorem dJ7_contains_2 : decode cJ7_contains 2 = .ok (.invokeinterface 710 1, 5) := by decide +kernel
theorem dJ7_contains_7 : decode cJ7_contains 7 = .ok (.invokevirtual 711, 3) := dk_182 2 199 (dk_at dksJ7_contains_0 7 rfl rfl)
theorem dJ7_contains_10 : decode cJ7_contains 10 = .ok (.ifCond .lt 7, 3) := dk_155 0 7 (dk_at dksJ7_contains_0 10 rfl rfl)
theorem dJ7_contains_13 : decode cJ7_contains 13 = .ok (.iconst 1, 1) := dk_4 (dk_at dksJ7_contains_0 13 rfl rfl)
theorem dJ7_contains_14 : decode cJ7_contains 14 = .ok (.goto 4, 3) := dk_167 0 4 (dk_at dksJ7_contains_0 14 rfl rfl)
theorem dJ7_contains_17 : decode cJ7_contains 17 = .ok (.iconst 0, 1) := dk_3 (dk_at dksJ7_contains_0 17 rfl rfl)
theorem dJ7_contains_18 : decode cJ7_contains 18 = .ok (.ireturn, 1) := dk_172 (dk_at dksJ7_contains_0 18 rfl rfl)
abbrev cJ7_indexOf : ByteArray := prog_48_method_84_code
def dkwJ7_indexOf_2 : List UInt8 := [154, 0, 5, 2, 172, 42, 180, 0, 9, 43, 180, 0, 9, 184, 2, 138, 172]
abbrev dktJ7_indexOf_2 : List UInt8 := dkwJ7_indexOf_2 ++ []
def dkwJ7_indexOf_1 : List UInt8 := [43, 180, 0, 9, 184, 2, 135, 167, 0, 14, 42, 180, 0, 9, 43, 180, 0, 9, 184, 2, 137, 172, 28]
abbrev dktJ7_indexOf_1 : List UInt8 := dkwJ7_indexOf_1 ++ dktJ7_indexOf_2
def dkwJ7_indexOf_0 : List UInt8 := [42, 182, 1, 79, 61, 28, 43, 182, 1, 79, 160, 0, 36, 42, 182, 1, 236, 153, 0, 17, 42, 180, 0, 9]
abbrev dktJ7_indexOf_0 : List UInt8 := dkwJ7_indexOf_0 ++ dktJ7_indexOf_1
theorem dksJ7_indexOf_0 : cJ7_indexOf.data.toList.drop 0 = dktJ7_indexOf_0 := by decide +kernel
theorem dksJ7_indexOf_1 : cJ7_indexOf.data.toList.drop 24 = dktJ7_indexOf_1 := dk_seg dksJ7_indexOf_0 24 rfl rfl
theorem dksJ7_indexOf_2 : cJ7_indexOf.data.toList.drop 47 = dktJ7_indexOf_2 := dk_seg dksJ7_indexOf_1 23 rfl rfl
theorem dJ7_indexOf_0 : decode cJ7_indexOf 0 = .ok (.aload_n 0, 1) := dk_42 (dk_at dksJ7_indexOf_0 0 rfl rfl)
theorem dJ7_indexOf_1 : decode cJ7_indexOf 1 = .ok (.invokevirtual 335, 3) := dk_182 1 79 (dk_at dksJ7_indexOf_0 1 rfl rfl)
theorem dJ7_indexOf_4 : decode cJ7_indexOf 4 = .ok (.istore_n 2, 1) := dk_61 (dk_at dksJ7_indexOf_0 4 rfl rfl)
theorem dJ7_indexOf_5 : decode cJ7_indexOf 5 = .ok (.iload_n 2, 1) := dk_28 (dk_at dksJ7_indexOf_0 5 rfl rfl)
theorem dJ7_indexOf_6 : decode cJ7_indexOf 6 = .ok (.aload_n 1, 1) := dk_43 (dk_at dksJ7_indexOf_0 6 rfl rfl)
theorem dJ7_indexOf_7 : decode cJ7_indexOf 7 = .ok (.invokevirtual 335, 3) := dk_182 1 79 (dk_at dksJ7_indexOf_0 7 rfl rfl)
theorem dJ7_indexOf_10 : decode cJ7_indexOf 10 = .ok (.if_icmp .ne 36, 3) := dk_160 0 36 (dk_at dksJ7_indexOf_0 10 rfl rfl)
theorem dJ7_indexOf_13 : decode cJ7_indexOf 13 = .ok (.aload_n 0, 1) := dk_42 (dk_at dksJ7_indexOf_0 13 rfl rfl)
theorem dJ7_indexOf_14 : decode cJ7_indexOf 14 = .ok (.invokevirtual 492, 3) := dk_182 1 236 (dk_at dksJ7_indexOf_0 14 rfl rfl)
theorem dJ7_indexOf_17 : decode cJ7_indexOf 17 = .ok (.ifCond .eq 17, 3) := dk_153 0 17 (dk_at dksJ7_indexOf_0 17 rfl rfl)
theorem dJ7_indexOf_20 : decode cJ7_indexOf 20 = .ok (.aload_n 0, 1) := dk_42 (dk_at dksJ7_indexOf_0 20 rfl rfl)
theorem dJ7_indexOf_21 : decode cJ7_indexOf 21 = .ok (.getfield 9, 3) := dk_180 0 9 (dk_at dksJ7_indexOf_0 21 rfl rfl)
theorem dJ7_indexOf_24 : decode cJ7_indexOf 24 = .ok (.aload_n 1, 1) := dk_43 (dk_at dksJ7_indexOf_1 0 rfl rfl)
theorem dJ7_indexOf_25 : decode cJ7_indexOf 25 = .ok (.getfield 9, 3) := dk_180 0 9 (dk_at dksJ7_indexOf_1 1 rfl rfl)
theorem dJ7_indexOf_28 : decode cJ7_indexOf 28 = .ok (.invokestatic 647, 3) := dk_184 2 135 (dk_at dksJ7_indexOf_1 4 rfl rfl)
theorem dJ7_indexOf_31 : decode cJ7_indexOf 31 = .ok (.goto 14, 3) := dk_167 0 14 (dk_at dksJ7_indexOf_1 7 rfl rfl)
theorem dJ7_indexOf_34 : decode cJ7_indexOf 34 = .ok (.aload_n 0, 1) := dk_42 (dk_at dksJ7_indexOf_1 10 rfl rfl)
theorem dJ7_indexOf_35 : decode cJ7_indexOf 35 = .ok (.getfield 9, 3) := dk_180 0 9 (dk_at dksJ7_indexOf_1 11 rfl rfl)
theorem dJ7_indexOf_38 : decode cJ7_indexOf 38 = .ok (.aload_n 1, 1) := dk_43 (dk_at dksJ7_indexOf_1 14 rfl rfl)
theorem dJ7_indexOf_39 : decode cJ7_indexOf 39 = .ok (.getfield 9, 3) := dk_180 0 9 (dk_at dksJ7_indexOf_1 15 rfl rfl)
theorem dJ7_indexOf_42 : decode cJ7_indexOf 42 = .ok (.invokestatic 649, 3) := dk_184 2 137 (dk_at dksJ7_indexOf_1 18 rfl rfl)
theorem dJ7_indexOf_45 : decode cJ7_indexOf 45 = .ok (.ireturn, 1) := dk_172 (dk_at dksJ7_indexOf_1 21 rfl rfl)
theorem dJ7_indexOf_46 : decode cJ7_indexOf 46 = .ok (.iload_n 2, 1) := dk_28 (dk_at dksJ7_indexOf_1 22 rfl rfl)
theorem dJ7_indexOf_47 : decode cJ7_indexOf 47 = .ok (.ifCond .ne 5, 3) := dk_154 0 5 (dk_at dksJ7_indexOf_2 0 rfl rfl)
theorem dJ7_indexOf_50 : decode cJ7_indexOf 50 = .ok (.iconst (-1), 1) := dk_2 (dk_at dksJ7_indexOf_2 3 rfl rfl)
theorem dJ7_indexOf_51 : decode cJ7_indexOf 51 = .ok (.ireturn, 1) := dk_172 (dk_at dksJ7_indexOf_2 4 rfl rfl)
theorem dJ7_indexOf_52 : decode cJ7_indexOf 52 = .ok (.aload_n 0, 1) := dk_42 (dk_at dksJ7_indexOf_2 5 rfl rfl)
theorem dJ7_indexOf_53 : decode cJ7_indexOf 53 = .ok (.getfield 9, 3) := dk_180 0 9 (dk_at dksJ7_indexOf_2 6 rfl rfl)
theorem dJ7_indexOf_56 : decode cJ7_indexOf 56 = .ok (.aload_n 1, 1) := dk_43 (dk_at dksJ7_indexOf_2 9 rfl rfl)
theorem dJ7_indexOf_57 : decode cJ7_indexOf 57 = .ok (.getfield 9, 3) := dk_180 0 9 (dk_at dksJ7_indexOf_2 10 rfl rfl)
theorem dJ7_indexOf_60 : decode cJ7_indexOf 60 = .ok (.invokestatic 650, 3) := dk_184 2 138 (dk_at dksJ7_indexOf_2 13 rfl rfl)
theorem dJ7_indexOf_63 : decode cJ7_indexOf 63 = .ok (.ireturn, 1) := dk_172 (dk_at dksJ7_indexOf_2 16 rfl rfl)
abbrev cJ7_indexOf_2 : ByteArray := prog_48_method_80_code
def dkwJ7_indexOf_2_1 : List UInt8 := [180, 0, 9, 27, 28, 42, 182, 1, 249, 184, 2, 128, 172]
abbrev dktJ7_indexOf_2_1 : List UInt8 := dkwJ7_indexOf_2_1 ++ []
def dkwJ7_indexOf_2_0 : List UInt8 := [42, 182, 1, 236, 153, 0, 19, 42, 180, 0, 9, 27, 28, 42, 182, 1, 249, 184, 2, 125, 167, 0, 16, 42]
abbrev dktJ7_indexOf_2_0 : List UInt8 := dkwJ7_indexOf_2_0 ++ dktJ7_indexOf_2_1
theorem dksJ7_indexOf_2_0 : cJ7_indexOf_2.data.toList.drop 0 = dktJ7_indexOf_2_0 := by decide +kernel
theorem dksJ7_indexOf_2_1 : cJ7_indexOf_2.data.toList.drop 24 = dktJ7_indexOf_2_1 := dk_seg dksJ7_indexOf_2_0 24 rfl rfl
theorem dJ7_indexOf_2_0 : decode cJ7_indexOf_2 0 = .ok (.aload_n 0, 1) := dk_42 (dk_at dksJ7_indexOf_2_0 0 rfl rfl)
theorem dJ7_indexOf_2_1 : decode cJ7_indexOf_2 1 = .ok (.invokevirtual 492, 3) := dk_182 1 236 (dk_at dksJ7_indexOf_2_0 1 rfl rfl)
theorem dJ7_indexOf_2_4 : decode cJ7_indexOf_2 4 = .ok (.ifCond .eq 19, 3) := dk_153 0 19 (dk_at dksJ7_indexOf_2_0 4 rfl rfl)
theorem dJ7_indexOf_2_7 : decode cJ7_indexOf_2 7 = .ok (.aload_n 0, 1) := dk_42 (dk_at dksJ7_indexOf_2_0 7 rfl rfl)
theorem dJ7_indexOf_2_8 : decode cJ7_indexOf_2 8 = .ok (.getfield 9, 3) := dk_180 0 9 (dk_at dksJ7_indexOf_2_0 8 rfl rfl)
theorem dJ7_indexOf_2_11 : decode cJ7_indexOf_2 11 = .ok (.iload_n 1, 1) := dk_27 (dk_at dksJ7_indexOf_2_0 11 rfl rfl)
theorem dJ7_indexOf_2_12 : decode cJ7_indexOf_2 12 = .ok (.iload_n 2, 1) := dk_28 (dk_at dksJ7_indexOf_2_0 12 rfl rfl)
theorem dJ7_indexOf_2_13 : decode cJ7_indexOf_2 13 = .ok (.aload_n 0, 1) := dk_42 (dk_at dksJ7_indexOf_2_0 13 rfl rfl)
theorem dJ7_indexOf_2_14 : decode cJ7_indexOf_2 14 = .ok (.invokevirtual 505, 3) := dk_182 1 249 (dk_at dksJ7_indexOf_2_0 14 rfl rfl)
theorem dJ7_indexOf_2_17 : decode cJ7_indexOf_2 17 = .ok (.invokestatic 637, 3) := dk_184 2 125 (dk_at dksJ7_indexOf_2_0 17 rfl rfl)
theorem dJ7_indexOf_2_20 : decode cJ7_indexOf_2 20 = .ok (.goto 16, 3) := dk_167 0 16 (dk_at dksJ7_indexOf_2_0 20 rfl rfl)
theorem dJ7_indexOf_2_23 : decode cJ7_indexOf_2 23 = .ok (.aload_n 0, 1) := dk_42 (dk_at dksJ7_indexOf_2_0 23 rfl rfl)
theorem dJ7_indexOf_2_24 : decode cJ7_indexOf_2 24 = .ok (.getfield 9, 3) := dk_180 0 9 (dk_at dksJ7_indexOf_2_1 0 rfl rfl)
theorem dJ7_indexOf_2_27 : decode cJ7_indexOf_2 27 = .ok (.iload_n 1, 1) := dk_27 (dk_at dksJ7_indexOf_2_1 3 rfl rfl)
theorem dJ7_indexOf_2_28 : decode cJ7_indexOf_2 28 = .ok (.iload_n 2, 1) := dk_28 (dk_at dksJ7_indexOf_2_1 4 rfl rfl)
theorem dJ7_indexOf_2_29 : decode cJ7_indexOf_2 29 = .ok (.aload_n 0, 1) := dk_42 (dk_at dksJ7_indexOf_2_1 5 rfl rfl)
theorem dJ7_indexOf_2_30 : decode cJ7_indexOf_2 30 = .ok (.invokevirtual 505, 3) := dk_182 1 249 (dk_at dksJ7_indexOf_2_1 6 rfl rfl)
theorem dJ7_indexOf_2_33 : decode cJ7_indexOf_2 33 = .ok (.invokestatic 640, 3) := dk_184 2 128 (dk_at dksJ7_indexOf_2_1 9 rfl rfl)
theorem dJ7_indexOf_2_36 : decode cJ7_indexOf_2 36 = .ok (.ireturn, 1) := dk_172 (dk_at dksJ7_indexOf_2_1 12 rfl rfl)
abbrev cJ7_substring : ByteArray := prog_48_method_92_code
def dkwJ7_substring_2 : List UInt8 := [180, 0, 9, 27, 21, 4, 184, 2, 177, 176]
abbrev dktJ7_substring_2 : List UInt8 := dkwJ7_substring_2 ++ []
def dkwJ7_substring_1 : List UInt8 := [100, 54, 4, 42, 182, 1, 236, 153, 0, 16, 42, 180, 0, 9, 27, 21, 4, 184, 2, 173, 167, 0, 13, 42]
abbrev dktJ7_substring_1 : List UInt8 := dkwJ7_substring_1 ++ dktJ7_substring_2
def dkwJ7_substring_0 : List UInt8 := [42, 182, 1, 249, 62, 27, 28, 29, 184, 2, 9, 27, 154, 0, 10, 28, 29, 160, 0, 5, 42, 176, 28, 27]
abbrev dktJ7_substring_0 : List UInt8 := dkwJ7_substring_0 ++ dktJ7_substring_1
theorem dksJ7_substring_0 : cJ7_substring.data.toList.drop 0 = dktJ7_substring_0 := by decide +kernel
theorem dksJ7_substring_1 : cJ7_substring.data.toList.drop 24 = dktJ7_substring_1 := dk_seg dksJ7_substring_0 24 rfl rfl
theorem dksJ7_substring_2 : cJ7_substring.data.toList.drop 48 = dktJ7_substring_2 := dk_seg dksJ7_substring_1 24 rfl rfl
theorem dJ7_substring_0 : decode cJ7_substring 0 = .ok (.aload_n 0, 1) := dk_42 (dk_at dksJ7_substring_0 0 rfl rfl)
theorem dJ7_substring_1 : decode cJ7_substring 1 = .ok (.invokevirtual 505, 3) := dk_182 1 249 (dk_at dksJ7_substring_0 1 rfl rfl)
theorem dJ7_substring_4 : decode cJ7_substring 4 = .ok (.istore_n 3, 1) := dk_62 (dk_at dksJ7_substring_0 4 rfl rfl)
theorem dJ7_substring_5 : decode cJ7_substring 5 = .ok (.iload_n 1, 1) := dk_27 (dk_at dksJ7_substring_0 5 rfl rfl)
theorem dJ7_substring_6 : decode cJ7_substring 6 = .ok (.iload_n 2, 1) := dk_28 (dk_at dksJ7_substring_0 6 rfl rfl)
theorem dJ7_substring_7 : decode cJ7_substring 7 = .ok (.iload_n 3, 1) := dk_29 (dk_at dksJ7_substring_0 7 rfl rfl)
theorem dJ7_substring_8 : decode cJ7_substring 8 = .ok (.invokestatic 521, 3) := dk_184 2 9 (dk_at dksJ7_substring_0 8 rfl rfl)
theorem dJ7_substring_11 : decode cJ7_substring 11 = .ok (.iload_n 1, 1) := dk_27 (dk_at dksJ7_substring_0 11 rfl rfl)
theorem dJ7_substring_12 : decode cJ7_substring 12 = .ok (.ifCond .ne 10, 3) := dk_154 0 10 (dk_at dksJ7_substring_0 12 rfl rfl)
theorem dJ7_substring_15 : decode cJ7_substring 15 = .ok (.iload_n 2, 1) := dk_28 (dk_at dksJ7_substring_0 15 rfl rfl)
theorem dJ7_substring_16 : decode cJ7_substring 16 = .ok (.iload_n 3, 1) := dk_29 (dk_at dksJ7_substring_0 16 rfl rfl)
theorem dJ7_substring_17 : decode cJ7_substring 17 = .ok (.if_icmp .ne 5, 3) := dk_160 0 5 (dk_at dksJ7_substring_0 17 rfl rfl)
theorem dJ7_substring_20 : decode cJ7_substring 20 = .ok (.aload_n 0, 1) := dk_42 (dk_at dksJ7_substring_0 20 rfl rfl)
theorem dJ7_substring_21 : decode cJ7_substring 21 = .ok (.areturn, 1) := dk_176 (dk_at dksJ7_substring_0 21 rfl rfl)
theorem dJ7_substring_22 : decode cJ7_substring 22 = .ok (.iload_n 2, 1) := dk_28 (dk_at dksJ7_substring_0 22 rfl rfl)
theorem dJ7_substring_23 : decode cJ7_substring 23 = .ok (.iload_n 1, 1) := dk_27 (dk_at dksJ7_substring_0 23 rfl rfl)
theorem dJ7_substring_24 : decode cJ7_substring 24 = .ok (.isub, 1) := dk_100 (dk_at dksJ7_substring_1 0 rfl rfl)
theorem dJ7_substring_25 : decode cJ7_substring 25 = .ok (.istore 4, 2) := dk_54 4 (dk_at dksJ7_substring_1 1 rfl rfl)
theorem dJ7_substring_27 : decode cJ7_substring 27 = .ok (.aload_n 0, 1) := dk_42 (dk_at dksJ7_substring_1 3 rfl rfl)
theorem dJ7_substring_28 : decode cJ7_substring 28 = .ok (.invokevirtual 492, 3) := dk_182 1 236 (dk_at dksJ7_substring_1 4 rfl rfl)
theorem dJ7_substring_31 : decode cJ7_substring 31 = .ok (.ifCond .eq 16, 3) := dk_153 0 16 (dk_at dksJ7_substring_1 7 rfl rfl)
theorem dJ7_substring_34 : decode cJ7_substring 34 = .ok (.aload_n 0, 1) := dk_42 (dk_at dksJ7_substring_1 10 rfl rfl)
theorem dJ7_substring_35 : decode cJ7_substring 35 = .ok (.getfield 9, 3) := dk_180 0 9 (dk_at dksJ7_substring_1 11 rfl rfl)
theorem dJ7_substring_38 : decode cJ7_substring 38 = .ok (.iload_n 1, 1) := dk_27 (dk_at dksJ7_substring_1 14 rfl rfl)
theorem dJ7_substring_39 : decode cJ7_substring 39 = .ok (.iload 4, 2) := dk_21 4 (dk_at dksJ7_substring_1 15 rfl rfl)
theorem dJ7_substring_41 : decode cJ7_substring 41 = .ok (.invokestatic 685, 3) := dk_184 2 173 (dk_at dksJ7_substring_1 17 rfl rfl)
theorem dJ7_substring_44 : decode cJ7_substring 44 = .ok (.goto 13, 3) := dk_167 0 13 (dk_at dksJ7_substring_1 20 rfl rfl)
theorem dJ7_substring_47 : decode cJ7_substring 47 = .ok (.aload_n 0, 1) := dk_42 (dk_at dksJ7_substring_1 23 rfl rfl)
theorem dJ7_substring_48 : decode cJ7_substring 48 = .ok (.getfield 9, 3) := dk_180 0 9 (dk_at dksJ7_substring_2 0 rfl rfl)
theorem dJ7_substring_51 : decode cJ7_substring 51 = .ok (.iload_n 1, 1) := dk_27 (dk_at dksJ7_substring_2 3 rfl rfl)
theorem dJ7_substring_52 : decode cJ7_substring 52 = .ok (.iload 4, 2) := dk_21 4 (dk_at dksJ7_substring_2 4 rfl rfl)
theorem dJ7_substring_54 : decode cJ7_substring 54 = .ok (.invokestatic 689, 3) := dk_184 2 177 (dk_at dksJ7_substring_2 6 rfl rfl)
theorem dJ7_substring_57 : decode cJ7_substring 57 = .ok (.areturn, 1) := dk_176 (dk_at dksJ7_substring_2 9 rfl rfl)
abbrev cJ21_stringSize : ByteArray := prog_40_method_13_code
def dkwJ21_stringSize_1 : List UInt8 := [164, 0, 7, 29, 27, 96, 172, 16, 10, 28, 104, 61, 132, 3, 1, 167, 255, 233, 16, 10, 27, 96, 172]
abbrev dktJ21_stringSize_1 : List UInt8 := dkwJ21_stringSize_1 ++ []
def dkwJ21_stringSize_0 : List UInt8 := [4, 60, 26, 155, 0, 8, 3, 60, 26, 116, 59, 16, 246, 61, 4, 62, 29, 16, 10, 162, 0, 23, 26, 28]
abbrev dktJ21_stringSize_0 : List UInt8 := dkwJ21_stringSize_0 ++ dktJ21_stringSize_1
theorem dksJ21_stringSize_0 : cJ21_stringSize.data.toList.drop 0 = dktJ21_stringSize_0 := by decide +kernel
theorem dksJ21_stringSize_1 : cJ21_stringSize.data.toList.drop 24 = dktJ21_stringSize_1 := dk_seg dksJ21_stringSize_0 24 rfl rfl
theorem dJ21_stringSize_0 : decode cJ21_stringSize 0 = .ok (.iconst 1, 1) := dk_4 (dk_at dksJ21_stringSize_0 0 rfl rfl)
theorem dJ21_stringSize_1 : decode cJ21_stringSize 1 = .ok (.istore_n 1, 1) := dk_60 (dk_at dksJ21_stringSize_0 1 rfl rfl)
theorem dJ21_stringSize_2 : decode cJ21_stringSize 2 = .ok (.iload_n 0, 1) := dk_26 (dk_at dksJ21_stringSize_0 2 rfl rfl)
theorem dJ21_stringSize_3 : decode cJ21_stringSize 3 = .ok (.ifCond .lt 8, 3) := dk_155 0 8 (dk_at dksJ21_stringSize_0 3 rfl rfl)
theorem dJ21_stringSize_6 : decode cJ21_stringSize 6 = .ok (.iconst 0, 1) := dk_3 (dk_at dksJ21_stringSize_0 6 rfl rfl)
theorem dJ21_stringSize_7 : decode cJ21_stringSize 7 = .ok (.istore_n 1, 1) := dk_60 (dk_at dksJ21_stringSize_0 7 rfl rfl)
theorem dJ21_stringSize_8 : decode cJ21_stringSize 8 = .ok (.iload_n 0, 1) := dk_26 (dk_at dksJ21_stringSize_0 8 rfl rfl)
theorem dJ21_stringSize_9 : decode cJ21_stringSize 9 = .ok (.ineg, 1) := dk_116 (dk_at dksJ21_stringSize_0 9 rfl rfl)
theorem dJ21_stringSize_10 : decode cJ21_stringSize 10 = .ok (.istore_n 0, 1) := dk_59 (dk_at dksJ21_stringSize_0 10 rfl rfl)
theorem dJ21_stringSize_11 : decode cJ21_stringSize 11 = .ok (.bipush (-10), 2) := dk_16 246 (dk_at dksJ21_stringSize_0 11 rfl rfl)
theorem dJ21_stringSize_13 : decode cJ21_stringSize 13 = .ok (.istore_n 2, 1) := dk_61 (dk_at dksJ21_stringSize_0 13 rfl rfl)
theorem dJ21_stringSize_14 : decode cJ21_stringSize 14 = .ok (.iconst 1, 1) := dk_4 (dk_at dksJ21_stringSize_0 14 rfl rfl)
theorem dJ21_stringSize_15 : decode cJ21_stringSize 15 = .ok (.istore_n 3, 1) := dk_62 (dk_at dksJ21_stringSize_0 15 rfl rfl)
theorem dJ21_stringSize_16 : decode cJ21_stringSize 16 = .ok (.iload_n 3, 1) := dk_29 (dk_at dksJ21_stringSize_0 16 rfl rfl)
theorem dJ21_stringSize_17 : decode cJ21_stringSize 17 = .ok (.bipush 10, 2) := dk_16 10 (dk_at dksJ21_stringSize_0 17 rfl rfl)
theorem dJ21_stringSize_19 : decode cJ21_stringSize 19 = .ok (.if_icmp .ge 23, 3) := dk_162 0 23 (dk_at dksJ21_stringSize_0 19 rfl rfl)
theorem dJ21_stringSize_22 : decode cJ21_stringSize 22 = .ok (.iload_n 0, 1) := dk_26 (dk_at dksJ21_stringSize_0 22 rfl rfl)
theorem dJ21_stringSize_23 : decode cJ21_stringSize 23 = .ok (.iload_n 2, 1) := dk_28 (dk_at dksJ21_stringSize_0 23 rfl rfl)
theorem dJ21_stringSize_24 : decode cJ21_stringSize 24 = .ok (.if_icmp .le 7, 3) := dk_164 0 7 (dk_at dksJ21_stringSize_1 0 rfl rfl)
theorem dJ21_stringSize_27 : decode cJ21_stringSize 27 = .ok (.iload_n 3, 1) := dk_29 (dk_at dksJ21_stringSize_1 3 rfl rfl)
theorem dJ21_stringSize_28 : decode cJ21_stringSize 28 = .ok (.iload_n 1, 1) := dk_27 (dk_at dksJ21_stringSize_1 4 rfl rfl)
theorem dJ21_stringSize_29 : decode cJ21_stringSize 29 = .ok (.iadd, 1) := dk_96 (dk_at dksJ21_stringSize_1 5 rfl rfl)
theorem dJ21_stringSize_30 : decode cJ21_stringSize 30 = .ok (.ireturn, 1) := dk_172 (dk_at dksJ21_stringSize_1 6 rfl rfl)
theorem dJ21_stringSize_31 : decode cJ21_stringSize 31 = .ok (.bipush 10, 2) := dk_16 10 (dk_at dksJ21_stringSize_1 7 rfl rfl)
theorem dJ21_stringSize_33 : decode cJ21_stringSize 33 = .ok (.iload_n 2, 1) := dk_28 (dk_at dksJ21_stringSize_1 9 rfl rfl)
theorem dJ21_stringSize_34 : decode cJ21_stringSize 34 = .ok (.imul, 1) := dk_104 (dk_at dksJ21_stringSize_1 10 rfl rfl)
theorem dJ21_stringSize_35 : decode cJ21_stringSize 35 = .ok (.istore_n 2, 1) := dk_61 (dk_at dksJ21_stringSize_1 11 rfl rfl)
theorem dJ21_stringSize_36 : decode cJ21_stringSize 36 = .ok (.iinc 3 1, 3) := dk_132 3 1 (dk_at dksJ21_stringSize_1 12 rfl rfl)
theorem dJ21_stringSize_39 : decode cJ21_stringSize 39 = .ok (.goto (-23), 3) := dk_167 255 233 (dk_at dksJ21_stringSize_1 15 rfl rfl)
theorem dJ21_stringSize_42 : decode cJ21_stringSize 42 = .ok (.bipush 10, 2) := dk_16 10 (dk_at dksJ21_stringSize_1 18 rfl rfl)
theorem dJ21_stringSize_44 : decode cJ21_stringSize 44 = .ok (.iload_n 1, 1) := dk_27 (dk_at dksJ21_stringSize_1 20 rfl rfl)
theorem dJ21_stringSize_45 : decode cJ21_stringSize 45 = .ok (.iadd, 1) := dk_96 (dk_at dksJ21_stringSize_1 21 rfl rfl)
theorem dJ21_stringSize_46 : decode cJ21_stringSize 46 = .ok (.ireturn, 1) := dk_172 (dk_at dksJ21_stringSize_1 22 rfl rfl)
abbrev cJ21_getChars : ByteArray := prog_40_method_12_code
def dkwJ21_getChars_5 : List UInt8 := [16, 45, 84, 21, 5, 172]
abbrev dktJ21_getChars_5 : List UInt8 := dkwJ21_getChars_5 ++ []
def dkwJ21_getChars_4 : List UInt8 := [132, 5, 255, 21, 5, 178, 0, 87, 26, 116, 51, 84, 21, 6, 153, 0, 12, 44, 132, 5, 255, 21, 5]
abbrev dktJ21_getChars_4 : List UInt8 := dkwJ21_getChars_4 ++ dktJ21_getChars_5
def dkwJ21_getChars_3 : List UInt8 := [167, 255, 209, 44, 132, 5, 255, 21, 5, 178, 0, 83, 26, 116, 51, 84, 26, 16, 247, 162, 0, 16, 44]
abbrev dktJ21_getChars_3 : List UInt8 := dkwJ21_getChars_3 ++ dktJ21_getChars_4
def dkwJ21_getChars_2 : List UInt8 := [21, 5, 178, 0, 83, 21, 4, 51, 84, 44, 132, 5, 255, 21, 5, 178, 0, 87, 21, 4, 51, 84]
abbrev dktJ21_getChars_2 : List UInt8 := dkwJ21_getChars_2 ++ dktJ21_getChars_3
def dkwJ21_getChars_1 : List UInt8 := [16, 156, 163, 0, 47, 26, 16, 100, 108, 62, 29, 16, 100, 104, 26, 100, 54, 4, 29, 59, 44, 132, 5, 255]
abbrev dktJ21_getChars_1 : List UInt8 := dkwJ21_getChars_1 ++ dktJ21_getChars_2
def dkwJ21_getChars_0 : List UInt8 := [27, 54, 5, 26, 156, 0, 7, 4, 167, 0, 4, 3, 54, 6, 21, 6, 154, 0, 6, 26, 116, 59, 26]
abbrev dktJ21_getChars_0 : List UInt8 := dkwJ21_getChars_0 ++ dktJ21_getChars_1
theorem dksJ21_getChars_0 : cJ21_getChars.data.toList.drop 0 = dktJ21_getChars_0 := by decide +kernel
theorem dksJ21_getChars_1 : cJ21_getChars.data.toList.drop 23 = dktJ21_getChars_1 := dk_seg dksJ21_getChars_0 23 rfl rfl
theorem dksJ21_getChars_2 : cJ21_getChars.data.toList.drop 47 = dktJ21_getChars_2 := dk_seg dksJ21_getChars_1 24 rfl rfl
theorem dksJ21_getChars_3 : cJ21_getChars.data.toList.drop 69 = dktJ21_getChars_3 := dk_seg dksJ21_getChars_2 22 rfl rfl
theorem dksJ21_getChars_4 : cJ21_getChars.data.toList.drop 92 = dktJ21_getChars_4 := dk_seg dksJ21_getChars_3 23 rfl rfl
theorem dksJ21_getChars_5 : cJ21_getChars.data.toList.drop 115 = dktJ21_getChars_5 := dk_seg dksJ21_getChars_4 23 rfl rfl
theorem dJ21_getChars_0 : decode cJ21_getChars 0 = .ok (.iload_n 1, 1) := dk_27 (dk_at dksJ21_getChars_0 0 rfl rfl)
theorem dJ21_getChars_1 : decode cJ21_getChars 1 = .ok (.istore 5, 2) := dk_54 5 (dk_at dksJ21_getChars_0 1 rfl rfl)
theorem dJ21_getChars_3 : decode cJ21_getChars 3 = .ok (.iload_n 0, 1) := dk_26 (dk_at dksJ21_getChars_0 3 rfl rfl)
theorem dJ21_getChars_4 : decode cJ21_getChars 4 = .ok (.ifCond .ge 7, 3) := dk_156 0 7 (dk_at dksJ21_getChars_0 4 rfl rfl)
theorem dJ21_getChars_7 : decode cJ21_getChars 7 = .ok (.iconst 1, 1) := dk_4 (dk_at dksJ21_getChars_0 7 rfl rfl)
theorem dJ21_getChars_8 : decode cJ21_getChars 8 = .ok (.goto 4, 3) := dk_167 0 4 (dk_at dksJ21_getChars_0 8 rfl rfl)
theorem dJ21_getChars_11 : decode cJ21_getChars 11 = .ok (.iconst 0, 1) := dk_3 (dk_at dksJ21_getChars_0 11 rfl rfl)
theorem dJ21_getChars_12 : decode cJ21_getChars 12 = .ok (.istore 6, 2) := dk_54 6 (dk_at dksJ21_getChars_0 12 rfl rfl)
theorem dJ21_getChars_14 : decode cJ21_getChars 14 = .ok (.iload 6, 2) := dk_21 6 (dk_at dksJ21_getChars_0 14 rfl rfl)
theorem dJ21_getChars_16 : decode cJ21_getChars 16 = .ok (.ifCond .ne 6, 3) := dk_154 0 6 (dk_at dksJ21_getChars_0 16 rfl rfl)
theorem dJ21_getChars_19 : decode cJ21_getChars 19 = .ok (.iload_n 0, 1) := dk_26 (dk_at dksJ21_getChars_0 19 rfl rfl)
theorem dJ21_getChars_20 : decode cJ21_getChars 20 = .ok (.ineg, 1) := dk_116 (dk_at dksJ21_getChars_0 20 rfl rfl)
theorem dJ21_getChars_21 : decode cJ21_getChars 21 = .ok (.istore_n 0, 1) := dk_59 (dk_at dksJ21_getChars_0 21 rfl rfl)
theorem dJ21_getChars_22 : decode cJ21_getChars 22 = .ok (.iload_n 0, 1) := dk_26 (dk_at dksJ21_getChars_0 22 rfl rfl)
theorem dJ21_getChars_23 : decode cJ21_getChars 23 = .ok (.bipush (-100), 2) := dk_16 156 (dk_at dksJ21_getChars_1 0 rfl rfl)
theorem dJ21_getChars_25 : decode cJ21_getChars 25 = .ok (.if_icmp .gt 47, 3) := dk_163 0 47 (dk_at dksJ21_getChars_1 2 rfl rfl)
theorem dJ21_getChars_28 : decode cJ21_getChars 28 = .ok (.iload_n 0, 1) := dk_26 (dk_at dksJ21_getChars_1 5 rfl rfl)
theorem dJ21_getChars_29 : decode cJ21_getChars 29 = .ok (.bipush 100, 2) := dk_16 100 (dk_at dksJ21_getChars_1 6 rfl rfl)
theorem dJ21_getChars_31 : decode cJ21_getChars 31 = .ok (.idiv, 1) := dk_108 (dk_at dksJ21_getChars_1 8 rfl rfl)
theorem dJ21_getChars_32 : decode cJ21_getChars 32 = .ok (.istore_n 3, 1) := dk_62 (dk_at dksJ21_getChars_1 9 rfl rfl)
theorem dJ21_getChars_33 : decode cJ21_getChars 33 = .ok (.iload_n 3, 1) := dk_29 (dk_at dksJ21_getChars_1 10 rfl rfl)
theorem dJ21_getChars_34 : decode cJ21_getChars 34 = .ok (.bipush 100, 2) := dk_16 100 (dk_at dksJ21_getChars_1 11 rfl rfl)
theorem dJ21_getChars_36 : decode cJ21_getChars 36 = .ok (.imul, 1) := dk_104 (dk_at dksJ21_getChars_1 13 rfl rfl)
theorem dJ21_getChars_37 : decode cJ21_getChars 37 = .ok (.iload_n 0, 1) := dk_26 (dk_at dksJ21_getChars_1 14 rfl rfl)
theorem dJ21_getChars_38 : decode cJ21_getChars 38 = .ok (.isub, 1) := dk_100 (dk_at dksJ21_getChars_1 15 rfl rfl)
theorem dJ21_getChars_39 : decode cJ21_getChars 39 = .ok (.istore 4, 2) := dk_54 4 (dk_at dksJ21_getChars_1 16 rfl rfl)
theorem dJ21_getChars_41 : decode cJ21_getChars 41 = .ok (.iload_n 3, 1) := dk_29 (dk_at dksJ21_getChars_1 18 rfl rfl)
theorem dJ21_getChars_42 : decode cJ21_getChars 42 = .ok (.istore_n 0, 1) := dk_59 (dk_at dksJ21_getChars_1 19 rfl rfl)
theorem dJ21_getChars_43 : decode cJ21_getChars 43 = .ok (.aload_n 2, 1) := dk_44 (dk_at dksJ21_getChars_1 20 rfl rfl)
theorem dJ21_getChars_44 : decode cJ21_getChars 44 = .ok (.iinc 5 (-1), 3) := dk_132 5 255 (dk_at dksJ21_getChars_1 21 rfl rfl)
theorem dJ21_getChars_47 : decode cJ21_getChars 47 = .ok (.iload 5, 2) := dk_21 5 (dk_at dksJ21_getChars_2 0 rfl rfl)
theorem dJ21_getChars_49 : decode cJ21_getChars 49 = .ok (.getstatic 83, 3) := dk_178 0 83 (dk_at dksJ21_getChars_2 2 rfl rfl)
theorem dJ21_getChars_52 : decode cJ21_getChars 52 = .ok (.iload 4, 2) := dk_21 4 (dk_at dksJ21_getChars_2 5 rfl rfl)
theorem dJ21_getChars_54 : decode cJ21_getChars 54 = .ok (.baload, 1) := dk_51 (dk_at dksJ21_getChars_2 7 rfl rfl)
theorem dJ21_getChars_55 : decode cJ21_getChars 55 = .ok (.bastore, 1) := dk_84 (dk_at dksJ21_getChars_2 8 rfl rfl)
theorem dJ21_getChars_56 : decode cJ21_getChars 56 = .ok (.aload_n 2, 1) := dk_44 (dk_at dksJ21_getChars_2 9 rfl rfl)
theorem dJ21_getChars_57 : decode cJ21_getChars 57 = .ok (.iinc 5 (-1), 3) := dk_132 5 255 (dk_at dksJ21_getChars_2 10 rfl rfl)
theorem dJ21_getChars_60 : decode cJ21_getChars 60 = .ok (.iload 5, 2) := dk_21 5 (dk_at dksJ21_getChars_2 13 rfl rfl)
theorem dJ21_getChars_62 : decode cJ21_getChars 62 = .ok (.getstatic 87, 3) := dk_178 0 87 (dk_at dksJ21_getChars_2 15 rfl rfl)
theorem dJ21_getChars_65 : decode cJ21_getChars 65 = .ok (.iload 4, 2) := dk_21 4 (dk_at dksJ21_getChars_2 18 rfl rfl)
theorem dJ21_getChars_67 : decode cJ21_getChars 67 = .ok (.baload, 1) := dk_51 (dk_at dksJ21_getChars_2 20 rfl rfl)
theorem dJ21_getChars_68 : decode cJ21_getChars 68 = .ok (.bastore, 1) := dk_84 (dk_at dksJ21_getChars_2 21 rfl rfl)
theorem dJ21_getChars_69 : decode cJ21_getChars 69 = .ok (.goto (-47), 3) := dk_167 255 209 (dk_at dksJ21_getChars_3 0 rfl rfl)
theorem dJ21_getChars_72 : decode cJ21_getChars 72 = .ok (.aload_n 2, 1) := dk_44 (dk_at dksJ21_getChars_3 3 rfl rfl)
theorem dJ21_getChars_73 : decode cJ21_getChars 73 = .ok (.iinc 5 (-1), 3) := dk_132 5 255 (dk_at dksJ21_getChars_3 4 rfl rfl)
theorem dJ21_getChars_76 : decode cJ21_getChars 76 = .ok (.iload 5, 2) := dk_21 5 (dk_at dksJ21_getChars_3 7 rfl rfl)
theorem dJ21_getChars_78 : decode cJ21_getChars 78 = .ok (.getstatic 83, 3) := dk_178 0 83 (dk_at dksJ21_getChars_3 9 rfl rfl)
theorem dJ21_getChars_81 : decode cJ21_getChars 81 = .ok (.iload_n 0, 1) := dk_26 (dk_at dksJ21_getChars_3 12 rfl rfl)
theorem dJ21_getChars_82 : decode cJ21_getChars 82 = .ok (.ineg, 1) := dk_116 (dk_at dksJ21_getChars_3 13 rfl rfl)
theorem dJ21_getChars_83 : decode cJ21_getChars 83 = .ok (.baload, 1) := dk_51 (dk_at dksJ21_getChars_3 14 rfl rfl)
theorem dJ21_getChars_84 : decode cJ21_getChars 84 = .ok (.bastore, 1) := dk_84 (dk_at dksJ21_getChars_3 15 rfl rfl)
theorem dJ21_getChars_85 : decode cJ21_getChars 85 = .ok (.iload_n 0, 1) := dk_26 (dk_at dksJ21_getChars_3 16 rfl rfl)
theorem dJ21_getChars_86 : decode cJ21_getChars 86 = .ok (.bipush (-9), 2) := dk_16 247 (dk_at dksJ21_getChars_3 17 rfl rfl)
theorem dJ21_getChars_88 : decode cJ21_getChars 88 = .ok (.if_icmp .ge 16, 3) := dk_162 0 16 (dk_at dksJ21_getChars_3 19 rfl rfl)
theorem dJ21_getChars_91 : decode cJ21_getChars 91 = .ok (.aload_n 2, 1) := dk_44 (dk_at dksJ21_getChars_3 22 rfl rfl)
theorem dJ21_getChars_92 : decode cJ21_getChars 92 = .ok (.iinc 5 (-1), 3) := dk_132 5 255 (dk_at dksJ21_getChars_4 0 rfl rfl)
theorem dJ21_getChars_95 : decode cJ21_getChars 95 = .ok (.iload 5, 2) := dk_21 5 (dk_at dksJ21_getChars_4 3 rfl rfl)
theorem dJ21_getChars_97 : decode cJ21_getChars 97 = .ok (.getstatic 87, 3) := dk_178 0 87 (dk_at dksJ21_getChars_4 5 rfl rfl)
theorem dJ21_getChars_100 : decode cJ21_getChars 100 = .ok (.iload_n 0, 1) := dk_26 (dk_at dksJ21_getChars_4 8 rfl rfl)
theorem dJ21_getChars_101 : decode cJ21_getChars 101 = .ok (.ineg, 1) := dk_116 (dk_at dksJ21_getChars_4 9 rfl rfl)
theorem dJ21_getChars_102 : decode cJ21_getChars 102 = .ok (.baload, 1) := dk_51 (dk_at dksJ21_getChars_4 10 rfl rfl)
theorem dJ21_getChars_103 : decode cJ21_getChars 103 = .ok (.bastore, 1) := dk_84 (dk_at dksJ21_getChars_4 11 rfl rfl)
theorem dJ21_getChars_104 : decode cJ21_getChars 104 = .ok (.iload 6, 2) := dk_21 6 (dk_at dksJ21_getChars_4 12 rfl rfl)
theorem dJ21_getChars_106 : decode cJ21_getChars 106 = .ok (.ifCond .eq 12, 3) := dk_153 0 12 (dk_at dksJ21_getChars_4 14 rfl rfl)
theorem dJ21_getChars_109 : decode cJ21_getChars 109 = .ok (.aload_n 2, 1) := dk_44 (dk_at dksJ21_getChars_4 17 rfl rfl)
theorem dJ21_getChars_110 : decode cJ21_getChars 110 = .ok (.iinc 5 (-1), 3) := dk_132 5 255 (dk_at dksJ21_getChars_4 18 rfl rfl)
theorem dJ21_getChars_113 : decode cJ21_getChars 113 = .ok (.iload 5, 2) := dk_21 5 (dk_at dksJ21_getChars_4 21 rfl rfl)
theorem dJ21_getChars_115 : decode cJ21_getChars 115 = .ok (.bipush 45, 2) := dk_16 45 (dk_at dksJ21_getChars_5 0 rfl rfl)
theorem dJ21_getChars_117 : decode cJ21_getChars 117 = .ok (.bastore, 1) := dk_84 (dk_at dksJ21_getChars_5 2 rfl rfl)
theorem dJ21_getChars_118 : decode cJ21_getChars 118 = .ok (.iload 5, 2) := dk_21 5 (dk_at dksJ21_getChars_5 3 rfl rfl)
theorem dJ21_getChars_120 : decode cJ21_getChars 120 = .ok (.ireturn, 1) := dk_172 (dk_at dksJ21_getChars_5 5 rfl rfl)
abbrev cJ5_append_2 : ByteArray := prog_27_method_32_code
def dkwJ5_append_2_2 : List UInt8 := [42, 29, 181, 0, 79, 42, 176]
abbrev dktJ5_append_2_2 : List UInt8 := dkwJ5_append_2_2 ++ []
def dkwJ5_append_2_1 : List UInt8 := [27, 29, 42, 180, 0, 15, 184, 0, 248, 87, 167, 0, 14, 27, 28, 29, 42, 180, 0, 15, 184, 0, 251, 87]
abbrev dktJ5_append_2_1 : List UInt8 := dkwJ5_append_2_1 ++ dktJ5_append_2_2
def dkwJ5_append_2_0 : List UInt8 := [42, 180, 0, 79, 61, 28, 27, 184, 0, 245, 96, 62, 42, 29, 182, 0, 100, 42, 182, 0, 83, 153, 0, 16]
abbrev dktJ5_append_2_0 : List UInt8 := dkwJ5_append_2_0 ++ dktJ5_append_2_1
theorem dksJ5_append_2_0 : cJ5_append_2.data.toList.drop 0 = dktJ5_append_2_0 := by decide +kernel
theorem dksJ5_append_2_1 : cJ5_append_2.data.toList.drop 24 = dktJ5_append_2_1 := dk_seg dksJ5_append_2_0 24 rfl rfl
theorem dksJ5_append_2_2 : cJ5_append_2.data.toList.drop 48 = dktJ5_append_2_2 := dk_seg dksJ5_append_2_1 24 rfl rfl
theorem dJ5_append_2_0 : decode cJ5_append_2 0 = .ok (.aload_n 0, 1) := dk_42 (dk_at dksJ5_append_2_0 0 rfl rfl)
theorem dJ5_append_2_1 : decode cJ5_append_2 1 = .ok (.getfield 79, 3) := dk_180 0 79 (dk_at dksJ5_append_2_0 1 rfl rfl)
theorem dJ5_append_2_4 : decode cJ5_append_2 4 = .ok (.istore_n 2, 1) := dk_61 (dk_at dksJ5_append_2_0 4 rfl rfl)
theorem dJ5_append_2_5 : decode cJ5_append_2 5 = .ok (.iload_n 2, 1) := dk_28 (dk_at dksJ5_append_2_0 5 rfl rfl)
theorem dJ5_append_2_6 : decode cJ5_append_2 6 = .ok (.iload_n 1, 1) := dk_27 (dk_at dksJ5_append_2_0 6 rfl rfl)
theorem dJ5_append_2_7 : decode cJ5_append_2 7 = .ok (.invokestatic 245, 3) := dk_184 0 245 (dk_at dksJ5_append_2_0 7 rfl rfl)
theorem dJ5_append_2_10 : decode cJ5_append_2 10 = .ok (.iadd, 1) := dk_96 (dk_at dksJ5_append_2_0 10 rfl rfl)
theorem dJ5_append_2_11 : decode cJ5_append_2 11 = .ok (.istore_n 3, 1) := dk_62 (dk_at dksJ5_append_2_0 11 rfl rfl)
theorem dJ5_append_2_12 : decode cJ5_append_2 12 = .ok (.aload_n 0, 1) := dk_42 (dk_at dksJ5_append_2_0 12 rfl rfl)
theorem dJ5_append_2_13 : decode cJ5_append_2 13 = .ok (.iload_n 3, 1) := dk_29 (dk_at dksJ5_append_2_0 13 rfl rfl)
theorem dJ5_append_2_14 : decode cJ5_append_2 14 = .ok (.invokevirtual 100, 3) := dk_182 0 100 (dk_at dksJ5_append_2_0 14 rfl rfl)
theorem dJ5_append_2_17 : decode cJ5_append_2 17 = .ok (.aload_n 0, 1) := dk_42 (dk_at dksJ5_append_2_0 17 rfl rfl)
theorem dJ5_append_2_18 : decode cJ5_append_2 18 = .ok (.invokevirtual 83, 3) := dk_182 0 83 (dk_at dksJ5_append_2_0 18 rfl rfl)
theorem dJ5_append_2_21 : decode cJ5_append_2 21 = .ok (.ifCond .eq 16, 3) := dk_153 0 16 (dk_at dksJ5_append_2_0 21 rfl rfl)
theorem dJ5_append_2_24 : decode cJ5_append_2 24 = .ok (.iload_n 1, 1) := dk_27 (dk_at dksJ5_append_2_1 0 rfl rfl)
theorem dJ5_append_2_25 : decode cJ5_append_2 25 = .ok (.iload_n 3, 1) := dk_29 (dk_at dksJ5_append_2_1 1 rfl rfl)
theorem dJ5_append_2_26 : decode cJ5_append_2 26 = .ok (.aload_n 0, 1) := dk_42 (dk_at dksJ5_append_2_1 2 rfl rfl)
theorem dJ5_append_2_27 : decode cJ5_append_2 27 = .ok (.getfield 15, 3) := dk_180 0 15 (dk_at dksJ5_append_2_1 3 rfl rfl)
theorem dJ5_append_2_30 : decode cJ5_append_2 30 = .ok (.invokestatic 248, 3) := dk_184 0 248 (dk_at dksJ5_append_2_1 6 rfl rfl)
theorem dJ5_append_2_33 : decode cJ5_append_2 33 = .ok (.pop, 1) := dk_87 (dk_at dksJ5_append_2_1 9 rfl rfl)
theorem dJ5_append_2_34 : decode cJ5_append_2 34 = .ok (.goto 14, 3) := dk_167 0 14 (dk_at dksJ5_append_2_1 10 rfl rfl)
theorem dJ5_append_2_37 : decode cJ5_append_2 37 = .ok (.iload_n 1, 1) := dk_27 (dk_at dksJ5_append_2_1 13 rfl rfl)
theorem dJ5_append_2_38 : decode cJ5_append_2 38 = .ok (.iload_n 2, 1) := dk_28 (dk_at dksJ5_append_2_1 14 rfl rfl)
theorem dJ5_append_2_39 : decode cJ5_append_2 39 = .ok (.iload_n 3, 1) := dk_29 (dk_at dksJ5_append_2_1 15 rfl rfl)
theorem dJ5_append_2_40 : decode cJ5_append_2 40 = .ok (.aload_n 0, 1) := dk_42 (dk_at dksJ5_append_2_1 16 rfl rfl)
theorem dJ5_append_2_41 : decode cJ5_append_2 41 = .ok (.getfield 15, 3) := dk_180 0 15 (dk_at dksJ5_append_2_1 17 rfl rfl)
theorem dJ5_append_2_44 : decode cJ5_append_2 44 = .ok (.invokestatic 251, 3) := dk_184 0 251 (dk_at dksJ5_append_2_1 20 rfl rfl)
theorem dJ5_append_2_47 : decode cJ5_append_2 47 = .ok (.pop, 1) := dk_87 (dk_at dksJ5_append_2_1 23 rfl rfl)
theorem dJ5_append_2_48 : decode cJ5_append_2 48 = .ok (.aload_n 0, 1) := dk_42 (dk_at dksJ5_append_2_2 0 rfl rfl)
theorem dJ5_append_2_49 : decode cJ5_append_2 49 = .ok (.iload_n 3, 1) := dk_29 (dk_at dksJ5_append_2_2 1 rfl rfl)
theorem dJ5_append_2_50 : decode cJ5_append_2 50 = .ok (.putfield 79, 3) := dk_181 0 79 (dk_at dksJ5_append_2_2 2 rfl rfl)
theorem dJ5_append_2_53 : decode cJ5_append_2 53 = .ok (.aload_n 0, 1) := dk_42 (dk_at dksJ5_append_2_2 5 rfl rfl)
theorem dJ5_append_2_54 : decode cJ5_append_2 54 = .ok (.areturn, 1) := dk_176 (dk_at dksJ5_append_2_2 6 rfl rfl)
abbrev cJ6_append_2 : ByteArray := prog_49_method_15_code
def dkwJ6_append_2_0 : List UInt8 := [42, 27, 183, 0, 53, 87, 42, 176]
abbrev dktJ6_append_2_0 : List UInt8 := dkwJ6_append_2_0 ++ []
theorem dksJ6_append_2_0 : cJ6_append_2.data.toList.drop 0 = dktJ6_append_2_0 := by decide +kernel
theorem dJ6_append_2_0 : decode cJ6_append_2 0 = .ok (.aload_n 0, 1) := dk_42 (dk_at dksJ6_append_2_0 0 rfl rfl)
theorem dJ6_append_2_1 : decode cJ6_append_2 1 = .ok (.iload_n 1, 1) := dk_27 (dk_at dksJ6_append_2_0 1 rfl rfl)
theorem dJ6_append_2_2 : decode cJ6_append_2 2 = .ok (.invokespecial 53, 3) := dk_183 0 53 (dk_at dksJ6_append_2_0 2 rfl rfl)
theorem dJ6_append_2_5 : decode cJ6_append_2 5 = .ok (.pop, 1) := dk_87 (dk_at dksJ6_append_2_0 5 rfl rfl)
theorem dJ6_append_2_6 : decode cJ6_append_2 6 = .ok (.aload_n 0, 1) := dk_42 (dk_at dksJ6_append_2_0 6 rfl rfl)
theorem dJ6_append_2_7 : decode cJ6_append_2 7 = .ok (.areturn, 1) := dk_176 (dk_at dksJ6_append_2_0 7 rfl rfl)
abbrev cJ48_init_2 : ByteArray := prog_29_method_1_code
theorem dJ48_init_2_0 : decode cJ48_init_2 0 = .ok (.aload_n 0, 1) := by decide +kernel
theorem dJ48_init_2_1 : decode cJ48_init_2 1 = .ok (.invokespecial 1, 3) := by decide +kernel
theorem dJ48_init_2_4 : decode cJ48_init_2 4 = .ok (.return_, 1) := by decide +kernel
abbrev cJ35_size : ByteArray := prog_98_method_4_code
def dkwJ35_size_0 : List UInt8 := [42, 180, 0, 7, 185, 0, 26, 1, 0, 172]
abbrev dktJ35_size_0 : List UInt8 := dkwJ35_size_0 ++ []
theorem dksJ35_size_0 : cJ35_size.data.toList.drop 0 = dktJ35_size_0 := by decide +kernel
theorem dJ35_size_0 : decode cJ35_size 0 = .ok (.aload_n 0, 1) := dk_42 (dk_at dksJ35_size_0 0 rfl rfl)
theorem dJ35_size_1 : decode cJ35_size 1 = .ok (.getfield 7, 3) := dk_180 0 7 (dk_at dksJ35_size_0 1 rfl rfl)
theorem dJ35_size_4 : decode cJ35_size 4 = .ok (.invokeinterface 26 1, 5) := by decide +kernel
abbrev cJ42_size : ByteArray := prog_102_method_3_code
def dkwJ42_size_0 : List UInt8 := [42, 180, 0, 1, 182, 0, 24, 172]
abbrev dktJ42_size_0 : List UInt8 := dkwJ42_size_0 ++ []
theorem dksJ42_size_0 : cJ42_size.data.toList.drop 0 = dktJ42_size_0 := by decide +kernel
theorem dJ42_size_0 : decode cJ42_size 0 = .ok (.aload_n 0, 1) := dk_42 (dk_at dksJ42_size_0 0 rfl rfl)
theorem dJ42_size_1 : decode cJ42_size 1 = .ok (.getfield 1, 3) := dk_180 0 1 (dk_at dksJ42_size_0 1 rfl rfl)
theorem dJ42_size_4 : decode cJ42_size 4 = .ok (.invokevirtual 24, 3) := dk_182 0 24 (dk_at dksJ42_size_0 4 rfl rfl)
theorem dJ42_size_7 : decode cJ42_size 7 = .ok (.ireturn, 1) := dk_172 (dk_at dksJ42_size_0 7 rfl rfl)
abbrev cJ0_isEmpty : ByteArray := prog_59_method_4_code
def dkwJ0_isEmpty_0 : List UInt8 := [42, 182, 0, 7, 154, 0, 7, 4, 167, 0, 4, 3, 172]
abbrev dktJ0_isEmpty_0 : List UInt8 := dkwJ0_isEmpty_0 ++ []
theorem dksJ0_isEmpty_0 : cJ0_isEmpty.data.toList.drop 0 = dktJ0_isEmpty_0 := by decide +kernel
theorem dJ0_isEmpty_0 : decode cJ0_isEmpty 0 = .ok (.aload_n 0, 1) := dk_42 (dk_at dksJ0_isEmpty_0 0 rfl rfl)
theorem dJ0_isEmpty_1 : decode cJ0_isEmpty 1 = .ok (.invokevirtual 7, 3) := dk_182 0 7 (dk_at dksJ0_isEmpty_0 1 rfl rfl)
theorem dJ0_isEmpty_4 : decode cJ0_isEmpty 4 = .ok (.ifCond .ne 7, 3) := dk_154 0 7 (dk_at dksJ0_isEmpty_0 4 rfl rfl)
theorem dJ0_isEmpty_7 : decode cJ0_isEmpty 7 = .ok (.iconst 1, 1) := dk_4 (dk_at dksJ0_isEmpty_0 7 rfl rfl)
theorem dJ0_isEmpty_8 : decode cJ0_isEmpty 8 = .ok (.goto 4, 3) := dk_167 0 4 (dk_at dksJ0_isEmpty_0 8 rfl rfl)
theorem dJ0_isEmpty_11 : decode cJ0_isEmpty 11 = .ok (.iconst 0, 1) := dk_3 (dk_at dksJ0_isEmpty_0 11 rfl rfl)
theorem dJ0_isEmpty_12 : decode cJ0_isEmpty 12 = .ok (.ireturn, 1) := dk_172 (dk_at dksJ0_isEmpty_0 12 rfl rfl)
abbrev cJ4_removeLast : ByteArray := prog_74_method_12_code
def dkwJ4_removeLast_0 : List UInt8 := [42, 180, 0, 27, 76, 43, 199, 0, 11, 187, 0, 43, 89, 183, 0, 45, 191, 42, 43, 182, 0, 50, 176]
abbrev dktJ4_removeLast_0 : List UInt8 := dkwJ4_removeLast_0 ++ []
theorem dksJ4_removeLast_0 : cJ4_removeLast.data.toList.drop 0 = dktJ4_removeLast_0 := by decide +kernel
theorem dJ4_removeLast_0 : decode cJ4_removeLast 0 = .ok (.aload_n 0, 1) := dk_42 (dk_at dksJ4_removeLast_0 0 rfl rfl)
theorem dJ4_removeLast_1 : decode cJ4_removeLast 1 = .ok (.getfield 27, 3) := dk_180 0 27 (dk_at dksJ4_removeLast_0 1 rfl rfl)
theorem dJ4_removeLast_4 : decode cJ4_removeLast 4 = .ok (.astore_n 1, 1) := dk_76 (dk_at dksJ4_removeLast_0 4 rfl rfl)
theorem dJ4_removeLast_5 : decode cJ4_removeLast 5 = .ok (.aload_n 1, 1) := dk_43 (dk_at dksJ4_removeLast_0 5 rfl rfl)
theorem dJ4_removeLast_6 : decode cJ4_removeLast 6 = .ok (.ifnonnull 11, 3) := dk_199 0 11 (dk_at dksJ4_removeLast_0 6 rfl rfl)
theorem dJ4_removeLast_9 : decode cJ4_removeLast 9 = .ok (.new 43, 3) := dk_187 0 43 (dk_at dksJ4_removeLast_0 9 rfl rfl)
theorem dJ4_removeLast_17 : decode cJ4_removeLast 17 = .ok (.aload_n 0, 1) := dk_42 (dk_at dksJ4_removeLast_0 17 rfl rfl)
theorem dJ4_removeLast_18 : decode cJ4_removeLast 18 = .ok (.aload_n 1, 1) := dk_43 (dk_at dksJ4_removeLast_0 18 rfl rfl)
theorem dJ4_removeLast_19 : decode cJ4_removeLast 19 = .ok (.invokevirtual 50, 3) := dk_182 0 50 (dk_at dksJ4_removeLast_0 19 rfl rfl)
theorem dJ4_removeLast_22 : decode cJ4_removeLast 22 = .ok (.areturn, 1) := dk_176 (dk_at dksJ4_removeLast_0 22 rfl rfl)
abbrev cJ4_unlinkLast : ByteArray := prog_74_method_7_code
def dkwJ4_unlinkLast_2 : List UInt8 := [180, 0, 7, 4, 100, 181, 0, 7, 42, 89, 180, 0, 33, 4, 96, 181, 0, 33, 44, 176]
abbrev dktJ4_unlinkLast_2 : List UInt8 := dkwJ4_unlinkLast_2 ++ []
def dkwJ4_unlinkLast_1 : List UInt8 := [181, 0, 27, 45, 199, 0, 11, 42, 1, 181, 0, 18, 167, 0, 8, 45, 1, 181, 0, 36, 42, 89]
abbrev dktJ4_unlinkLast_1 : List UInt8 := dkwJ4_unlinkLast_1 ++ dktJ4_unlinkLast_2
def dkwJ4_unlinkLast_0 : List UInt8 := [43, 180, 0, 39, 77, 43, 180, 0, 30, 78, 43, 1, 181, 0, 39, 43, 1, 181, 0, 30, 42, 45]
abbrev dktJ4_unlinkLast_0 : List UInt8 := dkwJ4_unlinkLast_0 ++ dktJ4_unlinkLast_1
theorem dksJ4_unlinkLast_0 : cJ4_unlinkLast.data.toList.drop 0 = dktJ4_unlinkLast_0 := by decide +kernel
theorem dksJ4_unlinkLast_1 : cJ4_unlinkLast.data.toList.drop 22 = dktJ4_unlinkLast_1 := dk_seg dksJ4_unlinkLast_0 22 rfl rfl
theorem dksJ4_unlinkLast_2 : cJ4_unlinkLast.data.toList.drop 44 = dktJ4_unlinkLast_2 := dk_seg dksJ4_unlinkLast_1 22 rfl rfl
theorem dJ4_unlinkLast_0 : decode cJ4_unlinkLast 0 = .ok (.aload_n 1, 1) := dk_43 (dk_at dksJ4_unlinkLast_0 0 rfl rfl)
theorem dJ4_unlinkLast_1 : decode cJ4_unlinkLast 1 = .ok (.getfield 39, 3) := dk_180 0 39 (dk_at dksJ4_unlinkLast_0 1 rfl rfl)
theorem dJ4_unlinkLast_4 : decode cJ4_unlinkLast 4 = .ok (.astore_n 2, 1) := dk_77 (dk_at dksJ4_unlinkLast_0 4 rfl rfl)
theorem dJ4_unlinkLast_5 : decode cJ4_unlinkLast 5 = .ok (.aload_n 1, 1) := dk_43 (dk_at dksJ4_unlinkLast_0 5 rfl rfl)
theorem dJ4_unlinkLast_6 : decode cJ4_unlinkLast 6 = .ok (.getfield 30, 3) := dk_180 0 30 (dk_at dksJ4_unlinkLast_0 6 rfl rfl)
theorem dJ4_unlinkLast_9 : decode cJ4_unlinkLast 9 = .ok (.astore_n 3, 1) := dk_78 (dk_at dksJ4_unlinkLast_0 9 rfl rfl)
theorem dJ4_unlinkLast_10 : decode cJ4_unlinkLast 10 = .ok (.aload_n 1, 1) := dk_43 (dk_at dksJ4_unlinkLast_0 10 rfl rfl)
theorem dJ4_unlinkLast_11 : decode cJ4_unlinkLast 11 = .ok (.aconst_null, 1) := dk_1 (dk_at dksJ4_unlinkLast_0 11 rfl rfl)
theorem dJ4_unlinkLast_12 : decode cJ4_unlinkLast 12 = .ok (.putfield 39, 3) := dk_181 0 39 (dk_at dksJ4_unlinkLast_0 12 rfl rfl)
theorem dJ4_unlinkLast_15 : decode cJ4_unlinkLast 15 = .ok (.aload_n 1, 1) := dk_43 (dk_at dksJ4_unlinkLast_0 15 rfl rfl)
theorem dJ4_unlinkLast_16 : decode cJ4_unlinkLast 16 = .ok (.aconst_null, 1) := dk_1 (dk_at dksJ4_unlinkLast_0 16 rfl rfl)
theorem dJ4_unlinkLast_17 : decode cJ4_unlinkLast 17 = .ok (.putfield 30, 3) := dk_181 0 30 (dk_at dksJ4_unlinkLast_0 17 rfl rfl)
theorem dJ4_unlinkLast_20 : decode cJ4_unlinkLast 20 = .ok (.aload_n 0, 1) := dk_42 (dk_at dksJ4_unlinkLast_0 20 rfl rfl)
theorem dJ4_unlinkLast_21 : decode cJ4_unlinkLast 21 = .ok (.aload_n 3, 1) := dk_45 (dk_at dksJ4_unlinkLast_0 21 rfl rfl)
theorem dJ4_unlinkLast_22 : decode cJ4_unlinkLast 22 = .ok (.putfield 27, 3) := dk_181 0 27 (dk_at dksJ4_unlinkLast_1 0 rfl rfl)
theorem dJ4_unlinkLast_25 : decode cJ4_unlinkLast 25 = .ok (.aload_n 3, 1) := dk_45 (dk_at dksJ4_unlinkLast_1 3 rfl rfl)
theorem dJ4_unlinkLast_26 : decode cJ4_unlinkLast 26 = .ok (.ifnonnull 11, 3) := dk_199 0 11 (dk_at dksJ4_unlinkLast_1 4 rfl rfl)
theorem dJ4_unlinkLast_29 : decode cJ4_unlinkLast 29 = .ok (.aload_n 0, 1) := dk_42 (dk_at dksJ4_unlinkLast_1 7 rfl rfl)
theorem dJ4_unlinkLast_30 : decode cJ4_unlinkLast 30 = .ok (.aconst_null, 1) := dk_1 (dk_at dksJ4_unlinkLast_1 8 rfl rfl)
theorem dJ4_unlinkLast_31 : decode cJ4_unlinkLast 31 = .ok (.putfield 18, 3) := dk_181 0 18 (dk_at dksJ4_unlinkLast_1 9 rfl rfl)
theorem dJ4_unlinkLast_34 : decode cJ4_unlinkLast 34 = .ok (.goto 8, 3) := dk_167 0 8 (dk_at dksJ4_unlinkLast_1 12 rfl rfl)
theorem dJ4_unlinkLast_37 : decode cJ4_unlinkLast 37 = .ok (.aload_n 3, 1) := dk_45 (dk_at dksJ4_unlinkLast_1 15 rfl rfl)
theorem dJ4_unlinkLast_38 : decode cJ4_unlinkLast 38 = .ok (.aconst_null, 1) := dk_1 (dk_at dksJ4_unlinkLast_1 16 rfl rfl)
theorem dJ4_unlinkLast_39 : decode cJ4_unlinkLast 39 = .ok (.putfield 36, 3) := dk_181 0 36 (dk_at dksJ4_unlinkLast_1 17 rfl rfl)
theorem dJ4_unlinkLast_42 : decode cJ4_unlinkLast 42 = .ok (.aload_n 0, 1) := dk_42 (dk_at dksJ4_unlinkLast_1 20 rfl rfl)
theorem dJ4_unlinkLast_43 : decode cJ4_unlinkLast 43 = .ok (.dup, 1) := dk_89 (dk_at dksJ4_unlinkLast_1 21 rfl rfl)
theorem dJ4_unlinkLast_44 : decode cJ4_unlinkLast 44 = .ok (.getfield 7, 3) := dk_180 0 7 (dk_at dksJ4_unlinkLast_2 0 rfl rfl)
theorem dJ4_unlinkLast_47 : decode cJ4_unlinkLast 47 = .ok (.iconst 1, 1) := dk_4 (dk_at dksJ4_unlinkLast_2 3 rfl rfl)
theorem dJ4_unlinkLast_48 : decode cJ4_unlinkLast 48 = .ok (.isub, 1) := dk_100 (dk_at dksJ4_unlinkLast_2 4 rfl rfl)
theorem dJ4_unlinkLast_49 : decode cJ4_unlinkLast 49 = .ok (.putfield 7, 3) := dk_181 0 7 (dk_at dksJ4_unlinkLast_2 5 rfl rfl)
theorem dJ4_unlinkLast_52 : decode cJ4_unlinkLast 52 = .ok (.aload_n 0, 1) := dk_42 (dk_at dksJ4_unlinkLast_2 8 rfl rfl)
theorem dJ4_unlinkLast_53 : decode cJ4_unlinkLast 53 = .ok (.dup, 1) := dk_89 (dk_at dksJ4_unlinkLast_2 9 rfl rfl)
theorem dJ4_unlinkLast_54 : decode cJ4_unlinkLast 54 = .ok (.getfield 33, 3) := dk_180 0 33 (dk_at dksJ4_unlinkLast_2 10 rfl rfl)
theorem dJ4_unlinkLast_57 : decode cJ4_unlinkLast 57 = .ok (.iconst 1, 1) := dk_4 (dk_at dksJ4_unlinkLast_2 13 rfl rfl)
theorem dJ4_unlinkLast_58 : decode cJ4_unlinkLast 58 = .ok (.iadd, 1) := dk_96 (dk_at dksJ4_unlinkLast_2 14 rfl rfl)
theorem dJ4_unlinkLast_59 : decode cJ4_unlinkLast 59 = .ok (.putfield 33, 3) := dk_181 0 33 (dk_at dksJ4_unlinkLast_2 15 rfl rfl)
theorem dJ4_unlinkLast_62 : decode cJ4_unlinkLast 62 = .ok (.aload_n 2, 1) := dk_44 (dk_at dksJ4_unlinkLast_2 18 rfl rfl)
theorem dJ4_unlinkLast_63 : decode cJ4_unlinkLast 63 = .ok (.areturn, 1) := dk_176 (dk_at dksJ4_unlinkLast_2 19 rfl rfl)
abbrev cJ19_indexOf_3 : ByteArray := prog_51_method_22_code
def dkwJ19_indexOf_3_1 : List UInt8 := [161, 0, 5, 2, 172, 42, 27, 28, 29, 184, 0, 95, 172]
abbrev dktJ19_indexOf_3_1 : List UInt8 := dkwJ19_indexOf_3_1 ++ []
def dkwJ19_indexOf_3_0 : List UInt8 := [27, 184, 0, 88, 154, 0, 5, 2, 172, 28, 3, 184, 0, 92, 61, 29, 42, 190, 184, 0, 38, 62, 28, 29]
abbrev dktJ19_indexOf_3_0 : List UInt8 := dkwJ19_indexOf_3_0 ++ dktJ19_indexOf_3_1
theorem dksJ19_indexOf_3_0 : cJ19_indexOf_3.data.toList.drop 0 = dktJ19_indexOf_3_0 := by decide +kernel
theorem dksJ19_indexOf_3_1 : cJ19_indexOf_3.data.toList.drop 24 = dktJ19_indexOf_3_1 := dk_seg dksJ19_indexOf_3_0 24 rfl rfl
theorem dJ19_indexOf_3_0 : decode cJ19_indexOf_3 0 = .ok (.iload_n 1, 1) := dk_27 (dk_at dksJ19_indexOf_3_0 0 rfl rfl)
theorem dJ19_indexOf_3_1 : decode cJ19_indexOf_3 1 = .ok (.invokestatic 88, 3) := dk_184 0 88 (dk_at dksJ19_indexOf_3_0 1 rfl rfl)
theorem dJ19_indexOf_3_4 : decode cJ19_indexOf_3 4 = .ok (.ifCond .ne 5, 3) := dk_154 0 5 (dk_at dksJ19_indexOf_3_0 4 rfl rfl)
theorem dJ19_indexOf_3_7 : decode cJ19_indexOf_3 7 = .ok (.iconst (-1), 1) := dk_2 (dk_at dksJ19_indexOf_3_0 7 rfl rfl)
theorem dJ19_indexOf_3_8 : decode cJ19_indexOf_3 8 = .ok (.ireturn, 1) := dk_172 (dk_at dksJ19_indexOf_3_0 8 rfl rfl)
theorem dJ19_indexOf_3_9 : decode cJ19_indexOf_3 9 = .ok (.iload_n 2, 1) := dk_28 (dk_at dksJ19_indexOf_3_0 9 rfl rfl)
theorem dJ19_indexOf_3_10 : decode cJ19_indexOf_3 10 = .ok (.iconst 0, 1) := dk_3 (dk_at dksJ19_indexOf_3_0 10 rfl rfl)
theorem dJ19_indexOf_3_11 : decode cJ19_indexOf_3 11 = .ok (.invokestatic 92, 3) := dk_184 0 92 (dk_at dksJ19_indexOf_3_0 11 rfl rfl)
theorem dJ19_indexOf_3_14 : decode cJ19_indexOf_3 14 = .ok (.istore_n 2, 1) := dk_61 (dk_at dksJ19_indexOf_3_0 14 rfl rfl)
theorem dJ19_indexOf_3_15 : decode cJ19_indexOf_3 15 = .ok (.iload_n 3, 1) := dk_29 (dk_at dksJ19_indexOf_3_0 15 rfl rfl)
theorem dJ19_indexOf_3_16 : decode cJ19_indexOf_3 16 = .ok (.aload_n 0, 1) := dk_42 (dk_at dksJ19_indexOf_3_0 16 rfl rfl)
theorem dJ19_indexOf_3_17 : decode cJ19_indexOf_3 17 = .ok (.arraylength, 1) := dk_190 (dk_at dksJ19_indexOf_3_0 17 rfl rfl)
theorem dJ19_indexOf_3_18 : decode cJ19_indexOf_3 18 = .ok (.invokestatic 38, 3) := dk_184 0 38 (dk_at dksJ19_indexOf_3_0 18 rfl rfl)
theorem dJ19_indexOf_3_21 : decode cJ19_indexOf_3 21 = .ok (.istore_n 3, 1) := dk_62 (dk_at dksJ19_indexOf_3_0 21 rfl rfl)
theorem dJ19_indexOf_3_22 : decode cJ19_indexOf_3 22 = .ok (.iload_n 2, 1) := dk_28 (dk_at dksJ19_indexOf_3_0 22 rfl rfl)
theorem dJ19_indexOf_3_23 : decode cJ19_indexOf_3 23 = .ok (.iload_n 3, 1) := dk_29 (dk_at dksJ19_indexOf_3_0 23 rfl rfl)
theorem dJ19_indexOf_3_24 : decode cJ19_indexOf_3 24 = .ok (.if_icmp .lt 5, 3) := dk_161 0 5 (dk_at dksJ19_indexOf_3_1 0 rfl rfl)
theorem dJ19_indexOf_3_27 : decode cJ19_indexOf_3 27 = .ok (.iconst (-1), 1) := dk_2 (dk_at dksJ19_indexOf_3_1 3 rfl rfl)
theorem dJ19_indexOf_3_28 : decode cJ19_indexOf_3 28 = .ok (.ireturn, 1) := dk_172 (dk_at dksJ19_indexOf_3_1 4 rfl rfl)
theorem dJ19_indexOf_3_29 : decode cJ19_indexOf_3 29 = .ok (.aload_n 0, 1) := dk_42 (dk_at dksJ19_indexOf_3_1 5 rfl rfl)
theorem dJ19_indexOf_3_30 : decode cJ19_indexOf_3 30 = .ok (.iload_n 1, 1) := dk_27 (dk_at dksJ19_indexOf_3_1 6 rfl rfl)
theorem dJ19_indexOf_3_31 : decode cJ19_indexOf_3 31 = .ok (.iload_n 2, 1) := dk_28 (dk_at dksJ19_indexOf_3_1 7 rfl rfl)
theorem dJ19_indexOf_3_32 : decode cJ19_indexOf_3 32 = .ok (.iload_n 3, 1) := dk_29 (dk_at dksJ19_indexOf_3_1 8 rfl rfl)
theorem dJ19_indexOf_3_33 : decode cJ19_indexOf_3 33 = .ok (.invokestatic 95, 3) := dk_184 0 95 (dk_at dksJ19_indexOf_3_1 9 rfl rfl)
theorem dJ19_indexOf_3_36 : decode cJ19_indexOf_3 36 = .ok (.ireturn, 1) := dk_172 (dk_at dksJ19_indexOf_3_1 12 rfl rfl)
abbrev cJ19_canEncode_2 : ByteArray := prog_51_method_4_code
def dkwJ19_canEncode_2_0 : List UInt8 := [26, 155, 0, 14, 26, 17, 0, 255, 163, 0, 7, 4, 167, 0, 4, 3, 172]
abbrev dktJ19_canEncode_2_0 : List UInt8 := dkwJ19_canEncode_2_0 ++ []
theorem dksJ19_canEncode_2_0 : cJ19_canEncode_2.data.toList.drop 0 = dktJ19_canEncode_2_0 := by decide +kernel
theorem dJ19_canEncode_2_0 : decode cJ19_canEncode_2 0 = .ok (.iload_n 0, 1) := dk_26 (dk_at dksJ19_canEncode_2_0 0 rfl rfl)
theorem dJ19_canEncode_2_1 : decode cJ19_canEncode_2 1 = .ok (.ifCond .lt 14, 3) := dk_155 0 14 (dk_at dksJ19_canEncode_2_0 1 rfl rfl)
theorem dJ19_canEncode_2_4 : decode cJ19_canEncode_2 4 = .ok (.iload_n 0, 1) := dk_26 (dk_at dksJ19_canEncode_2_0 4 rfl rfl)
theorem dJ19_canEncode_2_5 : decode cJ19_canEncode_2 5 = .ok (.sipush 255, 3) := dk_17 0 255 (dk_at dksJ19_canEncode_2_0 5 rfl rfl)
theorem dJ19_canEncode_2_8 : decode cJ19_canEncode_2 8 = .ok (.if_icmp .gt 7, 3) := dk_163 0 7 (dk_at dksJ19_canEncode_2_0 8 rfl rfl)
theorem dJ19_canEncode_2_11 : decode cJ19_canEncode_2 11 = .ok (.iconst 1, 1) := dk_4 (dk_at dksJ19_canEncode_2_0 11 rfl rfl)
theorem dJ19_canEncode_2_12 : decode cJ19_canEncode_2 12 = .ok (.goto 4, 3) := dk_167 0 4 (dk_at dksJ19_canEncode_2_0 12 rfl rfl)
theorem dJ19_canEncode_2_15 : decode cJ19_canEncode_2 15 = .ok (.iconst 0, 1) := dk_3 (dk_at dksJ19_canEncode_2_0 15 rfl rfl)
theorem dJ19_canEncode_2_16 : decode cJ19_canEncode_2 16 = .ok (.ireturn, 1) := dk_172 (dk_at dksJ19_canEncode_2_0 16 rfl rfl)
abbrev cJ19_indexOfChar : ByteArray := prog_51_method_23_code
def dkwJ19_indexOfChar_1 : List UInt8 := [172, 132, 5, 1, 167, 255, 235, 2, 172]
abbrev dktJ19_indexOfChar_1 : List UInt8 := dkwJ19_indexOfChar_1 ++ []
def dkwJ19_indexOfChar_0 : List UInt8 := [27, 145, 54, 4, 28, 54, 5, 21, 5, 29, 162, 0, 21, 42, 21, 5, 51, 21, 4, 160, 0, 6, 21, 5]
abbrev dktJ19_indexOfChar_0 : List UInt8 := dkwJ19_indexOfChar_0 ++ dktJ19_indexOfChar_1
theorem dksJ19_indexOfChar_0 : cJ19_indexOfChar.data.toList.drop 0 = dktJ19_indexOfChar_0 := by decide +kernel
theorem dksJ19_indexOfChar_1 : cJ19_indexOfChar.data.toList.drop 24 = dktJ19_indexOfChar_1 := dk_seg dksJ19_indexOfChar_0 24 rfl rfl
theorem dJ19_indexOfChar_0 : decode cJ19_indexOfChar 0 = .ok (.iload_n 1, 1) := dk_27 (dk_at dksJ19_indexOfChar_0 0 rfl rfl)
theorem dJ19_indexOfChar_1 : decode cJ19_indexOfChar 1 = .ok (.i2b, 1) := dk_145 (dk_at dksJ19_indexOfChar_0 1 rfl rfl)
theorem dJ19_indexOfChar_2 : decode cJ19_indexOfChar 2 = .ok (.istore 4, 2) := dk_54 4 (dk_at dksJ19_indexOfChar_0 2 rfl rfl)
theorem dJ19_indexOfChar_4 : decode cJ19_indexOfChar 4 = .ok (.iload_n 2, 1) := dk_28 (dk_at dksJ19_indexOfChar_0 4 rfl rfl)
theorem dJ19_indexOfChar_5 : decode cJ19_indexOfChar 5 = .ok (.istore 5, 2) := dk_54 5 (dk_at dksJ19_indexOfChar_0 5 rfl rfl)
theorem dJ19_indexOfChar_7 : decode cJ19_indexOfChar 7 = .ok (.iload 5, 2) := dk_21 5 (dk_at dksJ19_indexOfChar_0 7 rfl rfl)
theorem dJ19_indexOfChar_9 : decode cJ19_indexOfChar 9 = .ok (.iload_n 3, 1) := dk_29 (dk_at dksJ19_indexOfChar_0 9 rfl rfl)
theorem dJ19_indexOfChar_10 : decode cJ19_indexOfChar 10 = .ok (.if_icmp .ge 21, 3) := dk_162 0 21 (dk_at dksJ19_indexOfChar_0 10 rfl rfl)
theorem dJ19_indexOfChar_13 : decode cJ19_indexOfChar 13 = .ok (.aload_n 0, 1) := dk_42 (dk_at dksJ19_indexOfChar_0 13 rfl rfl)
theorem dJ19_indexOfChar_14 : decode cJ19_indexOfChar 14 = .ok (.iload 5, 2) := dk_21 5 (dk_at dksJ19_indexOfChar_0 14 rfl rfl)
theorem dJ19_indexOfChar_16 : decode cJ19_indexOfChar 16 = .ok (.baload, 1) := dk_51 (dk_at dksJ19_indexOfChar_0 16 rfl rfl)
theorem dJ19_indexOfChar_17 : decode cJ19_indexOfChar 17 = .ok (.iload 4, 2) := dk_21 4 (dk_at dksJ19_indexOfChar_0 17 rfl rfl)
theorem dJ19_indexOfChar_19 : decode cJ19_indexOfChar 19 = .ok (.if_icmp .ne 6, 3) := dk_160 0 6 (dk_at dksJ19_indexOfChar_0 19 rfl rfl)
theorem dJ19_indexOfChar_22 : decode cJ19_indexOfChar 22 = .ok (.iload 5, 2) := dk_21 5 (dk_at dksJ19_indexOfChar_0 22 rfl rfl)
theorem dJ19_indexOfChar_24 : decode cJ19_indexOfChar 24 = .ok (.ireturn, 1) := dk_172 (dk_at dksJ19_indexOfChar_1 0 rfl rfl)
theorem dJ19_indexOfChar_25 : decode cJ19_indexOfChar 25 = .ok (.iinc 5 1, 3) := dk_132 5 1 (dk_at dksJ19_indexOfChar_1 1 rfl rfl)
theorem dJ19_indexOfChar_28 : decode cJ19_indexOfChar 28 = .ok (.goto (-21), 3) := dk_167 255 235 (dk_at dksJ19_indexOfChar_1 4 rfl rfl)
theorem dJ19_indexOfChar_31 : decode cJ19_indexOfChar 31 = .ok (.iconst (-1), 1) := dk_2 (dk_at dksJ19_indexOfChar_1 7 rfl rfl)
theorem dJ19_indexOfChar_32 : decode cJ19_indexOfChar 32 = .ok (.ireturn, 1) := dk_172 (dk_at dksJ19_indexOfChar_1 8 rfl rfl)
abbrev cJ19_newString : ByteArray := prog_51_method_47_code
def dkwJ19_newString_0 : List UInt8 := [28, 154, 0, 6, 18, 151, 176, 187, 0, 1, 89, 42, 27, 27, 28, 96, 184, 0, 232, 3, 183, 0, 112, 176]
abbrev dktJ19_newString_0 : List UInt8 := dkwJ19_newString_0 ++ []
theorem dksJ19_newString_0 : cJ19_newString.data.toList.drop 0 = dktJ19_newString_0 := by decide +kernel
theorem dJ19_newString_0 : decode cJ19_newString 0 = .ok (.iload_n 2, 1) := dk_28 (dk_at dksJ19_newString_0 0 rfl rfl)
theorem dJ19_newString_1 : decode cJ19_newString 1 = .ok (.ifCond .ne 6, 3) := dk_154 0 6 (dk_at dksJ19_newString_0 1 rfl rfl)
theorem dJ19_newString_4 : decode cJ19_newString 4 = .ok (.ldc 151, 2) := dk_18 151 (dk_at dksJ19_newString_0 4 rfl rfl)
theorem dJ19_newString_7 : decode cJ19_newString 7 = .ok (.new 1, 3) := dk_187 0 1 (dk_at dksJ19_newString_0 7 rfl rfl)
theorem dJ19_newString_10 : decode cJ19_newString 10 = .ok (.dup, 1) := dk_89 (dk_at dksJ19_newString_0 10 rfl rfl)
theorem dJ19_newString_11 : decode cJ19_newString 11 = .ok (.aload_n 0, 1) := dk_42 (dk_at dksJ19_newString_0 11 rfl rfl)
theorem dJ19_newString_12 : decode cJ19_newString 12 = .ok (.iload_n 1, 1) := dk_27 (dk_at dksJ19_newString_0 12 rfl rfl)
theorem dJ19_newString_13 : decode cJ19_newString 13 = .ok (.iload_n 1, 1) := dk_27 (dk_at dksJ19_newString_0 13 rfl rfl)
theorem dJ19_newString_14 : decode cJ19_newString 14 = .ok (.iload_n 2, 1) := dk_28 (dk_at dksJ19_newString_0 14 rfl rfl)
theorem dJ19_newString_15 : decode cJ19_newString 15 = .ok (.iadd, 1) := dk_96 (dk_at dksJ19_newString_0 15 rfl rfl)
theorem dJ19_newString_16 : decode cJ19_newString 16 = .ok (.invokestatic 232, 3) := dk_184 0 232 (dk_at dksJ19_newString_0 16 rfl rfl)
theorem dJ19_newString_19 : decode cJ19_newString 19 = .ok (.iconst 0, 1) := dk_3 (dk_at dksJ19_newString_0 19 rfl rfl)
theorem dJ19_newString_20 : decode cJ19_newString 20 = .ok (.invokespecial 112, 3) := dk_183 0 112 (dk_at dksJ19_newString_0 20 rfl rfl)
theorem dJ19_newString_23 : decode cJ19_newString 23 = .ok (.areturn, 1) := dk_176 (dk_at dksJ19_newString_0 23 rfl rfl)
abbrev cJ47_isValidCodePoint : ByteArray := prog_32_method_11_code
def dkwJ47_isValidCodePoint_0 : List UInt8 := [26, 16, 16, 124, 60, 27, 16, 17, 162, 0, 7, 4, 167, 0, 4, 3, 172]
abbrev dktJ47_isValidCodePoint_0 : List UInt8 := dkwJ47_isValidCodePoint_0 ++ []
theorem dksJ47_isValidCodePoint_0 : cJ47_isValidCodePoint.data.toList.drop 0 = dktJ47_isValidCodePoint_0 := by decide +kernel
theorem dJ47_isValidCodePoint_0 : decode cJ47_isValidCodePoint 0 = .ok (.iload_n 0, 1) := dk_26 (dk_at dksJ47_isValidCodePoint_0 0 rfl rfl)
theorem dJ47_isValidCodePoint_1 : decode cJ47_isValidCodePoint 1 = .ok (.bipush 16, 2) := dk_16 16 (dk_at dksJ47_isValidCodePoint_0 1 rfl rfl)
theorem dJ47_isValidCodePoint_3 : decode cJ47_isValidCodePoint 3 = .ok (.iushr, 1) := dk_124 (dk_at dksJ47_isValidCodePoint_0 3 rfl rfl)
theorem dJ47_isValidCodePoint_4 : decode cJ47_isValidCodePoint 4 = .ok (.istore_n 1, 1) := dk_60 (dk_at dksJ47_isValidCodePoint_0 4 rfl rfl)
theorem dJ47_isValidCodePoint_5 : decode cJ47_isValidCodePoint 5 = .ok (.iload_n 1, 1) := dk_27 (dk_at dksJ47_isValidCodePoint_0 5 rfl rfl)
theorem dJ47_isValidCodePoint_6 : decode cJ47_isValidCodePoint 6 = .ok (.bipush 17, 2) := dk_16 17 (dk_at dksJ47_isValidCodePoint_0 6 rfl rfl)
theorem dJ47_isValidCodePoint_8 : decode cJ47_isValidCodePoint 8 = .ok (.if_icmp .ge 7, 3) := dk_162 0 7 (dk_at dksJ47_isValidCodePoint_0 8 rfl rfl)
theorem dJ47_isValidCodePoint_11 : decode cJ47_isValidCodePoint 11 = .ok (.iconst 1, 1) := dk_4 (dk_at dksJ47_isValidCodePoint_0 11 rfl rfl)
theorem dJ47_isValidCodePoint_12 : decode cJ47_isValidCodePoint 12 = .ok (.goto 4, 3) := dk_167 0 4 (dk_at dksJ47_isValidCodePoint_0 12 rfl rfl)
theorem dJ47_isValidCodePoint_15 : decode cJ47_isValidCodePoint 15 = .ok (.iconst 0, 1) := dk_3 (dk_at dksJ47_isValidCodePoint_0 15 rfl rfl)
theorem dJ47_isValidCodePoint_16 : decode cJ47_isValidCodePoint 16 = .ok (.ireturn, 1) := dk_172 (dk_at dksJ47_isValidCodePoint_0 16 rfl rfl)
abbrev cJ47_highSurrogate : ByteArray := prog_32_method_28_code
def dkwJ47_highSurrogate_0 : List UInt8 := [26, 16, 10, 124, 18, 110, 96, 146, 172]
abbrev dktJ47_highSurrogate_0 : List UInt8 := dkwJ47_highSurrogate_0 ++ []
theorem dksJ47_highSurrogate_0 : cJ47_highSurrogate.data.toList.drop 0 = dktJ47_highSurrogate_0 := by decide +kernel
theorem dJ47_highSurrogate_0 : decode cJ47_highSurrogate 0 = .ok (.iload_n 0, 1) := dk_26 (dk_at dksJ47_highSurrogate_0 0 rfl rfl)
theorem dJ47_highSurrogate_1 : decode cJ47_highSurrogate 1 = .ok (.bipush 10, 2) := dk_16 10 (dk_at dksJ47_highSurrogate_0 1 rfl rfl)
theorem dJ47_highSurrogate_3 : decode cJ47_highSurrogate 3 = .ok (.iushr, 1) := dk_124 (dk_at dksJ47_highSurrogate_0 3 rfl rfl)
theorem dJ47_highSurrogate_4 : decode cJ47_highSurrogate 4 = .ok (.ldc 110, 2) := dk_18 110 (dk_at dksJ47_highSurrogate_0 4 rfl rfl)
theorem dJ47_highSurrogate_6 : decode cJ47_highSurrogate 6 = .ok (.iadd, 1) := dk_96 (dk_at dksJ47_highSurrogate_0 6 rfl rfl)
theorem dJ47_highSurrogate_7 : decode cJ47_highSurrogate 7 = .ok (.i2c, 1) := dk_146 (dk_at dksJ47_highSurrogate_0 7 rfl rfl)
theorem dJ47_highSurrogate_8 : decode cJ47_highSurrogate 8 = .ok (.ireturn, 1) := dk_172 (dk_at dksJ47_highSurrogate_0 8 rfl rfl)
abbrev cJ47_lowSurrogate : ByteArray := prog_32_method_29_code
def dkwJ47_lowSurrogate_0 : List UInt8 := [26, 17, 3, 255, 126, 18, 76, 96, 146, 172]
abbrev dktJ47_lowSurrogate_0 : List UInt8 := dkwJ47_lowSurrogate_0 ++ []
theorem dksJ47_lowSurrogate_0 : cJ47_lowSurrogate.data.toList.drop 0 = dktJ47_lowSurrogate_0 := by decide +kernel
theorem dJ47_lowSurrogate_0 : decode cJ47_lowSurrogate 0 = .ok (.iload_n 0, 1) := dk_26 (dk_at dksJ47_lowSurrogate_0 0 rfl rfl)
theorem dJ47_lowSurrogate_1 : decode cJ47_lowSurrogate 1 = .ok (.sipush 1023, 3) := dk_17 3 255 (dk_at dksJ47_lowSurrogate_0 1 rfl rfl)
theorem dJ47_lowSurrogate_4 : decode cJ47_lowSurrogate 4 = .ok (.iand, 1) := dk_126 (dk_at dksJ47_lowSurrogate_0 4 rfl rfl)
theorem dJ47_lowSurrogate_5 : decode cJ47_lowSurrogate 5 = .ok (.ldc 76, 2) := dk_18 76 (dk_at dksJ47_lowSurrogate_0 5 rfl rfl)
theorem dJ47_lowSurrogate_7 : decode cJ47_lowSurrogate 7 = .ok (.iadd, 1) := dk_96 (dk_at dksJ47_lowSurrogate_0 7 rfl rfl)
theorem dJ47_lowSurrogate_8 : decode cJ47_lowSurrogate 8 = .ok (.i2c, 1) := dk_146 (dk_at dksJ47_lowSurrogate_0 8 rfl rfl)
theorem dJ47_lowSurrogate_9 : decode cJ47_lowSurrogate 9 = .ok (.ireturn, 1) := dk_172 (dk_at dksJ47_lowSurrogate_0 9 rfl rfl)
theorem q177 : (Jvm.Cond.initialized "java/lang/Character") ∈ lw_all := lw_g (lw_at lw_m1 70 rfl) rfl
theorem q585 : (Jvm.Cond.methodLink "java/lang/StringBuilder" (53 : Nat) ({ cls := "java/lang/AbstractStringBuilder", name := "append", desc := "(I)Ljava/lang/AbstractStringBuilder;" } : Jvm.MethodName)) ∈ lw_all := lw_g (lw_at lw_m2 238 rfl) rfl
theorem q586 : (Jvm.Cond.instanceMethod ({ cls := "java/lang/AbstractStringBuilder", name := "append", desc := "(I)Ljava/lang/AbstractStringBuilder;" } : Jvm.MethodName)) ∈ lw_all := lw_g (lw_at lw_m2 239 rfl) rfl
theorem q587 : (Jvm.Cond.code ({ cls := "java/lang/AbstractStringBuilder", name := "append", desc := "(I)Ljava/lang/AbstractStringBuilder;" } : Jvm.MethodName) prog_27_method_32_code (4 : Nat) (Option.some (Jvm.ClassFile.FieldType.object "java/lang/AbstractStringBuilder"))) ∈ lw_all := lw_g (lw_at lw_m3 0 rfl) rfl
theorem q588 : (Jvm.Cond.methodLink "java/lang/AbstractStringBuilder" (245 : Nat) ({ cls := "java/lang/Integer", name := "stringSize", desc := "(I)I" } : Jvm.MethodName)) ∈ lw_all := lw_g (lw_at lw_m3 1 rfl) rfl
theorem q589 : (Jvm.Cond.static ({ cls := "java/lang/Integer", name := "stringSize", desc := "(I)I" } : Jvm.MethodName)) ∈ lw_all := lw_g (lw_at lw_m3 2 rfl) rfl
theorem q590 : (Jvm.Cond.code ({ cls := "java/lang/Integer", name := "stringSize", desc := "(I)I" } : Jvm.MethodName) prog_40_method_13_code (4 : Nat) (Option.some Jvm.ClassFile.FieldType.int)) ∈ lw_all := lw_g (lw_at lw_m3 3 rfl) rfl
theorem q591 : (Jvm.Cond.methodLink "java/lang/AbstractStringBuilder" (248 : Nat) ({ cls := "java/lang/Integer", name := "getChars", desc := "(II[B)I" } : Jvm.MethodName)) ∈ lw_all := lw_g (lw_at lw_m3 4 rfl) rfl
theorem q592 : (Jvm.Cond.static ({ cls := "java/lang/Integer", name := "getChars", desc := "(II[B)I" } : Jvm.MethodName)) ∈ lw_all := lw_g (lw_at lw_m3 5 rfl) rfl
theorem q593 : (Jvm.Cond.code ({ cls := "java/lang/Integer", name := "getChars", desc := "(II[B)I" } : Jvm.MethodName) prog_40_method_12_code (7 : Nat) (Option.some Jvm.ClassFile.FieldType.int)) ∈ lw_all := lw_g (lw_at lw_m3 6 rfl) rfl
theorem q594 : (Jvm.Cond.fieldLink "java/lang/Integer" (83 : Nat) "java/lang/Integer" "DigitOnes" "[B") ∈ lw_all := lw_g (lw_at lw_m3 7 rfl) rfl
theorem q596 : (Jvm.Cond.fieldLink "java/lang/Integer" (87 : Nat) "java/lang/Integer" "DigitTens" "[B") ∈ lw_all := lw_g (lw_at lw_m3 9 rfl) rfl
theorem q598 : (Jvm.Cond.methodLink "java/lang/AbstractStringBuilder" (251 : Nat) ({ cls := "java/lang/StringUTF16", name := "getChars", desc := "(III[B)I" } : Jvm.MethodName)) ∈ lw_all := lw_g (lw_at lw_m3 11 rfl) rfl
theorem q599 : (Jvm.Cond.static ({ cls := "java/lang/StringUTF16", name := "getChars", desc := "(III[B)I" } : Jvm.MethodName)) ∈ lw_all := lw_g (lw_at lw_m3 12 rfl) rfl
theorem q600 : (Jvm.Cond.code ({ cls := "java/lang/StringUTF16", name := "getChars", desc := "(III[B)I" } : Jvm.MethodName) prog_52_method_77_code (5 : Nat) (Option.some Jvm.ClassFile.FieldType.int)) ∈ lw_all := lw_g (lw_at lw_m3 13 rfl) rfl
theorem q601 : (Jvm.Cond.methodLink "java/lang/StringUTF16" (393 : Nat) ({ cls := "java/lang/StringUTF16", name := "getChars", desc := "(II[B)I" } : Jvm.MethodName)) ∈ lw_all := lw_g (lw_at lw_m3 14 rfl) rfl
theorem q602 : (Jvm.Cond.static ({ cls := "java/lang/StringUTF16", name := "getChars", desc := "(II[B)I" } : Jvm.MethodName)) ∈ lw_all := lw_g (lw_at lw_m3 15 rfl) rfl
theorem q603 : (Jvm.Cond.code ({ cls := "java/lang/StringUTF16", name := "getChars", desc := "(II[B)I" } : Jvm.MethodName) prog_52_method_89_code (7 : Nat) (Option.some Jvm.ClassFile.FieldType.int)) ∈ lw_all := lw_g (lw_at lw_m3 16 rfl) rfl
theorem q604 : (Jvm.Cond.fieldLink "java/lang/StringUTF16" (403 : Nat) "java/lang/Integer" "DigitOnes" "[B") ∈ lw_all := lw_g (lw_at lw_m3 17 rfl) rfl
theorem q605 : (Jvm.Cond.fieldLink "java/lang/StringUTF16" (407 : Nat) "java/lang/Integer" "DigitTens" "[B") ∈ lw_all := lw_g (lw_at lw_m3 18 rfl) rfl
theorem q792 : (Jvm.Cond.declares ({ cls := "java/util/AbstractCollection", name := "size", desc := "()I" } : Jvm.MethodName)) ∈ lw_tbl := lw_at lw_m3 205 rfl
theorem mv792 : (Jvm.Cond.declares ({ cls := "java/util/AbstractCollection", name := "size", desc := "()I" } : Jvm.MethodName)) ∈ lw_mv := List.mem_filter.mpr ⟨q792, rfl⟩
theorem q794 : (Jvm.Cond.instanceMethod ({ cls := "java/util/ArrayList", name := "size", desc := "()I" } : Jvm.MethodName)) ∈ lw_all := lw_g (lw_at lw_m3 207 rfl) rfl
theorem q795 : (Jvm.Cond.code ({ cls := "java/util/ArrayList", name := "size", desc := "()I" } : Jvm.MethodName) prog_66_method_8_code (1 : Nat) (Option.some Jvm.ClassFile.FieldType.int)) ∈ lw_all := lw_g (lw_at lw_m3 208 rfl) rfl
theorem q797 : (Jvm.Cond.instanceMethod ({ cls := "java/util/LinkedList", name := "size", desc := "()I" } : Jvm.MethodName)) ∈ lw_all := lw_g (lw_at lw_m3 210 rfl) rfl
theorem q798 : (Jvm.Cond.code ({ cls := "java/util/LinkedList", name := "size", desc := "()I" } : Jvm.MethodName) prog_74_method_16_code (1 : Nat) (Option.some Jvm.ClassFile.FieldType.int)) ∈ lw_all := lw_g (lw_at lw_m3 211 rfl) rfl
theorem q1297 : (Jvm.Cond.methodLink "java/util/AbstractCollection" (7 : Nat) ({ cls := "java/util/AbstractCollection", name := "size", desc := "()I" } : Jvm.MethodName)) ∈ lw_all := lw_g (lw_at lw_m5 230 rfl) rfl
theorem q1302 : (Jvm.Cond.selects "java/util/TreeMap" ({ cls := "java/util/TreeMap", name := "size", desc := "()I" } : Jvm.MethodName) ({ cls := "java/util/TreeMap", name := "size", desc := "()I" } : Jvm.MethodName)) ∈ lw_all := lw_g (lw_at lw_m5 235 rfl) rfl
theorem q1304 : (Jvm.Cond.instanceMethod ({ cls := "java/util/TreeMap$KeySet", name := "size", desc := "()I" } : Jvm.MethodName)) ∈ lw_all := lw_g (lw_at lw_m5 237 rfl) rfl
theorem q1305 : (Jvm.Cond.code ({ cls := "java/util/TreeMap$KeySet", name := "size", desc := "()I" } : Jvm.MethodName) prog_98_method_4_code (1 : Nat) (Option.some Jvm.ClassFile.FieldType.int)) ∈ lw_all := lw_g (lw_at lw_m5 238 rfl) rfl
theorem q1313 : (Jvm.Cond.instanceMethod ({ cls := "java/util/TreeMap$Values", name := "size", desc := "()I" } : Jvm.MethodName)) ∈ lw_all := lw_g (lw_at lw_m6 6 rfl) rfl
theorem q1314 : (Jvm.Cond.code ({ cls := "java/util/TreeMap$Values", name := "size", desc := "()I" } : Jvm.MethodName) prog_102_method_3_code (1 : Nat) (Option.some Jvm.ClassFile.FieldType.int)) ∈ lw_all := lw_g (lw_at lw_m6 7 rfl) rfl
theorem q1315 : (Jvm.Cond.methodLink "java/util/TreeMap$Values" (24 : Nat) ({ cls := "java/util/TreeMap", name := "size", desc := "()I" } : Jvm.MethodName)) ∈ lw_all := lw_g (lw_at lw_m6 8 rfl) rfl
theorem q1614 : (Jvm.Cond.methodLink "java/lang/StringLatin1" (38 : Nat) ({ cls := "java/lang/Math", name := "min", desc := "(II)I" } : Jvm.MethodName)) ∈ lw_all := lw_g (lw_at lw_m7 67 rfl) rfl
theorem q1728 : (Jvm.Cond.methodLink "java/lang/StringUTF16" (183 : Nat) ({ cls := "java/lang/Math", name := "min", desc := "(II)I" } : Jvm.MethodName)) ∈ lw_all := lw_g (lw_at lw_m7 181 rfl) rfl
theorem q3099 : (Jvm.Cond.instanceMethod ({ cls := "java/lang/String", name := "<init>", desc := "([BB)V" } : Jvm.MethodName)) ∈ lw_all := lw_g (lw_at lw_m13 112 rfl) rfl
theorem q3100 : (Jvm.Cond.code ({ cls := "java/lang/String", name := "<init>", desc := "([BB)V" } : Jvm.MethodName) prog_48_method_151_code (3 : Nat) (Option.none : Option Jvm.ClassFile.FieldType)) ∈ lw_all := lw_g (lw_at lw_m13 113 rfl) rfl
theorem q3118 : (Jvm.Cond.methodLink "java/lang/String" (710 : Nat) ({ cls := "java/lang/CharSequence", name := "toString", desc := "()Ljava/lang/String;" } : Jvm.MethodName)) ∈ lw_all := lw_g (lw_at lw_m13 131 rfl) rfl
theorem q3126 : (Jvm.Cond.selects "java/lang/StringBuilder" ({ cls := "java/lang/CharSequence", name := "toString", desc := "()Ljava/lang/String;" } : Jvm.MethodName) ({ cls := "java/lang/StringBuilder", name := "toString", desc := "()Ljava/lang/String;" } : Jvm.MethodName)) ∈ lw_all := lw_g (lw_at lw_m13 139 rfl) rfl
theorem q3129 : (Jvm.Cond.methodLink "java/lang/String" (711 : Nat) ({ cls := "java/lang/String", name := "indexOf", desc := "(Ljava/lang/String;)I" } : Jvm.MethodName)) ∈ lw_all := lw_g (lw_at lw_m13 142 rfl) rfl
theorem q3130 : (Jvm.Cond.instanceMethod ({ cls := "java/lang/String", name := "indexOf", desc := "(Ljava/lang/String;)I" } : Jvm.MethodName)) ∈ lw_all := lw_g (lw_at lw_m13 143 rfl) rfl
theorem q3131 : (Jvm.Cond.selects "java/lang/String" ({ cls := "java/lang/String", name := "indexOf", desc := "(Ljava/lang/String;)I" } : Jvm.MethodName) ({ cls := "java/lang/String", name := "indexOf", desc := "(Ljava/lang/String;)I" } : Jvm.MethodName)) ∈ lw_all := lw_g (lw_at lw_m13 144 rfl) rfl
theorem q3132 : (Jvm.Cond.code ({ cls := "java/lang/String", name := "indexOf", desc := "(Ljava/lang/String;)I" } : Jvm.MethodName) prog_48_method_84_code (3 : Nat) (Option.some Jvm.ClassFile.FieldType.int)) ∈ lw_all := lw_g (lw_at lw_m13 145 rfl) rfl
theorem q3133 : (Jvm.Cond.methodLink "java/lang/String" (647 : Nat) ({ cls := "java/lang/StringLatin1", name := "indexOf", desc := "([B[B)I" } : Jvm.MethodName)) ∈ lw_all := lw_g (lw_at lw_m13 146 rfl) rfl
theorem q3134 : (Jvm.Cond.static ({ cls := "java/lang/StringLatin1", name := "indexOf", desc := "([B[B)I" } : Jvm.MethodName)) ∈ lw_all := lw_g (lw_at lw_m13 147 rfl) rfl
theorem q3135 : (Jvm.Cond.code ({ cls := "java/lang/StringLatin1", name := "indexOf", desc := "([B[B)I" } : Jvm.MethodName) prog_51_method_24_code (2 : Nat) (Option.some Jvm.ClassFile.FieldType.int)) ∈ lw_all := lw_g (lw_at lw_m13 148 rfl) rfl
theorem q3139 : (Jvm.Cond.methodLink "java/lang/String" (649 : Nat) ({ cls := "java/lang/StringUTF16", name := "indexOf", desc := "([B[B)I" } : Jvm.MethodName)) ∈ lw_all := lw_g (lw_at lw_m13 152 rfl) rfl
theorem q3140 : (Jvm.Cond.static ({ cls := "java/lang/StringUTF16", name := "indexOf", desc := "([B[B)I" } : Jvm.MethodName)) ∈ lw_all := lw_g (lw_at lw_m13 153 rfl) rfl
theorem q3141 : (Jvm.Cond.code ({ cls := "java/lang/StringUTF16", name := "indexOf", desc := "([B[B)I" } : Jvm.MethodName) prog_52_method_41_code (2 : Nat) (Option.some Jvm.ClassFile.FieldType.int)) ∈ lw_all := lw_g (lw_at lw_m13 154 rfl) rfl
theorem q3145 : (Jvm.Cond.methodLink "java/lang/String" (650 : Nat) ({ cls := "java/lang/StringUTF16", name := "indexOfLatin1", desc := "([B[B)I" } : Jvm.MethodName)) ∈ lw_all := lw_g (lw_at lw_m13 158 rfl) rfl
theorem q3146 : (Jvm.Cond.static ({ cls := "java/lang/StringUTF16", name := "indexOfLatin1", desc := "([B[B)I" } : Jvm.MethodName)) ∈ lw_all := lw_g (lw_at lw_m13 159 rfl) rfl
theorem q3147 : (Jvm.Cond.code ({ cls := "java/lang/StringUTF16", name := "indexOfLatin1", desc := "([B[B)I" } : Jvm.MethodName) prog_52_method_44_code (2 : Nat) (Option.some Jvm.ClassFile.FieldType.int)) ∈ lw_all := lw_g (lw_at lw_m13 160 rfl) rfl
theorem q3148 : (Jvm.Cond.methodLink "java/lang/StringUTF16" (238 : Nat) ({ cls := "java/lang/StringUTF16", name := "indexOfLatin1Unsafe", desc := "([BI[BII)I" } : Jvm.MethodName)) ∈ lw_all := lw_g (lw_at lw_m13 161 rfl) rfl
theorem q3149 : (Jvm.Cond.static ({ cls := "java/lang/StringUTF16", name := "indexOfLatin1Unsafe", desc := "([BI[BII)I" } : Jvm.MethodName)) ∈ lw_all := lw_g (lw_at lw_m13 162 rfl) rfl
theorem q3150 : (Jvm.Cond.code ({ cls := "java/lang/StringUTF16", name := "indexOfLatin1Unsafe", desc := "([BI[BII)I" } : Jvm.MethodName) prog_52_method_46_code (11 : Nat) (Option.some Jvm.ClassFile.FieldType.int)) ∈ lw_all := lw_g (lw_at lw_m13 163 rfl) rfl
theorem q3332 : (Jvm.Cond.methodLink "java/lang/ArithmeticException" (1 : Nat) ({ cls := "java/lang/RuntimeException", name := "<init>", desc := "()V" } : Jvm.MethodName)) ∈ lw_all := lw_g (lw_at lw_m14 105 rfl) rfl
theorem q3358 : (Jvm.Cond.methodLink "java/util/LinkedList" (50 : Nat) ({ cls := "java/util/LinkedList", name := "unlinkLast", desc := "(Ljava/util/LinkedList$Node;)Ljava/lang/Object;" } : Jvm.MethodName)) ∈ lw_all := lw_g (lw_at lw_m14 131 rfl) rfl
theorem q3360 : (Jvm.Cond.instanceMethod ({ cls := "java/util/LinkedList", name := "unlinkLast", desc := "(Ljava/util/LinkedList$Node;)Ljava/lang/Object;" } : Jvm.MethodName)) ∈ lw_all := lw_g (lw_at lw_m14 133 rfl) rfl
theorem q3361 : (Jvm.Cond.code ({ cls := "java/util/LinkedList", name := "unlinkLast", desc := "(Ljava/util/LinkedList$Node;)Ljava/lang/Object;" } : Jvm.MethodName) prog_74_method_7_code (4 : Nat) (Option.some (Jvm.ClassFile.FieldType.object "java/lang/Object"))) ∈ lw_all := lw_g (lw_at lw_m14 134 rfl) rfl
theorem q3742 : (Jvm.Cond.methodLink "java/lang/String" (505 : Nat) ({ cls := "java/lang/String", name := "length", desc := "()I" } : Jvm.MethodName)) ∈ lw_all := lw_g (lw_at lw_m16 35 rfl) rfl
theorem q3743 : (Jvm.Cond.methodLink "java/lang/String" (637 : Nat) ({ cls := "java/lang/StringLatin1", name := "indexOf", desc := "([BIII)I" } : Jvm.MethodName)) ∈ lw_all := lw_g (lw_at lw_m16 36 rfl) rfl
theorem q3744 : (Jvm.Cond.static ({ cls := "java/lang/StringLatin1", name := "indexOf", desc := "([BIII)I" } : Jvm.MethodName)) ∈ lw_all := lw_g (lw_at lw_m16 37 rfl) rfl
theorem q3745 : (Jvm.Cond.code ({ cls := "java/lang/StringLatin1", name := "indexOf", desc := "([BIII)I" } : Jvm.MethodName) prog_51_method_22_code (4 : Nat) (Option.some Jvm.ClassFile.FieldType.int)) ∈ lw_all := lw_g (lw_at lw_m16 38 rfl) rfl
theorem q3746 : (Jvm.Cond.methodLink "java/lang/StringLatin1" (88 : Nat) ({ cls := "java/lang/StringLatin1", name := "canEncode", desc := "(I)Z" } : Jvm.MethodName)) ∈ lw_all := lw_g (lw_at lw_m16 39 rfl) rfl
theorem q3747 : (Jvm.Cond.static ({ cls := "java/lang/StringLatin1", name := "canEncode", desc := "(I)Z" } : Jvm.MethodName)) ∈ lw_all := lw_g (lw_at lw_m16 40 rfl) rfl
theorem q3748 : (Jvm.Cond.code ({ cls := "java/lang/StringLatin1", name := "canEncode", desc := "(I)Z" } : Jvm.MethodName) prog_51_method_4_code (1 : Nat) (Option.some Jvm.ClassFile.FieldType.boolean)) ∈ lw_all := lw_g (lw_at lw_m16 41 rfl) rfl
theorem q3749 : (Jvm.Cond.methodLink "java/lang/StringLatin1" (92 : Nat) ({ cls := "java/lang/Math", name := "max", desc := "(II)I" } : Jvm.MethodName)) ∈ lw_all := lw_g (lw_at lw_m16 42 rfl) rfl
theorem q3750 : (Jvm.Cond.methodLink "java/lang/StringLatin1" (95 : Nat) ({ cls := "java/lang/StringLatin1", name := "indexOfChar", desc := "([BIII)I" } : Jvm.MethodName)) ∈ lw_all := lw_g (lw_at lw_m16 43 rfl) rfl
theorem q3751 : (Jvm.Cond.static ({ cls := "java/lang/StringLatin1", name := "indexOfChar", desc := "([BIII)I" } : Jvm.MethodName)) ∈ lw_all := lw_g (lw_at lw_m16 44 rfl) rfl
theorem q3752 : (Jvm.Cond.code ({ cls := "java/lang/StringLatin1", name := "indexOfChar", desc := "([BIII)I" } : Jvm.MethodName) prog_51_method_23_code (6 : Nat) (Option.some Jvm.ClassFile.FieldType.int)) ∈ lw_all := lw_g (lw_at lw_m16 45 rfl) rfl
theorem q3753 : (Jvm.Cond.methodLink "java/lang/String" (640 : Nat) ({ cls := "java/lang/StringUTF16", name := "indexOf", desc := "([BIII)I" } : Jvm.MethodName)) ∈ lw_all := lw_g (lw_at lw_m16 46 rfl) rfl
theorem q3754 : (Jvm.Cond.static ({ cls := "java/lang/StringUTF16", name := "indexOf", desc := "([BIII)I" } : Jvm.MethodName)) ∈ lw_all := lw_g (lw_at lw_m16 47 rfl) rfl
theorem q3755 : (Jvm.Cond.code ({ cls := "java/lang/StringUTF16", name := "indexOf", desc := "([BIII)I" } : Jvm.MethodName) prog_52_method_40_code (4 : Nat) (Option.some Jvm.ClassFile.FieldType.int)) ∈ lw_all := lw_g (lw_at lw_m16 48 rfl) rfl
theorem q3756 : (Jvm.Cond.methodLink "java/lang/StringUTF16" (224 : Nat) ({ cls := "java/lang/Math", name := "max", desc := "(II)I" } : Jvm.MethodName)) ∈ lw_all := lw_g (lw_at lw_m16 49 rfl) rfl
theorem q3757 : (Jvm.Cond.constant "java/lang/StringUTF16" (227 : Nat) (65536 : Int32)) ∈ lw_all := lw_g (lw_at lw_m16 50 rfl) rfl
theorem q3758 : (Jvm.Cond.methodLink "java/lang/StringUTF16" (228 : Nat) ({ cls := "java/lang/StringUTF16", name := "indexOfChar", desc := "([BIII)I" } : Jvm.MethodName)) ∈ lw_all := lw_g (lw_at lw_m16 51 rfl) rfl
theorem q3759 : (Jvm.Cond.static ({ cls := "java/lang/StringUTF16", name := "indexOfChar", desc := "([BIII)I" } : Jvm.MethodName)) ∈ lw_all := lw_g (lw_at lw_m16 52 rfl) rfl
theorem q3760 : (Jvm.Cond.code ({ cls := "java/lang/StringUTF16", name := "indexOfChar", desc := "([BIII)I" } : Jvm.MethodName) prog_52_method_47_code (4 : Nat) (Option.some Jvm.ClassFile.FieldType.int)) ∈ lw_all := lw_g (lw_at lw_m16 53 rfl) rfl
theorem q3761 : (Jvm.Cond.methodLink "java/lang/StringUTF16" (244 : Nat) ({ cls := "java/lang/StringUTF16", name := "indexOfCharUnsafe", desc := "([BIII)I" } : Jvm.MethodName)) ∈ lw_all := lw_g (lw_at lw_m16 54 rfl) rfl
theorem q3762 : (Jvm.Cond.static ({ cls := "java/lang/StringUTF16", name := "indexOfCharUnsafe", desc := "([BIII)I" } : Jvm.MethodName)) ∈ lw_all := lw_g (lw_at lw_m16 55 rfl) rfl
theorem q3763 : (Jvm.Cond.code ({ cls := "java/lang/StringUTF16", name := "indexOfCharUnsafe", desc := "([BIII)I" } : Jvm.MethodName) prog_52_method_48_code (5 : Nat) (Option.some Jvm.ClassFile.FieldType.int)) ∈ lw_all := lw_g (lw_at lw_m16 56 rfl) rfl
theorem q3764 : (Jvm.Cond.methodLink "java/lang/StringUTF16" (232 : Nat) ({ cls := "java/lang/StringUTF16", name := "indexOfSupplementary", desc := "([BIII)I" } : Jvm.MethodName)) ∈ lw_all := lw_g (lw_at lw_m16 57 rfl) rfl
theorem q3765 : (Jvm.Cond.static ({ cls := "java/lang/StringUTF16", name := "indexOfSupplementary", desc := "([BIII)I" } : Jvm.MethodName)) ∈ lw_all := lw_g (lw_at lw_m16 58 rfl) rfl
theorem q3766 : (Jvm.Cond.code ({ cls := "java/lang/StringUTF16", name := "indexOfSupplementary", desc := "([BIII)I" } : Jvm.MethodName) prog_52_method_49_code (7 : Nat) (Option.some Jvm.ClassFile.FieldType.int)) ∈ lw_all := lw_g (lw_at lw_m16 59 rfl) rfl
theorem q3767 : (Jvm.Cond.methodLink "java/lang/StringUTF16" (164 : Nat) ({ cls := "java/lang/Character", name := "isValidCodePoint", desc := "(I)Z" } : Jvm.MethodName)) ∈ lw_all := lw_g (lw_at lw_m16 60 rfl) rfl
theorem q3768 : (Jvm.Cond.static ({ cls := "java/lang/Character", name := "isValidCodePoint", desc := "(I)Z" } : Jvm.MethodName)) ∈ lw_all := lw_g (lw_at lw_m16 61 rfl) rfl
theorem q3769 : (Jvm.Cond.code ({ cls := "java/lang/Character", name := "isValidCodePoint", desc := "(I)Z" } : Jvm.MethodName) prog_32_method_11_code (2 : Nat) (Option.some Jvm.ClassFile.FieldType.boolean)) ∈ lw_all := lw_g (lw_at lw_m16 62 rfl) rfl
theorem q3770 : (Jvm.Cond.methodLink "java/lang/StringUTF16" (157 : Nat) ({ cls := "java/lang/Character", name := "highSurrogate", desc := "(I)C" } : Jvm.MethodName)) ∈ lw_all := lw_g (lw_at lw_m16 63 rfl) rfl
theorem q3771 : (Jvm.Cond.static ({ cls := "java/lang/Character", name := "highSurrogate", desc := "(I)C" } : Jvm.MethodName)) ∈ lw_all := lw_g (lw_at lw_m16 64 rfl) rfl
theorem q3772 : (Jvm.Cond.code ({ cls := "java/lang/Character", name := "highSurrogate", desc := "(I)C" } : Jvm.MethodName) prog_32_method_28_code (1 : Nat) (Option.some Jvm.ClassFile.FieldType.char)) ∈ lw_all := lw_g (lw_at lw_m16 65 rfl) rfl
theorem q3773 : (Jvm.Cond.constant "java/lang/Character" (110 : Nat) (55232 : Int32)) ∈ lw_all := lw_g (lw_at lw_m16 66 rfl) rfl
theorem q3774 : (Jvm.Cond.methodLink "java/lang/StringUTF16" (161 : Nat) ({ cls := "java/lang/Character", name := "lowSurrogate", desc := "(I)C" } : Jvm.MethodName)) ∈ lw_all := lw_g (lw_at lw_m16 67 rfl) rfl
theorem q3775 : (Jvm.Cond.static ({ cls := "java/lang/Character", name := "lowSurrogate", desc := "(I)C" } : Jvm.MethodName)) ∈ lw_all := lw_g (lw_at lw_m16 68 rfl) rfl
theorem q3776 : (Jvm.Cond.code ({ cls := "java/lang/Character", name := "lowSurrogate", desc := "(I)C" } : Jvm.MethodName) prog_32_method_29_code (1 : Nat) (Option.some Jvm.ClassFile.FieldType.char)) ∈ lw_all := lw_g (lw_at lw_m16 69 rfl) rfl
theorem q3777 : (Jvm.Cond.constant "java/lang/Character" (76 : Nat) (56320 : Int32)) ∈ lw_all := lw_g (lw_at lw_m16 70 rfl) rfl
theorem q3783 : (Jvm.Cond.methodLink "java/lang/String" (521 : Nat) ({ cls := "java/lang/String", name := "checkBoundsBeginEnd", desc := "(III)V" } : Jvm.MethodName)) ∈ lw_all := lw_g (lw_at lw_m16 76 rfl) rfl
theorem q3784 : (Jvm.Cond.methodLink "java/lang/String" (685 : Nat) ({ cls := "java/lang/StringLatin1", name := "newString", desc := "([BII)Ljava/lang/String;" } : Jvm.MethodName)) ∈ lw_all := lw_g (lw_at lw_m16 77 rfl) rfl
theorem q3785 : (Jvm.Cond.static ({ cls := "java/lang/StringLatin1", name := "newString", desc := "([BII)Ljava/lang/String;" } : Jvm.MethodName)) ∈ lw_all := lw_g (lw_at lw_m16 78 rfl) rfl
theorem q3786 : (Jvm.Cond.code ({ cls := "java/lang/StringLatin1", name := "newString", desc := "([BII)Ljava/lang/String;" } : Jvm.MethodName) prog_51_method_47_code (3 : Nat) (Option.some (Jvm.ClassFile.FieldType.object "java/lang/String"))) ∈ lw_all := lw_g (lw_at lw_m16 79 rfl) rfl
theorem q3788 : (Jvm.Cond.classLink "java/lang/StringLatin1" (1 : Nat) "java/lang/String") ∈ lw_all := lw_g (lw_at lw_m16 81 rfl) rfl
theorem q3789 : (Jvm.Cond.methodLink "java/lang/StringLatin1" (232 : Nat) ({ cls := "java/util/Arrays", name := "copyOfRange", desc := "([BII)[B" } : Jvm.MethodName)) ∈ lw_all := lw_g (lw_at lw_m16 82 rfl) rfl
theorem q3790 : (Jvm.Cond.methodLink "java/lang/StringLatin1" (112 : Nat) ({ cls := "java/lang/String", name := "<init>", desc := "([BB)V" } : Jvm.MethodName)) ∈ lw_all := lw_g (lw_at lw_m16 83 rfl) rfl
theorem q3791 : (Jvm.Cond.methodLink "java/lang/String" (689 : Nat) ({ cls := "java/lang/StringUTF16", name := "newString", desc := "([BII)Ljava/lang/String;" } : Jvm.MethodName)) ∈ lw_all := lw_g (lw_at lw_m16 84 rfl) rfl
theorem q3792 : (Jvm.Cond.static ({ cls := "java/lang/StringUTF16", name := "newString", desc := "([BII)Ljava/lang/String;" } : Jvm.MethodName)) ∈ lw_all := lw_g (lw_at lw_m16 85 rfl) rfl
theorem q3793 : (Jvm.Cond.code ({ cls := "java/lang/StringUTF16", name := "newString", desc := "([BII)Ljava/lang/String;" } : Jvm.MethodName) prog_52_method_69_code (5 : Nat) (Option.some (Jvm.ClassFile.FieldType.object "java/lang/String"))) ∈ lw_all := lw_g (lw_at lw_m16 86 rfl) rfl
theorem q3795 : (Jvm.Cond.fieldLink "java/lang/StringUTF16" (251 : Nat) "java/lang/String" "COMPACT_STRINGS" "Z") ∈ lw_all := lw_g (lw_at lw_m16 88 rfl) rfl
theorem q3796 : (Jvm.Cond.methodLink "java/lang/StringUTF16" (257 : Nat) ({ cls := "java/lang/StringUTF16", name := "compress", desc := "([BII)[B" } : Jvm.MethodName)) ∈ lw_all := lw_g (lw_at lw_m16 89 rfl) rfl
theorem q3797 : (Jvm.Cond.methodLink "java/lang/StringUTF16" (259 : Nat) ({ cls := "java/lang/StringUTF16", name := "coderFromArrayLen", desc := "([BI)B" } : Jvm.MethodName)) ∈ lw_all := lw_g (lw_at lw_m16 90 rfl) rfl
theorem q3798 : (Jvm.Cond.classLink "java/lang/StringUTF16" (3 : Nat) "java/lang/String") ∈ lw_all := lw_g (lw_at lw_m16 91 rfl) rfl
theorem q3799 : (Jvm.Cond.methodLink "java/lang/StringUTF16" (263 : Nat) ({ cls := "java/lang/String", name := "<init>", desc := "([BB)V" } : Jvm.MethodName)) ∈ lw_all := lw_g (lw_at lw_m16 92 rfl) rfl
theorem q3889 : (Jvm.Cond.sameMethod "java/lang/AbstractStringBuilder" "java/lang/AbstractStringBuilder" "append" "(I)Ljava/lang/AbstractStringBuilder;") ∈ lw_all := lw_g (lw_at lw_m16 182 rfl) rfl
theorem q3891 : (Jvm.Cond.sameMethod "java/util/AbstractCollection" "java/util/AbstractCollection" "size" "()I") ∈ lw_all := lw_g (lw_at lw_m16 184 rfl) rfl
theorem q3892 : (Jvm.Cond.selects "java/util/ArrayList" ({ cls := "java/util/AbstractCollection", name := "size", desc := "()I" } : Jvm.MethodName) ({ cls := "java/util/ArrayList", name := "size", desc := "()I" } : Jvm.MethodName)) ∈ lw_all := lw_g (lw_at lw_m16 185 rfl) rfl
theorem q3893 : (Jvm.Cond.selects "java/util/LinkedList" ({ cls := "java/util/AbstractCollection", name := "size", desc := "()I" } : Jvm.MethodName) ({ cls := "java/util/LinkedList", name := "size", desc := "()I" } : Jvm.MethodName)) ∈ lw_all := lw_g (lw_at lw_m16 186 rfl) rfl
theorem q3895 : (Jvm.Cond.selects "java/util/TreeMap$KeySet" ({ cls := "java/util/AbstractCollection", name := "size", desc := "()I" } : Jvm.MethodName) ({ cls := "java/util/TreeMap$KeySet", name := "size", desc := "()I" } : Jvm.MethodName)) ∈ lw_all := lw_g (lw_at lw_m16 188 rfl) rfl
theorem q3896 : (Jvm.Cond.selects "java/util/TreeMap$Values" ({ cls := "java/util/AbstractCollection", name := "size", desc := "()I" } : Jvm.MethodName) ({ cls := "java/util/TreeMap$Values", name := "size", desc := "()I" } : Jvm.MethodName)) ∈ lw_all := lw_g (lw_at lw_m16 189 rfl) rfl
abbrev ck_J8_indexOfLatin1Unsafe : CK := ("java/lang/StringUTF16", prog_52_method_46_code, 11, (some .int), "indexOfLatin1Unsafe", [], 3)
def f_J8_indexOfLatin1Unsafe_L161 (γ : GP) (x0 : Nat) (x2 : Nat) (x3 : Int32) (x5 : Int32) (x6 : Int32) (x7 : Int32) (x9 : Int32) (K194 : Int32 → AH → Option (Int32 × AH)) : Nat → Int32 → Int32 → AH → Option (Int32 × AH)
  | 0, _, _, _ => none
  | n + 1, x8, x10, g => (if x9 ≤ x8 then K194 x8 g else bI (f_J8_getChar γ x0 x8 g) fun v16 g15 => gA g15 102 x2 x10 fun v17 => (if v16 = (v17 &&& (255 : Int32)) then f_J8_indexOfLatin1Unsafe_L161 γ x0 x2 x3 x5 x6 x7 x9 K194 n (x8 + (1 : Int32)) (x10 + (1 : Int32)) g15 else K194 x8 g15))
def f_J8_indexOfLatin1Unsafe_L113 (γ : GP) (x0 : Nat) (x2 : Nat) (x3 : Int32) (x5 : Int32) (x6 : Int32) (K137 : Int32 → AH → Option (Int32 × AH)) : Nat → Int32 → AH → Option (Int32 × AH)
  | 0, _, _ => none
  | n + 1, x7, g => (if x6 < (x7 + (1 : Int32)) then K137 (x7 + (1 : Int32)) g else bI (f_J8_getChar γ x0 (x7 + (1 : Int32)) g) fun v21 g20 => (if v21 = x5 then K137 (x7 + (1 : Int32)) g20 else f_J8_indexOfLatin1Unsafe_L113 γ x0 x2 x3 x5 x6 K137 n (x7 + (1 : Int32)) g20))
def f_J8_indexOfLatin1Unsafe_L95 (γ : GP) (x0 : Nat) (x2 : Nat) (x3 : Int32) (x5 : Int32) (x6 : Int32) : Nat → Int32 → AH → Option (Int32 × AH)
  | 0, _, _ => none
  | n + 1, x7, g => (if x6 < x7 then (some ((-1 : Int32), g)) else bI (f_J8_getChar γ x0 x7 g) fun v11 g10 => jn (fun (y12 : Int32) (g13 : AH) => (if x6 < y12 then f_J8_indexOfLatin1Unsafe_L95 γ x0 x2 x3 x5 x6 n (y12 + (1 : Int32)) g13 else f_J8_indexOfLatin1Unsafe_L161 γ x0 x2 x3 x5 x6 y12 (((y12 + (1 : Int32)) + x3) - (1 : Int32)) (fun (y18 : Int32) (g19 : AH) => (if y18 = (((y12 + (1 : Int32)) + x3) - (1 : Int32)) then (some (y12, g19)) else f_J8_indexOfLatin1Unsafe_L95 γ x0 x2 x3 x5 x6 n (y12 + (1 : Int32)) g19)) FU (y12 + (1 : Int32)) (1 : Int32) g13)) (fun (j14 : Int32 → AH → Option (Int32 × AH)) => (if v11 = x5 then j14 x7 g10 else f_J8_indexOfLatin1Unsafe_L113 γ x0 x2 x3 x5 x6 (fun (y22 : Int32) (g23 : AH) => j14 y22 g23) FU x7 g10)))
def f_J8_indexOfLatin1Unsafe (γ : GP) (x0 : Nat) (x1 : Int32) (x2 : Nat) (x3 : Int32) (x4 : Int32) (g : AH) : Option (Int32 × AH) := jn (fun (g1 : AH) => jn (fun (g3 : AH) => jn (fun (g5 : AH) => jn (fun (g7 : AH) => gA g7 102 x2 (0 : Int32) fun v9 => f_J8_indexOfLatin1Unsafe_L95 γ x0 x2 x3 (((v9 &&& (255 : Int32))).toUInt32 % 65536).toInt32 (x1 - x3) FU x4 g7) (fun (j8 : AH → Option (Int32 × AH)) => (if (1 : Int32) = 0 then (if x3 ≤ x1 then j8 g5 else none) else j8 g5))) (fun (j6 : AH → Option (Int32 × AH)) => (if (1 : Int32) = 0 then gL g3 x2 fun v24 => (if x3 ≤ v24 then j6 g3 else none) else j6 g3))) (fun (j4 : AH → Option (Int32 × AH)) => (if (1 : Int32) = 0 then (if 0 < x3 then j4 g1 else none) else j4 g1))) (fun (j2 : AH → Option (Int32 × AH)) => (if (1 : Int32) = 0 then (if 0 ≤ x4 then j2 g else none) else j2 g))
theorem f_J8_indexOfLatin1Unsafe_L161_w (γ : GP) (l : Launch) (hl : l.stackTraces = false) (G0 : AH) (x0 : Nat) (x2 : Nat) (x3 : Int32) (x5 : Int32) (x6 : Int32) (x7 : Int32) (x9 : Int32) (K194 : Int32 → AH → Option (Int32 × AH)) (h_K194 : ∀ (y8 : Int32) (g : AH), AW ρI γ l ck_J8_indexOfLatin1Unsafe G0 194 [(0, .ref x0), (2, .ref x2), (3, .int x3), (5, .int x5), (6, .int x6), (7, .int x7), (8, .int y8), (9, .int x9)] [] g (K194 y8 g)) : ∀ (n : Nat) (x8 : Int32) (x10 : Int32) (g : AH), AW ρI γ l ck_J8_indexOfLatin1Unsafe G0 161 [(0, .ref x0), (2, .ref x2), (3, .int x3), (5, .int x5), (6, .int x6), (7, .int x7), (8, .int x8), (9, .int x9), (10, .int x10)] [] g (f_J8_indexOfLatin1Unsafe_L161 γ x0 x2 x3 x5 x6 x7 x9 K194 n x8 x10 g) := by
  intro n
  induction n with
  | zero => intro x8 x10 g; exact AW_none
  | succ n ih =>
    intro x8 x10 g
    unfold f_J8_indexOfLatin1Unsafe_L161
    refine r_iload (pc := 161) dJ8_indexOfLatin1Unsafe_161 6 rfl ?_
    refine r_iload (pc := 163) dJ8_indexOfLatin1Unsafe_163 7 rfl ?_
    refine r_icmp_ge (tgt := 194) (pc := 165) dJ8_indexOfLatin1Unsafe_165 (by decide) ?_ ?_
    · skip
      refine AW_sub [0, 1, 2, 3, 4, 5, 6, 7] rfl ?_
      exact h_K194 x8 g
    · skip
      refine r_aload_n (pc := 168) dJ8_indexOfLatin1Unsafe_168 rfl 0 rfl ?_
      refine r_iload (pc := 169) dJ8_indexOfLatin1Unsafe_169 6 rfl ?_
      refine r_cI (pc := 171) (rest := []) (run_S (n := 2) (As := [.ref x0, .int x8]) (rest := []) (t_J8_getChar γ l hl x0 x8 g) dJ8_indexOfLatin1Unsafe_171 q689 q690 q120 q691 (by decide +kernel) rfl (Nat.le_of_ble_eq_true rfl) (Nat.le_of_ble_eq_true rfl) rfl (Nat.le_of_ble_eq_true rfl)) (fun v16 g15 => ?_)
      refine r_aload_n (pc := 174) dJ8_indexOfLatin1Unsafe_174 rfl 1 rfl ?_
      refine r_iload (pc := 175) dJ8_indexOfLatin1Unsafe_175 8 rfl ?_
      refine r_bald (pc := 177) dJ8_indexOfLatin1Unsafe_177 (fun v17 => ?_)
      refine r_sipush (v := (255 : Int32)) (pc := 178) dJ8_indexOfLatin1Unsafe_178 (by decide) ?_
      refine r_iand (pc := 181) dJ8_indexOfLatin1Unsafe_181 ?_
      refine r_icmp_ne (tgt := 194) (pc := 182) dJ8_indexOfLatin1Unsafe_182 (by decide) ?_ ?_
      · skip
        refine r_iinc (j := 6) (v := (x8 + (1 : Int32))) (pc := 185) dJ8_indexOfLatin1Unsafe_185 rfl rfl (Nat.le_of_ble_eq_true rfl) rfl ?_
        refine r_iinc (j := 8) (v := (x10 + (1 : Int32))) (pc := 188) dJ8_indexOfLatin1Unsafe_188 rfl rfl (Nat.le_of_ble_eq_true rfl) rfl ?_
        refine r_goto (tgt := 161) (pc := 191) dJ8_indexOfLatin1Unsafe_191 (by decide) ?_
        refine AW_sub [2, 3, 4, 5, 6, 7, 1, 8, 0] rfl ?_
        exact ih (x8 + (1 : Int32)) (x10 + (1 : Int32)) g15
      · skip
        refine AW_sub [0, 1, 2, 3, 4, 5, 6, 7] rfl ?_
        exact h_K194 x8 g15
theorem f_J8_indexOfLatin1Unsafe_L113_w (γ : GP) (l : Launch) (hl : l.stackTraces = false) (G0 : AH) (x0 : Nat) (x2 : Nat) (x3 : Int32) (x5 : Int32) (x6 : Int32) (K137 : Int32 → AH → Option (Int32 × AH)) (h_K137 : ∀ (y7 : Int32) (g : AH), AW ρI γ l ck_J8_indexOfLatin1Unsafe G0 137 [(0, .ref x0), (2, .ref x2), (3, .int x3), (5, .int x5), (6, .int x6), (7, .int y7)] [] g (K137 y7 g)) : ∀ (n : Nat) (x7 : Int32) (g : AH), AW ρI γ l ck_J8_indexOfLatin1Unsafe G0 113 [(0, .ref x0), (2, .ref x2), (3, .int x3), (5, .int x5), (6, .int x6), (7, .int x7)] [] g (f_J8_indexOfLatin1Unsafe_L113 γ x0 x2 x3 x5 x6 K137 n x7 g) := by
  intro n
  induction n with
  | zero => intro x7 g; exact AW_none
  | succ n ih =>
    intro x7 g
    unfold f_J8_indexOfLatin1Unsafe_L113
    refine r_iinc (j := 5) (v := (x7 + (1 : Int32))) (pc := 113) dJ8_indexOfLatin1Unsafe_113 rfl rfl (Nat.le_of_ble_eq_true rfl) rfl ?_
    refine r_iload (pc := 116) dJ8_indexOfLatin1Unsafe_116 0 rfl ?_
    refine r_iload (pc := 118) dJ8_indexOfLatin1Unsafe_118 5 rfl ?_
    refine r_icmp_gt (tgt := 137) (pc := 120) dJ8_indexOfLatin1Unsafe_120 (by decide) ?_ ?_
    · skip
      refine AW_sub [1, 2, 3, 4, 5, 0] rfl ?_
      exact h_K137 (x7 + (1 : Int32)) g
    · skip
      refine r_aload_n (pc := 123) dJ8_indexOfLatin1Unsafe_123 rfl 1 rfl ?_
      refine r_iload (pc := 124) dJ8_indexOfLatin1Unsafe_124 0 rfl ?_
      refine r_cI (pc := 126) (rest := []) (run_S (n := 2) (As := [.ref x0, .int (x7 + (1 : Int32))]) (rest := []) (t_J8_getChar γ l hl x0 (x7 + (1 : Int32)) g) dJ8_indexOfLatin1Unsafe_126 q689 q690 q120 q691 (by decide +kernel) rfl (Nat.le_of_ble_eq_true rfl) (Nat.le_of_ble_eq_true rfl) rfl (Nat.le_of_ble_eq_true rfl)) (fun v21 g20 => ?_)
      refine r_iload (pc := 129) dJ8_indexOfLatin1Unsafe_129 4 rfl ?_
      refine r_icmp_eq (tgt := 137) (pc := 131) dJ8_indexOfLatin1Unsafe_131 (by decide) ?_ ?_
      · skip
        refine AW_sub [1, 2, 3, 4, 5, 0] rfl ?_
        exact h_K137 (x7 + (1 : Int32)) g20
      · skip
        refine r_goto (tgt := 113) (pc := 134) dJ8_indexOfLatin1Unsafe_134 (by decide) ?_
        refine AW_sub [1, 2, 3, 4, 5, 0] rfl ?_
        exact ih (x7 + (1 : Int32)) g20
theorem f_J8_indexOfLatin1Unsafe_L95_w (γ : GP) (l : Launch) (hl : l.stackTraces = false) (G0 : AH) (x0 : Nat) (x2 : Nat) (x3 : Int32) (x5 : Int32) (x6 : Int32) : ∀ (n : Nat) (x7 : Int32) (g : AH), AW ρI γ l ck_J8_indexOfLatin1Unsafe G0 95 [(0, .ref x0), (2, .ref x2), (3, .int x3), (5, .int x5), (6, .int x6), (7, .int x7)] [] g (f_J8_indexOfLatin1Unsafe_L95 γ x0 x2 x3 x5 x6 n x7 g) := by
  intro n
  induction n with
  | zero => intro x7 g; exact AW_none
  | succ n ih =>
    intro x7 g
    unfold f_J8_indexOfLatin1Unsafe_L95
    refine r_iload (pc := 95) dJ8_indexOfLatin1Unsafe_95 5 rfl ?_
    refine r_iload (pc := 97) dJ8_indexOfLatin1Unsafe_97 4 rfl ?_
    refine r_icmp_gt (tgt := 210) (pc := 99) dJ8_indexOfLatin1Unsafe_99 (by decide) ?_ ?_
    · skip
      refine r_iconst (v := (-1 : Int32)) (pc := 210) dJ8_indexOfLatin1Unsafe_210 (by decide) ?_
      exact r_iret (pc := 211) dJ8_indexOfLatin1Unsafe_211 rfl
    · skip
      refine r_aload_n (pc := 102) dJ8_indexOfLatin1Unsafe_102 rfl 0 rfl ?_
      refine r_iload (pc := 103) dJ8_indexOfLatin1Unsafe_103 5 rfl ?_
      refine r_cI (pc := 105) (rest := []) (run_S (n := 2) (As := [.ref x0, .int x7]) (rest := []) (t_J8_getChar γ l hl x0 x7 g) dJ8_indexOfLatin1Unsafe_105 q689 q690 q120 q691 (by decide +kernel) rfl (Nat.le_of_ble_eq_true rfl) (Nat.le_of_ble_eq_true rfl) rfl (Nat.le_of_ble_eq_true rfl)) (fun v11 g10 => ?_)
      refine r_iload (pc := 108) dJ8_indexOfLatin1Unsafe_108 3 rfl ?_
      refine AW_jn (P := fun (j : Int32 → AH → Option (Int32 × AH)) => ∀ (y12 : Int32) (g13 : AH), AW ρI γ l ck_J8_indexOfLatin1Unsafe G0 137 [(0, .ref x0), (2, .ref x2), (3, .int x3), (5, .int x5), (6, .int x6), (7, .int y12)] [] g13 (j y12 g13)) (fun y12 g13 => ?_) (fun j14 h_j14 => ?_)
      · skip
        refine r_iload (pc := 137) dJ8_indexOfLatin1Unsafe_137 5 rfl ?_
        refine r_iload (pc := 139) dJ8_indexOfLatin1Unsafe_139 4 rfl ?_
        refine r_icmp_gt (tgt := 204) (pc := 141) dJ8_indexOfLatin1Unsafe_141 (by decide) ?_ ?_
        · skip
          refine r_iinc (j := 5) (v := (y12 + (1 : Int32))) (pc := 204) dJ8_indexOfLatin1Unsafe_204 rfl rfl (Nat.le_of_ble_eq_true rfl) rfl ?_
          refine r_goto (tgt := 95) (pc := 207) dJ8_indexOfLatin1Unsafe_207 (by decide) ?_
          refine AW_sub [1, 2, 3, 4, 5, 0] rfl ?_
          exact ih (y12 + (1 : Int32)) g13
        · skip
          refine r_iload (pc := 144) dJ8_indexOfLatin1Unsafe_144 5 rfl ?_
          refine r_iconst (v := (1 : Int32)) (pc := 146) dJ8_indexOfLatin1Unsafe_146 (by decide) ?_
          refine r_iadd (pc := 147) dJ8_indexOfLatin1Unsafe_147 ?_
          refine r_istore (pc := 148) dJ8_indexOfLatin1Unsafe_148 (Nat.le_of_ble_eq_true rfl) rfl ?_
          refine r_iload (pc := 150) dJ8_indexOfLatin1Unsafe_150 0 rfl ?_
          refine r_iload_n (pc := 152) dJ8_indexOfLatin1Unsafe_152 rfl 3 rfl ?_
          refine r_iadd (pc := 153) dJ8_indexOfLatin1Unsafe_153 ?_
          refine r_iconst (v := (1 : Int32)) (pc := 154) dJ8_indexOfLatin1Unsafe_154 (by decide) ?_
          refine r_isub (pc := 155) dJ8_indexOfLatin1Unsafe_155 ?_
          refine r_istore (pc := 156) dJ8_indexOfLatin1Unsafe_156 (Nat.le_of_ble_eq_true rfl) rfl ?_
          refine r_iconst (v := (1 : Int32)) (pc := 158) dJ8_indexOfLatin1Unsafe_158 (by decide) ?_
          refine r_istore (pc := 159) dJ8_indexOfLatin1Unsafe_159 (Nat.le_of_ble_eq_true rfl) rfl ?_
          refine AW_sub [3, 4, 5, 6, 7, 8, 2, 1, 0] rfl ?_
          refine f_J8_indexOfLatin1Unsafe_L161_w γ l hl _ x0 x2 x3 x5 x6 y12 (((y12 + (1 : Int32)) + x3) - (1 : Int32)) _ ?_ FU (y12 + (1 : Int32)) (1 : Int32) g13
          · intro y18 g19
            refine r_iload (pc := 194) dJ8_indexOfLatin1Unsafe_194 6 rfl ?_
            refine r_iload (pc := 196) dJ8_indexOfLatin1Unsafe_196 7 rfl ?_
            refine r_icmp_ne (tgt := 204) (pc := 198) dJ8_indexOfLatin1Unsafe_198 (by decide) ?_ ?_
            · skip
              refine r_iload (pc := 201) dJ8_indexOfLatin1Unsafe_201 5 rfl ?_
              exact r_iret (pc := 203) dJ8_indexOfLatin1Unsafe_203 rfl
            · skip
              refine r_iinc (j := 5) (v := (y12 + (1 : Int32))) (pc := 204) dJ8_indexOfLatin1Unsafe_204 rfl rfl (Nat.le_of_ble_eq_true rfl) rfl ?_
              refine r_goto (tgt := 95) (pc := 207) dJ8_indexOfLatin1Unsafe_207 (by decide) ?_
              refine AW_sub [1, 2, 3, 4, 5, 0] rfl ?_
              exact ih (y12 + (1 : Int32)) g19
      · skip
        refine r_icmp_eq (tgt := 137) (pc := 110) dJ8_indexOfLatin1Unsafe_110 (by decide) ?_ ?_
        · skip
          exact h_j14 x7 g10
        · skip
          refine f_J8_indexOfLatin1Unsafe_L113_w γ l hl _ x0 x2 x3 x5 x6 _ ?_ FU x7 g10
          · intro y22 g23
            exact h_j14 y22 g23
theorem t_J8_indexOfLatin1Unsafe (γ : GP) (l : Launch) (hl : l.stackTraces = false) (x0 : Nat) (x1 : Int32) (x2 : Nat) (x3 : Int32) (x4 : Int32) (g : AH) : TrM ρI γ l ⟨"java/lang/StringUTF16", "indexOfLatin1Unsafe", "([BI[BII)I"⟩ (ws_ ⟨"java/lang/StringUTF16", "indexOfLatin1Unsafe", "([BI[BII)I"⟩ prog_52_method_46_code 11 (some .int)) 3 [.ref x0, .int x1, .ref x2, .int x3, .int x4] g (f_J8_indexOfLatin1Unsafe γ x0 x1 x2 x3 x4 g) := by
  refine TrM_of (plainFor_of_name (by decide)) (Nat.le_of_ble_eq_true rfl) ?_
  unfold f_J8_indexOfLatin1Unsafe
  change AW ρI γ l ck_J8_indexOfLatin1Unsafe g 0 [(0, .ref x0), (1, .int x1), (2, .ref x2), (3, .int x3), (4, .int x4)] [] g _
  refine r_getsI (v := (1 : Int32)) (pc := 0) dJ8_indexOfLatin1Unsafe_0 q532 (List.mem_of_getElem? (i := 1) rfl) rfl ?_
  refine AW_jn (P := fun (j : AH → Option (Int32 × AH)) => ∀ (g1 : AH), AW ρI γ l ck_J8_indexOfLatin1Unsafe g 19 [(0, .ref x0), (1, .int x1), (2, .ref x2), (3, .int x3), (4, .int x4)] [] g1 (j g1)) (fun g1 => ?_) (fun j2 h_j2 => ?_)
  · skip
    refine r_getsI (v := (1 : Int32)) (pc := 19) dJ8_indexOfLatin1Unsafe_19 q532 (List.mem_of_getElem? (i := 1) rfl) rfl ?_
    refine AW_jn (P := fun (j : AH → Option (Int32 × AH)) => ∀ (g3 : AH), AW ρI γ l ck_J8_indexOfLatin1Unsafe g 37 [(0, .ref x0), (1, .int x1), (2, .ref x2), (3, .int x3), (4, .int x4)] [] g3 (j g3)) (fun g3 => ?_) (fun j4 h_j4 => ?_)
    · skip
      refine r_getsI (v := (1 : Int32)) (pc := 37) dJ8_indexOfLatin1Unsafe_37 q532 (List.mem_of_getElem? (i := 1) rfl) rfl ?_
      refine AW_jn (P := fun (j : AH → Option (Int32 × AH)) => ∀ (g5 : AH), AW ρI γ l ck_J8_indexOfLatin1Unsafe g 57 [(0, .ref x0), (1, .int x1), (2, .ref x2), (3, .int x3), (4, .int x4)] [] g5 (j g5)) (fun g5 => ?_) (fun j6 h_j6 => ?_)
      · skip
        refine r_getsI (v := (1 : Int32)) (pc := 57) dJ8_indexOfLatin1Unsafe_57 q532 (List.mem_of_getElem? (i := 1) rfl) rfl ?_
        refine AW_jn (P := fun (j : AH → Option (Int32 × AH)) => ∀ (g7 : AH), AW ρI γ l ck_J8_indexOfLatin1Unsafe g 76 [(0, .ref x0), (1, .int x1), (2, .ref x2), (3, .int x3), (4, .int x4)] [] g7 (j g7)) (fun g7 => ?_) (fun j8 h_j8 => ?_)
        · skip
          refine r_aload_n (pc := 76) dJ8_indexOfLatin1Unsafe_76 rfl 2 rfl ?_
          refine r_iconst (v := (0 : Int32)) (pc := 77) dJ8_indexOfLatin1Unsafe_77 (by decide) ?_
          refine r_bald (pc := 78) dJ8_indexOfLatin1Unsafe_78 (fun v9 => ?_)
          refine r_sipush (v := (255 : Int32)) (pc := 79) dJ8_indexOfLatin1Unsafe_79 (by decide) ?_
          refine r_iand (pc := 82) dJ8_indexOfLatin1Unsafe_82 ?_
          refine r_i2c (pc := 83) dJ8_indexOfLatin1Unsafe_83 ?_
          refine r_istore (pc := 84) dJ8_indexOfLatin1Unsafe_84 (Nat.le_of_ble_eq_true rfl) rfl ?_
          refine r_iload_n (pc := 86) dJ8_indexOfLatin1Unsafe_86 rfl 2 rfl ?_
          refine r_iload_n (pc := 87) dJ8_indexOfLatin1Unsafe_87 rfl 4 rfl ?_
          refine r_isub (pc := 88) dJ8_indexOfLatin1Unsafe_88 ?_
          refine r_istore (pc := 89) dJ8_indexOfLatin1Unsafe_89 (Nat.le_of_ble_eq_true rfl) rfl ?_
          refine r_iload (pc := 91) dJ8_indexOfLatin1Unsafe_91 6 rfl ?_
          refine r_istore (pc := 93) dJ8_indexOfLatin1Unsafe_93 (Nat.le_of_ble_eq_true rfl) rfl ?_
          refine AW_sub [3, 5, 6, 2, 1, 0] rfl ?_
          refine f_J8_indexOfLatin1Unsafe_L95_w γ l hl _ x0 x2 x3 (((v9 &&& (255 : Int32))).toUInt32 % 65536).toInt32 (x1 - x3) FU x4 g7
        · skip
          refine r_if_ne (tgt := 76) (pc := 60) dJ8_indexOfLatin1Unsafe_60 (by decide) ?_ ?_
          · skip
            refine r_iload_n (pc := 63) dJ8_indexOfLatin1Unsafe_63 rfl 1 rfl ?_
            refine r_iload_n (pc := 64) dJ8_indexOfLatin1Unsafe_64 rfl 3 rfl ?_
            refine r_icmp_ge (tgt := 76) (pc := 65) dJ8_indexOfLatin1Unsafe_65 (by decide) ?_ ?_
            · skip
              exact h_j8 g5
            · skip
              exact AW_none
          · skip
            exact h_j8 g5
      · skip
        refine r_if_ne (tgt := 57) (pc := 40) dJ8_indexOfLatin1Unsafe_40 (by decide) ?_ ?_
        · skip
          refine r_iload_n (pc := 43) dJ8_indexOfLatin1Unsafe_43 rfl 3 rfl ?_
          refine r_aload_n (pc := 44) dJ8_indexOfLatin1Unsafe_44 rfl 2 rfl ?_
          refine r_alen (pc := 45) dJ8_indexOfLatin1Unsafe_45 (fun v24 => ?_)
          refine r_icmp_le (tgt := 57) (pc := 46) dJ8_indexOfLatin1Unsafe_46 (by decide) ?_ ?_
          · skip
            exact h_j6 g3
          · skip
            exact AW_none
        · skip
          exact h_j6 g3
    · skip
      refine r_if_ne (tgt := 37) (pc := 22) dJ8_indexOfLatin1Unsafe_22 (by decide) ?_ ?_
      · skip
        refine r_iload_n (pc := 25) dJ8_indexOfLatin1Unsafe_25 rfl 3 rfl ?_
        refine r_if_gt (tgt := 37) (pc := 26) dJ8_indexOfLatin1Unsafe_26 (by decide) ?_ ?_
        · skip
          exact h_j4 g1
        · skip
          exact AW_none
      · skip
        exact h_j4 g1
  · skip
    refine r_if_ne (tgt := 19) (pc := 3) dJ8_indexOfLatin1Unsafe_3 (by decide) ?_ ?_
    · skip
      refine r_iload (pc := 6) dJ8_indexOfLatin1Unsafe_6 4 rfl ?_
      refine r_if_ge (tgt := 19) (pc := 8) dJ8_indexOfLatin1Unsafe_8 (by decide) ?_ ?_
      · skip
        exact h_j2 g
      · skip
        exact AW_none
    · skip
      exact h_j2 g
abbrev ck_J8_indexOfLatin1 : CK := ("java/lang/StringUTF16", prog_52_method_44_code, 2, (some .int), "indexOfLatin1", [], 4)
def f_J8_indexOfLatin1 (γ : GP) (x0 : Nat) (x1 : Nat) (g : AH) : Option (Int32 × AH) := gL g x1 fun v1 => (if v1 = 0 then (some ((0 : Int32), g)) else bI (f_J8_length γ x0 g) fun v3 g2 => gL g2 x1 fun v4 => (if v4 ≤ v3 then bI (f_J8_length γ x0 g2) fun v6 g5 => gL g5 x1 fun v7 => bI (f_J8_indexOfLatin1Unsafe γ x0 v6 x1 v7 (0 : Int32) g5) fun v9 g8 => (some (v9, g8)) else (some ((-1 : Int32), g2))))
theorem t_J8_indexOfLatin1 (γ : GP) (l : Launch) (hl : l.stackTraces = false) (x0 : Nat) (x1 : Nat) (g : AH) : TrM ρI γ l ⟨"java/lang/StringUTF16", "indexOfLatin1", "([B[B)I"⟩ (ws_ ⟨"java/lang/StringUTF16", "indexOfLatin1", "([B[B)I"⟩ prog_52_method_44_code 2 (some .int)) 4 [.ref x0, .ref x1] g (f_J8_indexOfLatin1 γ x0 x1 g) := by
  refine TrM_of (plainFor_of_name (by decide)) (Nat.le_of_ble_eq_true rfl) ?_
  unfold f_J8_indexOfLatin1
  change AW ρI γ l ck_J8_indexOfLatin1 g 0 [(0, .ref x0), (1, .ref x1)] [] g _
  refine r_aload_n (pc := 0) dJ8_indexOfLatin1_0 rfl 1 rfl ?_
  refine r_alen (pc := 1) dJ8_indexOfLatin1_1 (fun v1 => ?_)
  refine r_if_ne (tgt := 7) (pc := 2) dJ8_indexOfLatin1_2 (by decide) ?_ ?_
  · skip
    refine r_iconst (v := (0 : Int32)) (pc := 5) dJ8_indexOfLatin1_5 (by decide) ?_
    exact r_iret (pc := 6) dJ8_indexOfLatin1_6 rfl
  · skip
    refine r_aload_n (pc := 7) dJ8_indexOfLatin1_7 rfl 0 rfl ?_
    refine r_cI (pc := 8) (rest := []) (run_S (n := 1) (As := [.ref x0]) (rest := []) (t_J8_length γ l hl x0 g) dJ8_indexOfLatin1_8 q518 q519 q120 q520 (by decide +kernel) rfl (Nat.le_of_ble_eq_true rfl) (Nat.le_of_ble_eq_true rfl) rfl (Nat.le_of_ble_eq_true rfl)) (fun v3 g2 => ?_)
    refine r_aload_n (pc := 11) dJ8_indexOfLatin1_11 rfl 1 rfl ?_
    refine r_alen (pc := 12) dJ8_indexOfLatin1_12 (fun v4 => ?_)
    refine r_icmp_ge (tgt := 18) (pc := 13) dJ8_indexOfLatin1_13 (by decide) ?_ ?_
    · skip
      refine r_aload_n (pc := 18) dJ8_indexOfLatin1_18 rfl 0 rfl ?_
      refine r_aload_n (pc := 19) dJ8_indexOfLatin1_19 rfl 0 rfl ?_
      refine r_cI (pc := 20) (rest := [.ref x0]) (run_S (n := 1) (As := [.ref x0]) (rest := [.ref x0]) (t_J8_length γ l hl x0 g2) dJ8_indexOfLatin1_20 q518 q519 q120 q520 (by decide +kernel) rfl (Nat.le_of_ble_eq_true rfl) (Nat.le_of_ble_eq_true rfl) rfl (Nat.le_of_ble_eq_true rfl)) (fun v6 g5 => ?_)
      refine r_aload_n (pc := 23) dJ8_indexOfLatin1_23 rfl 1 rfl ?_
      refine r_aload_n (pc := 24) dJ8_indexOfLatin1_24 rfl 1 rfl ?_
      refine r_alen (pc := 25) dJ8_indexOfLatin1_25 (fun v7 => ?_)
      refine r_iconst (v := (0 : Int32)) (pc := 26) dJ8_indexOfLatin1_26 (by decide) ?_
      refine r_cI (pc := 27) (rest := []) (run_S (n := 5) (As := [.ref x0, .int v6, .ref x1, .int v7, .int (0 : Int32)]) (rest := []) (t_J8_indexOfLatin1Unsafe γ l hl x0 v6 x1 v7 (0 : Int32) g5) dJ8_indexOfLatin1_27 q3148 q3149 q120 q3150 (by decide +kernel) rfl (Nat.le_of_ble_eq_true rfl) (Nat.le_of_ble_eq_true rfl) rfl (Nat.le_of_ble_eq_true rfl)) (fun v9 g8 => ?_)
      exact r_iret (pc := 30) dJ8_indexOfLatin1_30 rfl
    · skip
      refine r_iconst (v := (-1 : Int32)) (pc := 16) dJ8_indexOfLatin1_16 (by decide) ?_
      exact r_iret (pc := 17) dJ8_indexOfLatin1_17 rfl
abbrev ck_J7_indexOf : CK := ("java/lang/String", prog_48_method_84_code, 3, (some .int), "indexOf", [], 5)
def f_J7_indexOf (γ : GP) (x0 : Nat) (x1 : Nat) (g : AH) : Option (Int32 × AH) := bI ((if hK g x0 = 7 then f_J7_coder γ x0 g else none)) fun v2 g1 => bI ((if hK g1 x1 = 7 then f_J7_coder γ x1 g1 else none)) fun v4 g3 => (if v2 = v4 then bI ((if hK g3 x0 = 7 then f_J7_isLatin1 γ x0 g3 else none)) fun v6 g5 => (if v6 = 0 then gR g5 x0 26 fun v7 => gR g5 x1 26 fun v8 => bI (f_J8_indexOf γ v7 v8 g5) fun v10 g9 => (some (v10, g9)) else gR g5 x0 26 fun v11 => gR g5 x1 26 fun v12 => bI (f_J19_indexOf γ v11 v12 g5) fun v14 g13 => (some (v14, g13))) else (if v2 = 0 then (some ((-1 : Int32), g3)) else gR g3 x0 26 fun v15 => gR g3 x1 26 fun v16 => bI (f_J8_indexOfLatin1 γ v15 v16 g3) fun v18 g17 => (some (v18, g17))))
theorem t_J7_indexOf (γ : GP) (l : Launch) (hl : l.stackTraces = false) (x0 : Nat) (x1 : Nat) (g : AH) : TrM ρI γ l ⟨"java/lang/String", "indexOf", "(Ljava/lang/String;)I"⟩ (ws_ ⟨"java/lang/String", "indexOf", "(Ljava/lang/String;)I"⟩ prog_48_method_84_code 3 (some .int)) 5 [.ref x0, .ref x1] g (f_J7_indexOf γ x0 x1 g) := by
  refine TrM_of (plainFor_of_name (by decide)) (Nat.le_of_ble_eq_true rfl) ?_
  unfold f_J7_indexOf
  change AW ρI γ l ck_J7_indexOf g 0 [(0, .ref x0), (1, .ref x1)] [] g _
  refine r_aload_n (pc := 0) dJ7_indexOf_0 rfl 0 rfl ?_
  refine r_cI (pc := 1) (rest := []) (RunOK_chk (fun h => run_V (n := 0) (c9 := 7) (As := []) (rest := []) (t_J7_coder γ l hl x0 g) dJ7_indexOf_1 q542 q543 q544 q119 q545 (by decide +kernel) rfl h ⟨rfl, by decide, by decide⟩ (Nat.le_of_ble_eq_true rfl) (Nat.le_of_ble_eq_true rfl) rfl (Nat.le_of_ble_eq_true rfl))) (fun v2 g1 => ?_)
  refine r_istore_n (pc := 4) dJ7_indexOf_4 rfl (Nat.le_of_ble_eq_true rfl) rfl ?_
  refine r_iload_n (pc := 5) dJ7_indexOf_5 rfl 0 rfl ?_
  refine r_aload_n (pc := 6) dJ7_indexOf_6 rfl 2 rfl ?_
  refine r_cI (pc := 7) (rest := [.int v2]) (RunOK_chk (fun h => run_V (n := 0) (c9 := 7) (As := []) (rest := [.int v2]) (t_J7_coder γ l hl x1 g1) dJ7_indexOf_7 q542 q543 q544 q119 q545 (by decide +kernel) rfl h ⟨rfl, by decide, by decide⟩ (Nat.le_of_ble_eq_true rfl) (Nat.le_of_ble_eq_true rfl) rfl (Nat.le_of_ble_eq_true rfl))) (fun v4 g3 => ?_)
  refine r_icmp_ne (tgt := 46) (pc := 10) dJ7_indexOf_10 (by decide) ?_ ?_
  · skip
    refine r_aload_n (pc := 13) dJ7_indexOf_13 rfl 1 rfl ?_
    refine r_cI (pc := 14) (rest := []) (RunOK_chk (fun h => run_V (n := 0) (c9 := 7) (As := []) (rest := []) (t_J7_isLatin1 γ l hl x0 g3) dJ7_indexOf_14 q2286 q2287 q2288 q119 q2289 (by decide +kernel) rfl h ⟨rfl, by decide, by decide⟩ (Nat.le_of_ble_eq_true rfl) (Nat.le_of_ble_eq_true rfl) rfl (Nat.le_of_ble_eq_true rfl))) (fun v6 g5 => ?_)
    refine r_if_eq (tgt := 34) (pc := 17) dJ7_indexOf_17 (by decide) ?_ ?_
    · skip
      refine r_aload_n (pc := 34) dJ7_indexOf_34 rfl 1 rfl ?_
      refine r_getR (f := 26) (pc := 35) dJ7_indexOf_35 q696 (Or.inl rfl) rfl (fun v7 => ?_)
      refine r_aload_n (pc := 38) dJ7_indexOf_38 rfl 2 rfl ?_
      refine r_getR (f := 26) (pc := 39) dJ7_indexOf_39 q696 (Or.inl rfl) rfl (fun v8 => ?_)
      refine r_cI (pc := 42) (rest := []) (run_S (n := 2) (As := [.ref v7, .ref v8]) (rest := []) (t_J8_indexOf γ l hl v7 v8 g5) dJ7_indexOf_42 q3139 q3140 q120 q3141 (by decide +kernel) rfl (Nat.le_of_ble_eq_true rfl) (Nat.le_of_ble_eq_true rfl) rfl (Nat.le_of_ble_eq_true rfl)) (fun v10 g9 => ?_)
      exact r_iret (pc := 45) dJ7_indexOf_45 rfl
    · skip
      refine r_aload_n (pc := 20) dJ7_indexOf_20 rfl 1 rfl ?_
      refine r_getR (f := 26) (pc := 21) dJ7_indexOf_21 q696 (Or.inl rfl) rfl (fun v11 => ?_)
      refine r_aload_n (pc := 24) dJ7_indexOf_24 rfl 2 rfl ?_
      refine r_getR (f := 26) (pc := 25) dJ7_indexOf_25 q696 (Or.inl rfl) rfl (fun v12 => ?_)
      refine r_cI (pc := 28) (rest := []) (run_S (n := 2) (As := [.ref v11, .ref v12]) (rest := []) (t_J19_indexOf γ l hl v11 v12 g5) dJ7_indexOf_28 q3133 q3134 q133 q3135 (by decide +kernel) rfl (Nat.le_of_ble_eq_true rfl) (Nat.le_of_ble_eq_true rfl) rfl (Nat.le_of_ble_eq_true rfl)) (fun v14 g13 => ?_)
      refine r_goto (tgt := 45) (pc := 31) dJ7_indexOf_31 (by decide) ?_
      exact r_iret (pc := 45) dJ7_indexOf_45 rfl
  · skip
    refine r_iload_n (pc := 46) dJ7_indexOf_46 rfl 0 rfl ?_
    refine r_if_ne (tgt := 52) (pc := 47) dJ7_indexOf_47 (by decide) ?_ ?_
    · skip
      refine r_iconst (v := (-1 : Int32)) (pc := 50) dJ7_indexOf_50 (by decide) ?_
      exact r_iret (pc := 51) dJ7_indexOf_51 rfl
    · skip
      refine r_aload_n (pc := 52) dJ7_indexOf_52 rfl 1 rfl ?_
      refine r_getR (f := 26) (pc := 53) dJ7_indexOf_53 q696 (Or.inl rfl) rfl (fun v15 => ?_)
      refine r_aload_n (pc := 56) dJ7_indexOf_56 rfl 2 rfl ?_
      refine r_getR (f := 26) (pc := 57) dJ7_indexOf_57 q696 (Or.inl rfl) rfl (fun v16 => ?_)
      refine r_cI (pc := 60) (rest := []) (run_S (n := 2) (As := [.ref v15, .ref v16]) (rest := []) (t_J8_indexOfLatin1 γ l hl v15 v16 g3) dJ7_indexOf_60 q3145 q3146 q120 q3147 (by decide +kernel) rfl (Nat.le_of_ble_eq_true rfl) (Nat.le_of_ble_eq_true rfl) rfl (Nat.le_of_ble_eq_true rfl)) (fun v18 g17 => ?_)
      exact r_iret (pc := 63) dJ7_indexOf_63 rfl
abbrev ck_J7_contains : CK := ("java/lang/String", prog_48_method_97_code, 2, (some .boolean), "contains", [], 9)
def f_J7_contains (γ : GP) (x0 : Nat) (x1 : Nat) (g : AH) : Option (Int32 × AH) := bR ((if hK g x1 = 6 then f_J6_toString γ x1 g else none)) fun v2 g1 => bI ((if hK g1 x0 = 7 then f_J7_indexOf γ x0 v2 g1 else none)) fun v4 g3 => (if v4 < 0 then (rtN .boolean (0 : Int32) g3) else (rtN .boolean (1 : Int32) g3))
theorem t_J7_contains (γ : GP) (l : Launch) (hl : l.stackTraces = false) (x0 : Nat) (x1 : Nat) (g : AH) : TrM ρI γ l ⟨"java/lang/String", "contains", "(Ljava/lang/CharSequence;)Z"⟩ (ws_ ⟨"java/lang/String", "contains", "(Ljava/lang/CharSequence;)Z"⟩ prog_48_method_97_code 2 (some .boolean)) 9 [.ref x0, .ref x1] g (f_J7_contains γ x0 x1 g) := by
  refine TrM_of (plainFor_of_name (by decide)) (Nat.le_of_ble_eq_true rfl) ?_
  unfold f_J7_contains
  change AW ρI γ l ck_J7_contains g 0 [(0, .ref x0), (1, .ref x1)] [] g _
  refine r_aload_n (pc := 0) dJ7_contains_0 rfl 0 rfl ?_
  refine r_aload_n (pc := 1) dJ7_contains_1 rfl 1 rfl ?_
  refine r_cR (pc := 2) (rest := [.ref x0]) (RunOK_chk (fun h => run_F (n := 0) (c9 := 6) (As := []) (rest := [.ref x0]) (t_J6_toString γ l hl x1 g) dJ7_contains_2 q3118 q3126 q608 q118 q610 (by decide +kernel) (by decide +kernel) rfl h ⟨by decide, by decide⟩ (Nat.le_of_ble_eq_true rfl) (Nat.le_of_ble_eq_true rfl) rfl (Nat.le_of_ble_eq_true rfl))) (fun v2 g1 => ?_)
  refine r_cI (pc := 7) (rest := []) (RunOK_chk (fun h => run_V (n := 1) (c9 := 7) (As := [.ref v2]) (rest := []) (t_J7_indexOf γ l hl x0 v2 g1) dJ7_contains_7 q3129 q3130 q3131 q119 q3132 (by decide +kernel) rfl h ⟨rfl, by decide, by decide⟩ (Nat.le_of_ble_eq_true rfl) (Nat.le_of_ble_eq_true rfl) rfl (Nat.le_of_ble_eq_true rfl))) (fun v4 g3 => ?_)
  refine r_if_lt (tgt := 17) (pc := 10) dJ7_contains_10 (by decide) ?_ ?_
  · skip
    refine r_iconst (v := (0 : Int32)) (pc := 17) dJ7_contains_17 (by decide) ?_
    exact r_zret (ty := .boolean) (pc := 18) dJ7_contains_18 rfl
  · skip
    refine r_iconst (v := (1 : Int32)) (pc := 13) dJ7_contains_13 (by decide) ?_
    refine r_goto (tgt := 18) (pc := 14) dJ7_contains_14 (by decide) ?_
    exact r_zret (ty := .boolean) (pc := 18) dJ7_contains_18 rfl
abbrev ck_J21_stringSize : CK := ("java/lang/Integer", prog_40_method_13_code, 4, (some .int), "stringSize", [], 1)
def f_J21_stringSize_L16 (γ : GP) (x0 : Int32) (x1 : Int32) : Nat → Int32 → Int32 → AH → Option (Int32 × AH)
  | 0, _, _, _ => none
  | n + 1, x2, x3, g => (if (10 : Int32) ≤ x3 then (some (((10 : Int32) + x1), g)) else (if x0 ≤ x2 then f_J21_stringSize_L16 γ x0 x1 n ((10 : Int32) * x2) (x3 + (1 : Int32)) g else (some ((x3 + x1), g))))
def f_J21_stringSize (γ : GP) (x0 : Int32) (g : AH) : Option (Int32 × AH) := (if x0 < 0 then f_J21_stringSize_L16 γ x0 (1 : Int32) FU (-10 : Int32) (1 : Int32) g else f_J21_stringSize_L16 γ (-x0) (0 : Int32) FU (-10 : Int32) (1 : Int32) g)
theorem f_J21_stringSize_L16_w (γ : GP) (l : Launch) (hl : l.stackTraces = false) (G0 : AH) (x0 : Int32) (x1 : Int32) : ∀ (n : Nat) (x2 : Int32) (x3 : Int32) (g : AH), AW ρI γ l ck_J21_stringSize G0 16 [(0, .int x0), (1, .int x1), (2, .int x2), (3, .int x3)] [] g (f_J21_stringSize_L16 γ x0 x1 n x2 x3 g) := by
  intro n
  induction n with
  | zero => intro x2 x3 g; exact AW_none
  | succ n ih =>
    intro x2 x3 g
    unfold f_J21_stringSize_L16
    refine r_iload_n (pc := 16) dJ21_stringSize_16 rfl 3 rfl ?_
    refine r_bipush (v := (10 : Int32)) (pc := 17) dJ21_stringSize_17 (by decide) ?_
    refine r_icmp_ge (tgt := 42) (pc := 19) dJ21_stringSize_19 (by decide) ?_ ?_
    · skip
      refine r_bipush (v := (10 : Int32)) (pc := 42) dJ21_stringSize_42 (by decide) ?_
      refine r_iload_n (pc := 44) dJ21_stringSize_44 rfl 1 rfl ?_
      refine r_iadd (pc := 45) dJ21_stringSize_45 ?_
      exact r_iret (pc := 46) dJ21_stringSize_46 rfl
    · skip
      refine r_iload_n (pc := 22) dJ21_stringSize_22 rfl 0 rfl ?_
      refine r_iload_n (pc := 23) dJ21_stringSize_23 rfl 2 rfl ?_
      refine r_icmp_le (tgt := 31) (pc := 24) dJ21_stringSize_24 (by decide) ?_ ?_
      · skip
        refine r_bipush (v := (10 : Int32)) (pc := 31) dJ21_stringSize_31 (by decide) ?_
        refine r_iload_n (pc := 33) dJ21_stringSize_33 rfl 2 rfl ?_
        refine r_imul (pc := 34) dJ21_stringSize_34 ?_
        refine r_istore_n (pc := 35) dJ21_stringSize_35 rfl (Nat.le_of_ble_eq_true rfl) rfl ?_
        refine r_iinc (j := 3) (v := (x3 + (1 : Int32))) (pc := 36) dJ21_stringSize_36 rfl rfl (Nat.le_of_ble_eq_true rfl) rfl ?_
        refine r_goto (tgt := 16) (pc := 39) dJ21_stringSize_39 (by decide) ?_
        refine AW_sub [2, 3, 1, 0] rfl ?_
        exact ih ((10 : Int32) * x2) (x3 + (1 : Int32)) g
      · skip
        refine r_iload_n (pc := 27) dJ21_stringSize_27 rfl 3 rfl ?_
        refine r_iload_n (pc := 28) dJ21_stringSize_28 rfl 1 rfl ?_
        refine r_iadd (pc := 29) dJ21_stringSize_29 ?_
        exact r_iret (pc := 30) dJ21_stringSize_30 rfl
theorem t_J21_stringSize (γ : GP) (l : Launch) (hl : l.stackTraces = false) (x0 : Int32) (g : AH) : TrM ρI γ l ⟨"java/lang/Integer", "stringSize", "(I)I"⟩ (ws_ ⟨"java/lang/Integer", "stringSize", "(I)I"⟩ prog_40_method_13_code 4 (some .int)) 1 [.int x0] g (f_J21_stringSize γ x0 g) := by
  refine TrM_of (plainFor_of_name (by decide)) (Nat.le_of_ble_eq_true rfl) ?_
  unfold f_J21_stringSize
  change AW ρI γ l ck_J21_stringSize g 0 [(0, .int x0)] [] g _
  refine r_iconst (v := (1 : Int32)) (pc := 0) dJ21_stringSize_0 (by decide) ?_
  refine r_istore_n (pc := 1) dJ21_stringSize_1 rfl (Nat.le_of_ble_eq_true rfl) rfl ?_
  refine r_iload_n (pc := 2) dJ21_stringSize_2 rfl 1 rfl ?_
  refine r_if_lt (tgt := 11) (pc := 3) dJ21_stringSize_3 (by decide) ?_ ?_
  · skip
    refine r_bipush (v := (-10 : Int32)) (pc := 11) dJ21_stringSize_11 (by decide) ?_
    refine r_istore_n (pc := 13) dJ21_stringSize_13 rfl (Nat.le_of_ble_eq_true rfl) rfl ?_
    refine r_iconst (v := (1 : Int32)) (pc := 14) dJ21_stringSize_14 (by decide) ?_
    refine r_istore_n (pc := 15) dJ21_stringSize_15 rfl (Nat.le_of_ble_eq_true rfl) rfl ?_
    refine AW_sub [3, 2, 1, 0] rfl ?_
    refine f_J21_stringSize_L16_w γ l hl _ x0 (1 : Int32) FU (-10 : Int32) (1 : Int32) g
  · skip
    refine r_iconst (v := (0 : Int32)) (pc := 6) dJ21_stringSize_6 (by decide) ?_
    refine r_istore_n (pc := 7) dJ21_stringSize_7 rfl (Nat.le_of_ble_eq_true rfl) rfl ?_
    refine r_iload_n (pc := 8) dJ21_stringSize_8 rfl 1 rfl ?_
    refine r_ineg (pc := 9) dJ21_stringSize_9 ?_
    refine r_istore_n (pc := 10) dJ21_stringSize_10 rfl (Nat.le_of_ble_eq_true rfl) rfl ?_
    refine r_bipush (v := (-10 : Int32)) (pc := 11) dJ21_stringSize_11 (by decide) ?_
    refine r_istore_n (pc := 13) dJ21_stringSize_13 rfl (Nat.le_of_ble_eq_true rfl) rfl ?_
    refine r_iconst (v := (1 : Int32)) (pc := 14) dJ21_stringSize_14 (by decide) ?_
    refine r_istore_n (pc := 15) dJ21_stringSize_15 rfl (Nat.le_of_ble_eq_true rfl) rfl ?_
    refine AW_sub [2, 3, 1, 0] rfl ?_
    refine f_J21_stringSize_L16_w γ l hl _ (-x0) (0 : Int32) FU (-10 : Int32) (1 : Int32) g
abbrev ck_J21_getChars : CK := ("java/lang/Integer", prog_40_method_12_code, 7, (some .int), "getChars", [], 1)
def f_J21_getChars_L22 (γ : GP) (x2 : Nat) (x6 : Int32) (K72 : Int32 → Int32 → AH → Option (Int32 × AH)) : Nat → Int32 → Int32 → AH → Option (Int32 × AH)
  | 0, _, _, _ => none
  | n + 1, x0, x5, g => (if (-100 : Int32) < x0 then K72 x0 x5 g else (if ¬ (100 : Int32) = 0 then gA g 102 (γ.1 4) (((x0 / (100 : Int32)) * (100 : Int32)) - x0) fun v8 => pA γ g 102 x2 (x5 + (-1 : Int32)) v8 fun g9 => gA g9 102 (γ.1 5) (((x0 / (100 : Int32)) * (100 : Int32)) - x0) fun v10 => pA γ g9 102 x2 ((x5 + (-1 : Int32)) + (-1 : Int32)) v10 fun g11 => f_J21_getChars_L22 γ x2 x6 K72 n (x0 / (100 : Int32)) ((x5 + (-1 : Int32)) + (-1 : Int32)) g11 else none))
def f_J21_getChars (γ : GP) (x0 : Int32) (x1 : Int32) (x2 : Nat) (g : AH) : Option (Int32 × AH) := jn (fun (z1 : Int32) (g2 : AH) => jn (fun (y4 : Int32) (g5 : AH) => (if z1 = 0 then (some (y4, g5)) else pA γ g5 102 x2 (y4 + (-1 : Int32)) (45 : Int32) fun g7 => (some ((y4 + (-1 : Int32)), g7)))) (fun (j6 : Int32 → AH → Option (Int32 × AH)) => (if z1 = 0 then f_J21_getChars_L22 γ x2 z1 (fun (y12 : Int32) (y13 : Int32) (g14 : AH) => gA g14 102 (γ.1 4) (-y12) fun v15 => pA γ g14 102 x2 (y13 + (-1 : Int32)) v15 fun g16 => (if (-9 : Int32) ≤ y12 then j6 (y13 + (-1 : Int32)) g16 else gA g16 102 (γ.1 5) (-y12) fun v17 => pA γ g16 102 x2 ((y13 + (-1 : Int32)) + (-1 : Int32)) v17 fun g18 => j6 ((y13 + (-1 : Int32)) + (-1 : Int32)) g18)) FU (-x0) x1 g2 else f_J21_getChars_L22 γ x2 z1 (fun (y19 : Int32) (y20 : Int32) (g21 : AH) => gA g21 102 (γ.1 4) (-y19) fun v22 => pA γ g21 102 x2 (y20 + (-1 : Int32)) v22 fun g23 => (if (-9 : Int32) ≤ y19 then j6 (y20 + (-1 : Int32)) g23 else gA g23 102 (γ.1 5) (-y19) fun v24 => pA γ g23 102 x2 ((y20 + (-1 : Int32)) + (-1 : Int32)) v24 fun g25 => j6 ((y20 + (-1 : Int32)) + (-1 : Int32)) g25)) FU x0 x1 g2))) (fun (j3 : Int32 → AH → Option (Int32 × AH)) => (if 0 ≤ x0 then j3 (0 : Int32) g else j3 (1 : Int32) g))
theorem f_J21_getChars_L22_w (γ : GP) (l : Launch) (hl : l.stackTraces = false) (G0 : AH) (x2 : Nat) (x6 : Int32) (K72 : Int32 → Int32 → AH → Option (Int32 × AH)) (h_K72 : ∀ (y0 : Int32) (y5 : Int32) (g : AH), AW ρI γ l ck_J21_getChars G0 72 [(0, .int y0), (2, .ref x2), (5, .int y5), (6, .int x6)] [] g (K72 y0 y5 g)) : ∀ (n : Nat) (x0 : Int32) (x5 : Int32) (g : AH), AW ρI γ l ck_J21_getChars G0 22 [(0, .int x0), (2, .ref x2), (5, .int x5), (6, .int x6)] [] g (f_J21_getChars_L22 γ x2 x6 K72 n x0 x5 g) := by
  intro n
  induction n with
  | zero => intro x0 x5 g; exact AW_none
  | succ n ih =>
    intro x0 x5 g
    unfold f_J21_getChars_L22
    refine r_iload_n (pc := 22) dJ21_getChars_22 rfl 0 rfl ?_
    refine r_bipush (v := (-100 : Int32)) (pc := 23) dJ21_getChars_23 (by decide) ?_
    refine r_icmp_gt (tgt := 72) (pc := 25) dJ21_getChars_25 (by decide) ?_ ?_
    · skip
      exact h_K72 x0 x5 g
    · skip
      refine r_iload_n (pc := 28) dJ21_getChars_28 rfl 0 rfl ?_
      refine r_bipush (v := (100 : Int32)) (pc := 29) dJ21_getChars_29 (by decide) ?_
      refine r_idiv (pc := 31) dJ21_getChars_31 ?_
      refine r_istore_n (pc := 32) dJ21_getChars_32 rfl (Nat.le_of_ble_eq_true rfl) rfl ?_
      refine r_iload_n (pc := 33) dJ21_getChars_33 rfl 0 rfl ?_
      refine r_bipush (v := (100 : Int32)) (pc := 34) dJ21_getChars_34 (by decide) ?_
      refine r_imul (pc := 36) dJ21_getChars_36 ?_
      refine r_iload_n (pc := 37) dJ21_getChars_37 rfl 1 rfl ?_
      refine r_isub (pc := 38) dJ21_getChars_38 ?_
      refine r_istore (pc := 39) dJ21_getChars_39 (Nat.le_of_ble_eq_true rfl) rfl ?_
      refine r_iload_n (pc := 41) dJ21_getChars_41 rfl 1 rfl ?_
      refine r_istore_n (pc := 42) dJ21_getChars_42 rfl (Nat.le_of_ble_eq_true rfl) rfl ?_
      refine r_aload_n (pc := 43) dJ21_getChars_43 rfl 3 rfl ?_
      refine r_iinc (j := 4) (v := (x5 + (-1 : Int32))) (pc := 44) dJ21_getChars_44 rfl rfl (Nat.le_of_ble_eq_true rfl) rfl ?_
      refine r_iload (pc := 47) dJ21_getChars_47 0 rfl ?_
      refine r_gets (i := 4) (pc := 49) dJ21_getChars_49 q594 (List.mem_of_getElem? (i := 4) rfl) rfl ?_
      refine r_iload (pc := 52) dJ21_getChars_52 2 rfl ?_
      refine r_bald (pc := 54) dJ21_getChars_54 (fun v8 => ?_)
      refine r_bast (pc := 55) dJ21_getChars_55 (fun g9 => ?_)
      refine r_aload_n (pc := 56) dJ21_getChars_56 rfl 4 rfl ?_
      refine r_iinc (j := 0) (v := ((x5 + (-1 : Int32)) + (-1 : Int32))) (pc := 57) dJ21_getChars_57 rfl rfl (Nat.le_of_ble_eq_true rfl) rfl ?_
      refine r_iload (pc := 60) dJ21_getChars_60 0 rfl ?_
      refine r_gets (i := 5) (pc := 62) dJ21_getChars_62 q596 (List.mem_of_getElem? (i := 5) rfl) rfl ?_
      refine r_iload (pc := 65) dJ21_getChars_65 2 rfl ?_
      refine r_bald (pc := 67) dJ21_getChars_67 (fun v10 => ?_)
      refine r_bast (pc := 68) dJ21_getChars_68 (fun g11 => ?_)
      refine r_goto (tgt := 22) (pc := 69) dJ21_getChars_69 (by decide) ?_
      refine AW_sub [1, 4, 0, 5] rfl ?_
      exact ih (x0 / (100 : Int32)) ((x5 + (-1 : Int32)) + (-1 : Int32)) g11
theorem t_J21_getChars (γ : GP) (l : Launch) (hl : l.stackTraces = false) (x0 : Int32) (x1 : Int32) (x2 : Nat) (g : AH) : TrM ρI γ l ⟨"java/lang/Integer", "getChars", "(II[B)I"⟩ (ws_ ⟨"java/lang/Integer", "getChars", "(II[B)I"⟩ prog_40_method_12_code 7 (some .int)) 1 [.int x0, .int x1, .ref x2] g (f_J21_getChars γ x0 x1 x2 g) := by
  refine TrM_of (plainFor_of_name (by decide)) (Nat.le_of_ble_eq_true rfl) ?_
  unfold f_J21_getChars
  change AW ρI γ l ck_J21_getChars g 0 [(0, .int x0), (1, .int x1), (2, .ref x2)] [] g _
  refine r_iload_n (pc := 0) dJ21_getChars_0 rfl 1 rfl ?_
  refine r_istore (pc := 1) dJ21_getChars_1 (Nat.le_of_ble_eq_true rfl) rfl ?_
  refine r_iload_n (pc := 3) dJ21_getChars_3 rfl 1 rfl ?_
  refine AW_jn (P := fun (j : Int32 → AH → Option (Int32 × AH)) => ∀ (z1 : Int32) (g2 : AH), AW ρI γ l ck_J21_getChars g 12 [(0, .int x0), (2, .ref x2), (5, .int x1)] [.int z1] g2 (j z1 g2)) (fun z1 g2 => ?_) (fun j3 h_j3 => ?_)
  · skip
    refine r_istore (pc := 12) dJ21_getChars_12 (Nat.le_of_ble_eq_true rfl) rfl ?_
    refine r_iload (pc := 14) dJ21_getChars_14 0 rfl ?_
    refine AW_jn (P := fun (j : Int32 → AH → Option (Int32 × AH)) => ∀ (y4 : Int32) (g5 : AH), AW ρI γ l ck_J21_getChars g 104 [(2, .ref x2), (5, .int y4), (6, .int z1)] [] g5 (j y4 g5)) (fun y4 g5 => ?_) (fun j6 h_j6 => ?_)
    · skip
      refine r_iload (pc := 104) dJ21_getChars_104 2 rfl ?_
      refine r_if_eq (tgt := 118) (pc := 106) dJ21_getChars_106 (by decide) ?_ ?_
      · skip
        refine r_iload (pc := 118) dJ21_getChars_118 1 rfl ?_
        exact r_iret (pc := 120) dJ21_getChars_120 rfl
      · skip
        refine r_aload_n (pc := 109) dJ21_getChars_109 rfl 0 rfl ?_
        refine r_iinc (j := 1) (v := (y4 + (-1 : Int32))) (pc := 110) dJ21_getChars_110 rfl rfl (Nat.le_of_ble_eq_true rfl) rfl ?_
        refine r_iload (pc := 113) dJ21_getChars_113 0 rfl ?_
        refine r_bipush (v := (45 : Int32)) (pc := 115) dJ21_getChars_115 (by decide) ?_
        refine r_bast (pc := 117) dJ21_getChars_117 (fun g7 => ?_)
        refine r_iload (pc := 118) dJ21_getChars_118 0 rfl ?_
        exact r_iret (pc := 120) dJ21_getChars_120 rfl
    · skip
      refine r_if_ne (tgt := 22) (pc := 16) dJ21_getChars_16 (by decide) ?_ ?_
      · skip
        refine r_iload_n (pc := 19) dJ21_getChars_19 rfl 1 rfl ?_
        refine r_ineg (pc := 20) dJ21_getChars_20 ?_
        refine r_istore_n (pc := 21) dJ21_getChars_21 rfl (Nat.le_of_ble_eq_true rfl) rfl ?_
        refine AW_sub [0, 2, 3, 1] rfl ?_
        refine f_J21_getChars_L22_w γ l hl _ x2 z1 _ ?_ FU (-x0) x1 g2
        · intro y12 y13 g14
          refine r_aload_n (pc := 72) dJ21_getChars_72 rfl 1 rfl ?_
          refine r_iinc (j := 2) (v := (y13 + (-1 : Int32))) (pc := 73) dJ21_getChars_73 rfl rfl (Nat.le_of_ble_eq_true rfl) rfl ?_
          refine r_iload (pc := 76) dJ21_getChars_76 0 rfl ?_
          refine r_gets (i := 4) (pc := 78) dJ21_getChars_78 q594 (List.mem_of_getElem? (i := 4) rfl) rfl ?_
          refine r_iload_n (pc := 81) dJ21_getChars_81 rfl 1 rfl ?_
          refine r_ineg (pc := 82) dJ21_getChars_82 ?_
          refine r_bald (pc := 83) dJ21_getChars_83 (fun v15 => ?_)
          refine r_bast (pc := 84) dJ21_getChars_84 (fun g16 => ?_)
          refine r_iload_n (pc := 85) dJ21_getChars_85 rfl 1 rfl ?_
          refine r_bipush (v := (-9 : Int32)) (pc := 86) dJ21_getChars_86 (by decide) ?_
          refine r_icmp_ge (tgt := 104) (pc := 88) dJ21_getChars_88 (by decide) ?_ ?_
          · skip
            refine AW_sub [2, 0, 3] rfl ?_
            exact h_j6 (y13 + (-1 : Int32)) g16
          · skip
            refine r_aload_n (pc := 91) dJ21_getChars_91 rfl 2 rfl ?_
            refine r_iinc (j := 0) (v := ((y13 + (-1 : Int32)) + (-1 : Int32))) (pc := 92) dJ21_getChars_92 rfl rfl (Nat.le_of_ble_eq_true rfl) rfl ?_
            refine r_iload (pc := 95) dJ21_getChars_95 0 rfl ?_
            refine r_gets (i := 5) (pc := 97) dJ21_getChars_97 q596 (List.mem_of_getElem? (i := 5) rfl) rfl ?_
            refine r_iload_n (pc := 100) dJ21_getChars_100 rfl 1 rfl ?_
            refine r_ineg (pc := 101) dJ21_getChars_101 ?_
            refine r_bald (pc := 102) dJ21_getChars_102 (fun v17 => ?_)
            refine r_bast (pc := 103) dJ21_getChars_103 (fun g18 => ?_)
            refine AW_sub [2, 0, 3] rfl ?_
            exact h_j6 ((y13 + (-1 : Int32)) + (-1 : Int32)) g18
      · skip
        refine AW_sub [1, 2, 3, 0] rfl ?_
        refine f_J21_getChars_L22_w γ l hl _ x2 z1 _ ?_ FU x0 x1 g2
        · intro y19 y20 g21
          refine r_aload_n (pc := 72) dJ21_getChars_72 rfl 1 rfl ?_
          refine r_iinc (j := 2) (v := (y20 + (-1 : Int32))) (pc := 73) dJ21_getChars_73 rfl rfl (Nat.le_of_ble_eq_true rfl) rfl ?_
          refine r_iload (pc := 76) dJ21_getChars_76 0 rfl ?_
          refine r_gets (i := 4) (pc := 78) dJ21_getChars_78 q594 (List.mem_of_getElem? (i := 4) rfl) rfl ?_
          refine r_iload_n (pc := 81) dJ21_getChars_81 rfl 1 rfl ?_
          refine r_ineg (pc := 82) dJ21_getChars_82 ?_
          refine r_bald (pc := 83) dJ21_getChars_83 (fun v22 => ?_)
          refine r_bast (pc := 84) dJ21_getChars_84 (fun g23 => ?_)
          refine r_iload_n (pc := 85) dJ21_getChars_85 rfl 1 rfl ?_
          refine r_bipush (v := (-9 : Int32)) (pc := 86) dJ21_getChars_86 (by decide) ?_
          refine r_icmp_ge (tgt := 104) (pc := 88) dJ21_getChars_88 (by decide) ?_ ?_
          · skip
            refine AW_sub [2, 0, 3] rfl ?_
            exact h_j6 (y20 + (-1 : Int32)) g23
          · skip
            refine r_aload_n (pc := 91) dJ21_getChars_91 rfl 2 rfl ?_
            refine r_iinc (j := 0) (v := ((y20 + (-1 : Int32)) + (-1 : Int32))) (pc := 92) dJ21_getChars_92 rfl rfl (Nat.le_of_ble_eq_true rfl) rfl ?_
            refine r_iload (pc := 95) dJ21_getChars_95 0 rfl ?_
            refine r_gets (i := 5) (pc := 97) dJ21_getChars_97 q596 (List.mem_of_getElem? (i := 5) rfl) rfl ?_
            refine r_iload_n (pc := 100) dJ21_getChars_100 rfl 1 rfl ?_
            refine r_ineg (pc := 101) dJ21_getChars_101 ?_
            refine r_bald (pc := 102) dJ21_getChars_102 (fun v24 => ?_)
            refine r_bast (pc := 103) dJ21_getChars_103 (fun g25 => ?_)
            refine AW_sub [2, 0, 3] rfl ?_
            exact h_j6 ((y20 + (-1 : Int32)) + (-1 : Int32)) g25
  · skip
    refine r_if_ge (tgt := 11) (pc := 4) dJ21_getChars_4 (by decide) ?_ ?_
    · skip
      refine r_iconst (v := (0 : Int32)) (pc := 11) dJ21_getChars_11 (by decide) ?_
      refine AW_sub [1, 3, 0] rfl ?_
      exact h_j3 (0 : Int32) g
    · skip
      refine r_iconst (v := (1 : Int32)) (pc := 7) dJ21_getChars_7 (by decide) ?_
      refine r_goto (tgt := 12) (pc := 8) dJ21_getChars_8 (by decide) ?_
      refine AW_sub [1, 3, 0] rfl ?_
      exact h_j3 (1 : Int32) g
abbrev ck_J8_getChars_2 : CK := ("java/lang/StringUTF16", prog_52_method_89_code, 7, (some .int), "getChars", [], 3)
def f_J8_getChars_2_L22 (γ : GP) (x2 : Nat) (x6 : Int32) (K76 : Int32 → Int32 → AH → Option (Int32 × AH)) : Nat → Int32 → Int32 → AH → Option (Int32 × AH)
  | 0, _, _, _ => none
  | n + 1, x0, x5, g => (if (-100 : Int32) < x0 then K76 x0 x5 g else (if ¬ (100 : Int32) = 0 then gA g 102 (γ.1 4) (((x0 / (100 : Int32)) * (100 : Int32)) - x0) fun v8 => bV (f_J8_putChar γ x2 (x5 + (-1 : Int32)) v8 g) fun g9 => gA g9 102 (γ.1 5) (((x0 / (100 : Int32)) * (100 : Int32)) - x0) fun v10 => bV (f_J8_putChar γ x2 ((x5 + (-1 : Int32)) + (-1 : Int32)) v10 g9) fun g11 => f_J8_getChars_2_L22 γ x2 x6 K76 n (x0 / (100 : Int32)) ((x5 + (-1 : Int32)) + (-1 : Int32)) g11 else none))
def f_J8_getChars_2 (γ : GP) (x0 : Int32) (x1 : Int32) (x2 : Nat) (g : AH) : Option (Int32 × AH) := jn (fun (z1 : Int32) (g2 : AH) => jn (fun (y4 : Int32) (g5 : AH) => (if z1 = 0 then (some (y4, g5)) else bV (f_J8_putChar γ x2 (y4 + (-1 : Int32)) (45 : Int32) g5) fun g7 => (some ((y4 + (-1 : Int32)), g7)))) (fun (j6 : Int32 → AH → Option (Int32 × AH)) => (if z1 = 0 then f_J8_getChars_2_L22 γ x2 z1 (fun (y12 : Int32) (y13 : Int32) (g14 : AH) => gA g14 102 (γ.1 4) (-y12) fun v15 => bV (f_J8_putChar γ x2 (y13 + (-1 : Int32)) v15 g14) fun g16 => (if (-9 : Int32) ≤ y12 then j6 (y13 + (-1 : Int32)) g16 else gA g16 102 (γ.1 5) (-y12) fun v17 => bV (f_J8_putChar γ x2 ((y13 + (-1 : Int32)) + (-1 : Int32)) v17 g16) fun g18 => j6 ((y13 + (-1 : Int32)) + (-1 : Int32)) g18)) FU (-x0) x1 g2 else f_J8_getChars_2_L22 γ x2 z1 (fun (y19 : Int32) (y20 : Int32) (g21 : AH) => gA g21 102 (γ.1 4) (-y19) fun v22 => bV (f_J8_putChar γ x2 (y20 + (-1 : Int32)) v22 g21) fun g23 => (if (-9 : Int32) ≤ y19 then j6 (y20 + (-1 : Int32)) g23 else gA g23 102 (γ.1 5) (-y19) fun v24 => bV (f_J8_putChar γ x2 ((y20 + (-1 : Int32)) + (-1 : Int32)) v24 g23) fun g25 => j6 ((y20 + (-1 : Int32)) + (-1 : Int32)) g25)) FU x0 x1 g2))) (fun (j3 : Int32 → AH → Option (Int32 × AH)) => (if 0 ≤ x0 then j3 (0 : Int32) g else j3 (1 : Int32) g))
theorem f_J8_getChars_2_L22_w (γ : GP) (l : Launch) (hl : l.stackTraces = false) (G0 : AH) (x2 : Nat) (x6 : Int32) (K76 : Int32 → Int32 → AH → Option (Int32 × AH)) (h_K76 : ∀ (y0 : Int32) (y5 : Int32) (g : AH), AW ρI γ l ck_J8_getChars_2 G0 76 [(0, .int y0), (2, .ref x2), (5, .int y5), (6, .int x6)] [] g (K76 y0 y5 g)) : ∀ (n : Nat) (x0 : Int32) (x5 : Int32) (g : AH), AW ρI γ l ck_J8_getChars_2 G0 22 [(0, .int x0), (2, .ref x2), (5, .int x5), (6, .int x6)] [] g (f_J8_getChars_2_L22 γ x2 x6 K76 n x0 x5 g) := by
  intro n
  induction n with
  | zero => intro x0 x5 g; exact AW_none
  | succ n ih =>
    intro x0 x5 g
    unfold f_J8_getChars_2_L22
    refine r_iload_n (pc := 22) dJ8_getChars_2_22 rfl 0 rfl ?_
    refine r_bipush (v := (-100 : Int32)) (pc := 23) dJ8_getChars_2_23 (by decide) ?_
    refine r_icmp_gt (tgt := 76) (pc := 25) dJ8_getChars_2_25 (by decide) ?_ ?_
    · skip
      exact h_K76 x0 x5 g
    · skip
      refine r_iload_n (pc := 28) dJ8_getChars_2_28 rfl 0 rfl ?_
      refine r_bipush (v := (100 : Int32)) (pc := 29) dJ8_getChars_2_29 (by decide) ?_
      refine r_idiv (pc := 31) dJ8_getChars_2_31 ?_
      refine r_istore_n (pc := 32) dJ8_getChars_2_32 rfl (Nat.le_of_ble_eq_true rfl) rfl ?_
      refine r_iload_n (pc := 33) dJ8_getChars_2_33 rfl 0 rfl ?_
      refine r_bipush (v := (100 : Int32)) (pc := 34) dJ8_getChars_2_34 (by decide) ?_
      refine r_imul (pc := 36) dJ8_getChars_2_36 ?_
      refine r_iload_n (pc := 37) dJ8_getChars_2_37 rfl 1 rfl ?_
      refine r_isub (pc := 38) dJ8_getChars_2_38 ?_
      refine r_istore (pc := 39) dJ8_getChars_2_39 (Nat.le_of_ble_eq_true rfl) rfl ?_
      refine r_iload_n (pc := 41) dJ8_getChars_2_41 rfl 1 rfl ?_
      refine r_istore_n (pc := 42) dJ8_getChars_2_42 rfl (Nat.le_of_ble_eq_true rfl) rfl ?_
      refine r_aload_n (pc := 43) dJ8_getChars_2_43 rfl 3 rfl ?_
      refine r_iinc (j := 4) (v := (x5 + (-1 : Int32))) (pc := 44) dJ8_getChars_2_44 rfl rfl (Nat.le_of_ble_eq_true rfl) rfl ?_
      refine r_iload (pc := 47) dJ8_getChars_2_47 0 rfl ?_
      refine r_gets (i := 4) (pc := 49) dJ8_getChars_2_49 q604 (List.mem_of_getElem? (i := 4) rfl) rfl ?_
      refine r_iload (pc := 52) dJ8_getChars_2_52 2 rfl ?_
      refine r_bald (pc := 54) dJ8_getChars_2_54 (fun v8 => ?_)
      refine r_cV (pc := 55) (rest := []) (run_S (n := 3) (As := [.ref x2, .int (x5 + (-1 : Int32)), .int v8]) (rest := []) (t_J8_putChar γ l hl x2 (x5 + (-1 : Int32)) v8 g) dJ8_getChars_2_55 q529 q530 q120 q531 (by decide +kernel) rfl (Nat.le_of_ble_eq_true rfl) (Nat.le_of_ble_eq_true rfl) rfl (Nat.le_of_ble_eq_true rfl)) (fun g9 => ?_)
      refine r_aload_n (pc := 58) dJ8_getChars_2_58 rfl 4 rfl ?_
      refine r_iinc (j := 0) (v := ((x5 + (-1 : Int32)) + (-1 : Int32))) (pc := 59) dJ8_getChars_2_59 rfl rfl (Nat.le_of_ble_eq_true rfl) rfl ?_
      refine r_iload (pc := 62) dJ8_getChars_2_62 0 rfl ?_
      refine r_gets (i := 5) (pc := 64) dJ8_getChars_2_64 q605 (List.mem_of_getElem? (i := 5) rfl) rfl ?_
      refine r_iload (pc := 67) dJ8_getChars_2_67 2 rfl ?_
      refine r_bald (pc := 69) dJ8_getChars_2_69 (fun v10 => ?_)
      refine r_cV (pc := 70) (rest := []) (run_S (n := 3) (As := [.ref x2, .int ((x5 + (-1 : Int32)) + (-1 : Int32)), .int v10]) (rest := []) (t_J8_putChar γ l hl x2 ((x5 + (-1 : Int32)) + (-1 : Int32)) v10 g9) dJ8_getChars_2_70 q529 q530 q120 q531 (by decide +kernel) rfl (Nat.le_of_ble_eq_true rfl) (Nat.le_of_ble_eq_true rfl) rfl (Nat.le_of_ble_eq_true rfl)) (fun g11 => ?_)
      refine r_goto (tgt := 22) (pc := 73) dJ8_getChars_2_73 (by decide) ?_
      refine AW_sub [1, 4, 0, 5] rfl ?_
      exact ih (x0 / (100 : Int32)) ((x5 + (-1 : Int32)) + (-1 : Int32)) g11
theorem t_J8_getChars_2 (γ : GP) (l : Launch) (hl : l.stackTraces = false) (x0 : Int32) (x1 : Int32) (x2 : Nat) (g : AH) : TrM ρI γ l ⟨"java/lang/StringUTF16", "getChars", "(II[B)I"⟩ (ws_ ⟨"java/lang/StringUTF16", "getChars", "(II[B)I"⟩ prog_52_method_89_code 7 (some .int)) 3 [.int x0, .int x1, .ref x2] g (f_J8_getChars_2 γ x0 x1 x2 g) := by
  refine TrM_of (plainFor_of_name (by decide)) (Nat.le_of_ble_eq_true rfl) ?_
  unfold f_J8_getChars_2
  change AW ρI γ l ck_J8_getChars_2 g 0 [(0, .int x0), (1, .int x1), (2, .ref x2)] [] g _
  refine r_iload_n (pc := 0) dJ8_getChars_2_0 rfl 1 rfl ?_
  refine r_istore (pc := 1) dJ8_getChars_2_1 (Nat.le_of_ble_eq_true rfl) rfl ?_
  refine r_iload_n (pc := 3) dJ8_getChars_2_3 rfl 1 rfl ?_
  refine AW_jn (P := fun (j : Int32 → AH → Option (Int32 × AH)) => ∀ (z1 : Int32) (g2 : AH), AW ρI γ l ck_J8_getChars_2 g 12 [(0, .int x0), (2, .ref x2), (5, .int x1)] [.int z1] g2 (j z1 g2)) (fun z1 g2 => ?_) (fun j3 h_j3 => ?_)
  · skip
    refine r_istore (pc := 12) dJ8_getChars_2_12 (Nat.le_of_ble_eq_true rfl) rfl ?_
    refine r_iload (pc := 14) dJ8_getChars_2_14 0 rfl ?_
    refine AW_jn (P := fun (j : Int32 → AH → Option (Int32 × AH)) => ∀ (y4 : Int32) (g5 : AH), AW ρI γ l ck_J8_getChars_2 g 112 [(2, .ref x2), (5, .int y4), (6, .int z1)] [] g5 (j y4 g5)) (fun y4 g5 => ?_) (fun j6 h_j6 => ?_)
    · skip
      refine r_iload (pc := 112) dJ8_getChars_2_112 2 rfl ?_
      refine r_if_eq (tgt := 128) (pc := 114) dJ8_getChars_2_114 (by decide) ?_ ?_
      · skip
        refine r_iload (pc := 128) dJ8_getChars_2_128 1 rfl ?_
        exact r_iret (pc := 130) dJ8_getChars_2_130 rfl
      · skip
        refine r_aload_n (pc := 117) dJ8_getChars_2_117 rfl 0 rfl ?_
        refine r_iinc (j := 1) (v := (y4 + (-1 : Int32))) (pc := 118) dJ8_getChars_2_118 rfl rfl (Nat.le_of_ble_eq_true rfl) rfl ?_
        refine r_iload (pc := 121) dJ8_getChars_2_121 0 rfl ?_
        refine r_bipush (v := (45 : Int32)) (pc := 123) dJ8_getChars_2_123 (by decide) ?_
        refine r_cV (pc := 125) (rest := []) (run_S (n := 3) (As := [.ref x2, .int (y4 + (-1 : Int32)), .int (45 : Int32)]) (rest := []) (t_J8_putChar γ l hl x2 (y4 + (-1 : Int32)) (45 : Int32) g5) dJ8_getChars_2_125 q529 q530 q120 q531 (by decide +kernel) rfl (Nat.le_of_ble_eq_true rfl) (Nat.le_of_ble_eq_true rfl) rfl (Nat.le_of_ble_eq_true rfl)) (fun g7 => ?_)
        refine r_iload (pc := 128) dJ8_getChars_2_128 0 rfl ?_
        exact r_iret (pc := 130) dJ8_getChars_2_130 rfl
    · skip
      refine r_if_ne (tgt := 22) (pc := 16) dJ8_getChars_2_16 (by decide) ?_ ?_
      · skip
        refine r_iload_n (pc := 19) dJ8_getChars_2_19 rfl 1 rfl ?_
        refine r_ineg (pc := 20) dJ8_getChars_2_20 ?_
        refine r_istore_n (pc := 21) dJ8_getChars_2_21 rfl (Nat.le_of_ble_eq_true rfl) rfl ?_
        refine AW_sub [0, 2, 3, 1] rfl ?_
        refine f_J8_getChars_2_L22_w γ l hl _ x2 z1 _ ?_ FU (-x0) x1 g2
        · intro y12 y13 g14
          refine r_aload_n (pc := 76) dJ8_getChars_2_76 rfl 1 rfl ?_
          refine r_iinc (j := 2) (v := (y13 + (-1 : Int32))) (pc := 77) dJ8_getChars_2_77 rfl rfl (Nat.le_of_ble_eq_true rfl) rfl ?_
          refine r_iload (pc := 80) dJ8_getChars_2_80 0 rfl ?_
          refine r_gets (i := 4) (pc := 82) dJ8_getChars_2_82 q604 (List.mem_of_getElem? (i := 4) rfl) rfl ?_
          refine r_iload_n (pc := 85) dJ8_getChars_2_85 rfl 1 rfl ?_
          refine r_ineg (pc := 86) dJ8_getChars_2_86 ?_
          refine r_bald (pc := 87) dJ8_getChars_2_87 (fun v15 => ?_)
          refine r_cV (pc := 88) (rest := []) (run_S (n := 3) (As := [.ref x2, .int (y13 + (-1 : Int32)), .int v15]) (rest := []) (t_J8_putChar γ l hl x2 (y13 + (-1 : Int32)) v15 g14) dJ8_getChars_2_88 q529 q530 q120 q531 (by decide +kernel) rfl (Nat.le_of_ble_eq_true rfl) (Nat.le_of_ble_eq_true rfl) rfl (Nat.le_of_ble_eq_true rfl)) (fun g16 => ?_)
          refine r_iload_n (pc := 91) dJ8_getChars_2_91 rfl 1 rfl ?_
          refine r_bipush (v := (-9 : Int32)) (pc := 92) dJ8_getChars_2_92 (by decide) ?_
          refine r_icmp_ge (tgt := 112) (pc := 94) dJ8_getChars_2_94 (by decide) ?_ ?_
          · skip
            refine AW_sub [2, 0, 3] rfl ?_
            exact h_j6 (y13 + (-1 : Int32)) g16
          · skip
            refine r_aload_n (pc := 97) dJ8_getChars_2_97 rfl 2 rfl ?_
            refine r_iinc (j := 0) (v := ((y13 + (-1 : Int32)) + (-1 : Int32))) (pc := 98) dJ8_getChars_2_98 rfl rfl (Nat.le_of_ble_eq_true rfl) rfl ?_
            refine r_iload (pc := 101) dJ8_getChars_2_101 0 rfl ?_
            refine r_gets (i := 5) (pc := 103) dJ8_getChars_2_103 q605 (List.mem_of_getElem? (i := 5) rfl) rfl ?_
            refine r_iload_n (pc := 106) dJ8_getChars_2_106 rfl 1 rfl ?_
            refine r_ineg (pc := 107) dJ8_getChars_2_107 ?_
            refine r_bald (pc := 108) dJ8_getChars_2_108 (fun v17 => ?_)
            refine r_cV (pc := 109) (rest := []) (run_S (n := 3) (As := [.ref x2, .int ((y13 + (-1 : Int32)) + (-1 : Int32)), .int v17]) (rest := []) (t_J8_putChar γ l hl x2 ((y13 + (-1 : Int32)) + (-1 : Int32)) v17 g16) dJ8_getChars_2_109 q529 q530 q120 q531 (by decide +kernel) rfl (Nat.le_of_ble_eq_true rfl) (Nat.le_of_ble_eq_true rfl) rfl (Nat.le_of_ble_eq_true rfl)) (fun g18 => ?_)
            refine AW_sub [2, 0, 3] rfl ?_
            exact h_j6 ((y13 + (-1 : Int32)) + (-1 : Int32)) g18
      · skip
        refine AW_sub [1, 2, 3, 0] rfl ?_
        refine f_J8_getChars_2_L22_w γ l hl _ x2 z1 _ ?_ FU x0 x1 g2
        · intro y19 y20 g21
          refine r_aload_n (pc := 76) dJ8_getChars_2_76 rfl 1 rfl ?_
          refine r_iinc (j := 2) (v := (y20 + (-1 : Int32))) (pc := 77) dJ8_getChars_2_77 rfl rfl (Nat.le_of_ble_eq_true rfl) rfl ?_
          refine r_iload (pc := 80) dJ8_getChars_2_80 0 rfl ?_
          refine r_gets (i := 4) (pc := 82) dJ8_getChars_2_82 q604 (List.mem_of_getElem? (i := 4) rfl) rfl ?_
          refine r_iload_n (pc := 85) dJ8_getChars_2_85 rfl 1 rfl ?_
          refine r_ineg (pc := 86) dJ8_getChars_2_86 ?_
          refine r_bald (pc := 87) dJ8_getChars_2_87 (fun v22 => ?_)
          refine r_cV (pc := 88) (rest := []) (run_S (n := 3) (As := [.ref x2, .int (y20 + (-1 : Int32)), .int v22]) (rest := []) (t_J8_putChar γ l hl x2 (y20 + (-1 : Int32)) v22 g21) dJ8_getChars_2_88 q529 q530 q120 q531 (by decide +kernel) rfl (Nat.le_of_ble_eq_true rfl) (Nat.le_of_ble_eq_true rfl) rfl (Nat.le_of_ble_eq_true rfl)) (fun g23 => ?_)
          refine r_iload_n (pc := 91) dJ8_getChars_2_91 rfl 1 rfl ?_
          refine r_bipush (v := (-9 : Int32)) (pc := 92) dJ8_getChars_2_92 (by decide) ?_
          refine r_icmp_ge (tgt := 112) (pc := 94) dJ8_getChars_2_94 (by decide) ?_ ?_
          · skip
            refine AW_sub [2, 0, 3] rfl ?_
            exact h_j6 (y20 + (-1 : Int32)) g23
          · skip
            refine r_aload_n (pc := 97) dJ8_getChars_2_97 rfl 2 rfl ?_
            refine r_iinc (j := 0) (v := ((y20 + (-1 : Int32)) + (-1 : Int32))) (pc := 98) dJ8_getChars_2_98 rfl rfl (Nat.le_of_ble_eq_true rfl) rfl ?_
            refine r_iload (pc := 101) dJ8_getChars_2_101 0 rfl ?_
            refine r_gets (i := 5) (pc := 103) dJ8_getChars_2_103 q605 (List.mem_of_getElem? (i := 5) rfl) rfl ?_
            refine r_iload_n (pc := 106) dJ8_getChars_2_106 rfl 1 rfl ?_
            refine r_ineg (pc := 107) dJ8_getChars_2_107 ?_
            refine r_bald (pc := 108) dJ8_getChars_2_108 (fun v24 => ?_)
            refine r_cV (pc := 109) (rest := []) (run_S (n := 3) (As := [.ref x2, .int ((y20 + (-1 : Int32)) + (-1 : Int32)), .int v24]) (rest := []) (t_J8_putChar γ l hl x2 ((y20 + (-1 : Int32)) + (-1 : Int32)) v24 g23) dJ8_getChars_2_109 q529 q530 q120 q531 (by decide +kernel) rfl (Nat.le_of_ble_eq_true rfl) (Nat.le_of_ble_eq_true rfl) rfl (Nat.le_of_ble_eq_true rfl)) (fun g25 => ?_)
            refine AW_sub [2, 0, 3] rfl ?_
            exact h_j6 ((y20 + (-1 : Int32)) + (-1 : Int32)) g25
  · skip
    refine r_if_ge (tgt := 11) (pc := 4) dJ8_getChars_2_4 (by decide) ?_ ?_
    · skip
      refine r_iconst (v := (0 : Int32)) (pc := 11) dJ8_getChars_2_11 (by decide) ?_
      refine AW_sub [1, 3, 0] rfl ?_
      exact h_j3 (0 : Int32) g
    · skip
      refine r_iconst (v := (1 : Int32)) (pc := 7) dJ8_getChars_2_7 (by decide) ?_
      refine r_goto (tgt := 12) (pc := 8) dJ8_getChars_2_8 (by decide) ?_
      refine AW_sub [1, 3, 0] rfl ?_
      exact h_j3 (1 : Int32) g
abbrev ck_J8_getChars : CK := ("java/lang/StringUTF16", prog_52_method_77_code, 5, (some .int), "getChars", [], 4)
def f_J8_getChars (γ : GP) (x0 : Int32) (x1 : Int32) (x2 : Int32) (x3 : Nat) (g : AH) : Option (Int32 × AH) := bV (f_J8_checkBoundsBeginEnd γ x1 x2 x3 g) fun g1 => bI (f_J8_getChars_2 γ x0 x2 x3 g1) fun v3 g2 => (if (1 : Int32) = 0 then (if x1 = v3 then (some (v3, g2)) else none) else (some (v3, g2)))
theorem t_J8_getChars (γ : GP) (l : Launch) (hl : l.stackTraces = false) (x0 : Int32) (x1 : Int32) (x2 : Int32) (x3 : Nat) (g : AH) : TrM ρI γ l ⟨"java/lang/StringUTF16", "getChars", "(III[B)I"⟩ (ws_ ⟨"java/lang/StringUTF16", "getChars", "(III[B)I"⟩ prog_52_method_77_code 5 (some .int)) 4 [.int x0, .int x1, .int x2, .ref x3] g (f_J8_getChars γ x0 x1 x2 x3 g) := by
  refine TrM_of (plainFor_of_name (by decide)) (Nat.le_of_ble_eq_true rfl) ?_
  unfold f_J8_getChars
  change AW ρI γ l ck_J8_getChars g 0 [(0, .int x0), (1, .int x1), (2, .int x2), (3, .ref x3)] [] g _
  refine r_iload_n (pc := 0) dJ8_getChars_0 rfl 1 rfl ?_
  refine r_iload_n (pc := 1) dJ8_getChars_1 rfl 2 rfl ?_
  refine r_aload_n (pc := 2) dJ8_getChars_2 rfl 3 rfl ?_
  refine r_cV (pc := 3) (rest := []) (run_S (n := 3) (As := [.int x1, .int x2, .ref x3]) (rest := []) (t_J8_checkBoundsBeginEnd γ l hl x1 x2 x3 g) dJ8_getChars_3 q515 q516 q120 q517 (by decide +kernel) rfl (Nat.le_of_ble_eq_true rfl) (Nat.le_of_ble_eq_true rfl) rfl (Nat.le_of_ble_eq_true rfl)) (fun g1 => ?_)
  refine r_iload_n (pc := 6) dJ8_getChars_6 rfl 0 rfl ?_
  refine r_iload_n (pc := 7) dJ8_getChars_7 rfl 2 rfl ?_
  refine r_aload_n (pc := 8) dJ8_getChars_8 rfl 3 rfl ?_
  refine r_cI (pc := 9) (rest := []) (run_S (n := 3) (As := [.int x0, .int x2, .ref x3]) (rest := []) (t_J8_getChars_2 γ l hl x0 x2 x3 g1) dJ8_getChars_9 q601 q602 q120 q603 (by decide +kernel) rfl (Nat.le_of_ble_eq_true rfl) (Nat.le_of_ble_eq_true rfl) rfl (Nat.le_of_ble_eq_true rfl)) (fun v3 g2 => ?_)
  refine r_istore (pc := 12) dJ8_getChars_12 (Nat.le_of_ble_eq_true rfl) rfl ?_
  refine r_getsI (v := (1 : Int32)) (pc := 14) dJ8_getChars_14 q532 (List.mem_of_getElem? (i := 1) rfl) rfl ?_
  refine r_if_ne (tgt := 34) (pc := 17) dJ8_getChars_17 (by decide) ?_ ?_
  · skip
    refine r_iload_n (pc := 20) dJ8_getChars_20 rfl 2 rfl ?_
    refine r_iload (pc := 21) dJ8_getChars_21 0 rfl ?_
    refine r_icmp_eq (tgt := 34) (pc := 23) dJ8_getChars_23 (by decide) ?_ ?_
    · skip
      refine r_iload (pc := 34) dJ8_getChars_34 0 rfl ?_
      exact r_iret (pc := 36) dJ8_getChars_36 rfl
    · skip
      exact AW_none
  · skip
    refine r_iload (pc := 34) dJ8_getChars_34 0 rfl ?_
    exact r_iret (pc := 36) dJ8_getChars_36 rfl
abbrev ck_J5_append_2 : CK := ("java/lang/AbstractStringBuilder", prog_27_method_32_code, 4, (some (.object "java/lang/AbstractStringBuilder")), "append", [], 5)
def f_J5_append_2 (γ : GP) (x0 : Nat) (x1 : Int32) (g : AH) : Option (Nat × AH) := gI g x0 25 fun v1 => bI (f_J21_stringSize γ x1 g) fun v3 g2 => bV ((if hK g2 x0 = 6 then f_J5_ensureCapacityInternal γ x0 (v1 + v3) g2 else none)) fun g4 => bI ((if hK g4 x0 = 6 then f_J5_isLatin1 γ x0 g4 else none)) fun v6 g5 => (if v6 = 0 then gR g5 x0 22 fun v7 => bI (f_J8_getChars γ x1 v1 (v1 + v3) v7 g5) fun v9 g8 => pI γ g8 x0 25 (v1 + v3) fun g10 => (some (x0, g10)) else gR g5 x0 22 fun v11 => bI (f_J21_getChars γ x1 (v1 + v3) v11 g5) fun v13 g12 => pI γ g12 x0 25 (v1 + v3) fun g14 => (some (x0, g14)))
theorem t_J5_append_2 (γ : GP) (l : Launch) (hl : l.stackTraces = false) (x0 : Nat) (x1 : Int32) (g : AH) : TrM ρR γ l ⟨"java/lang/AbstractStringBuilder", "append", "(I)Ljava/lang/AbstractStringBuilder;"⟩ (ws_ ⟨"java/lang/AbstractStringBuilder", "append", "(I)Ljava/lang/AbstractStringBuilder;"⟩ prog_27_method_32_code 4 (some (.object "java/lang/AbstractStringBuilder"))) 5 [.ref x0, .int x1] g (f_J5_append_2 γ x0 x1 g) := by
  refine TrM_of (plainFor_of_name (by decide)) (Nat.le_of_ble_eq_true rfl) ?_
  unfold f_J5_append_2
  change AW ρR γ l ck_J5_append_2 g 0 [(0, .ref x0), (1, .int x1)] [] g _
  refine r_aload_n (pc := 0) dJ5_append_2_0 rfl 0 rfl ?_
  refine r_getI (f := 25) (pc := 1) dJ5_append_2_1 q308 (Or.inl rfl) rfl (fun v1 => ?_)
  refine r_istore_n (pc := 4) dJ5_append_2_4 rfl (Nat.le_of_ble_eq_true rfl) rfl ?_
  refine r_iload_n (pc := 5) dJ5_append_2_5 rfl 0 rfl ?_
  refine r_iload_n (pc := 6) dJ5_append_2_6 rfl 2 rfl ?_
  refine r_cI (pc := 7) (rest := [.int v1]) (run_S (n := 1) (As := [.int x1]) (rest := [.int v1]) (t_J21_stringSize γ l hl x1 g) dJ5_append_2_7 q588 q589 q135 q590 (by decide +kernel) rfl (Nat.le_of_ble_eq_true rfl) (Nat.le_of_ble_eq_true rfl) rfl (Nat.le_of_ble_eq_true rfl)) (fun v3 g2 => ?_)
  refine r_iadd (pc := 10) dJ5_append_2_10 ?_
  refine r_istore_n (pc := 11) dJ5_append_2_11 rfl (Nat.le_of_ble_eq_true rfl) rfl ?_
  refine r_aload_n (pc := 12) dJ5_append_2_12 rfl 2 rfl ?_
  refine r_iload_n (pc := 13) dJ5_append_2_13 rfl 0 rfl ?_
  refine r_cV (pc := 14) (rest := []) (RunOK_chk (fun h => run_P (n := 1) (c9 := 6) (As := [.int (v1 + v3)]) (rest := []) (t_J5_ensureCapacityInternal γ l hl x0 (v1 + v3) g2) dJ5_append_2_14 q472 q3884 mv473 q474 q117 q475 (by decide +kernel) rfl h ⟨by decide, by decide⟩ (Nat.le_of_ble_eq_true rfl) (Nat.le_of_ble_eq_true rfl) rfl (Nat.le_of_ble_eq_true rfl))) (fun g4 => ?_)
  refine r_aload_n (pc := 17) dJ5_append_2_17 rfl 2 rfl ?_
  refine r_cI (pc := 18) (rest := []) (RunOK_chk (fun h => run_U (n := 0) (c9 := 6) (As := []) (rest := []) (owner := "java/lang/AbstractStringBuilder") (t_J5_isLatin1 γ l hl x0 g4) dJ5_append_2_18 q507 q509 q510 q508 q117 q511 rfl ⟨by decide, by decide, by decide +kernel⟩ rfl h ⟨by decide, by decide⟩ (Nat.le_of_ble_eq_true rfl) (Nat.le_of_ble_eq_true rfl) rfl (Nat.le_of_ble_eq_true rfl))) (fun v6 g5 => ?_)
  refine r_if_eq (tgt := 37) (pc := 21) dJ5_append_2_21 (by decide) ?_ ?_
  · skip
    refine r_iload_n (pc := 37) dJ5_append_2_37 rfl 3 rfl ?_
    refine r_iload_n (pc := 38) dJ5_append_2_38 rfl 1 rfl ?_
    refine r_iload_n (pc := 39) dJ5_append_2_39 rfl 0 rfl ?_
    refine r_aload_n (pc := 40) dJ5_append_2_40 rfl 2 rfl ?_
    refine r_getR (f := 22) (pc := 41) dJ5_append_2_41 q304 (Or.inl rfl) rfl (fun v7 => ?_)
    refine r_cI (pc := 44) (rest := []) (run_S (n := 4) (As := [.int x1, .int v1, .int (v1 + v3), .ref v7]) (rest := []) (t_J8_getChars γ l hl x1 v1 (v1 + v3) v7 g5) dJ5_append_2_44 q598 q599 q120 q600 (by decide +kernel) rfl (Nat.le_of_ble_eq_true rfl) (Nat.le_of_ble_eq_true rfl) rfl (Nat.le_of_ble_eq_true rfl)) (fun v9 g8 => ?_)
    refine r_pop (pc := 47) dJ5_append_2_47 rfl ?_
    refine r_aload_n (pc := 48) dJ5_append_2_48 rfl 2 rfl ?_
    refine r_iload_n (pc := 49) dJ5_append_2_49 rfl 0 rfl ?_
    refine r_putI (f := 25) (pc := 50) dJ5_append_2_50 q308 (Or.inl rfl) (Or.inl rfl) rfl (fun g10 => ?_)
    refine r_aload_n (pc := 53) dJ5_append_2_53 rfl 2 rfl ?_
    exact r_aret (pc := 54) dJ5_append_2_54 rfl (by first | exact Or.inl ⟨_, rfl⟩ | exact Or.inr ⟨_, rfl⟩)
  · skip
    refine r_iload_n (pc := 24) dJ5_append_2_24 rfl 3 rfl ?_
    refine r_iload_n (pc := 25) dJ5_append_2_25 rfl 0 rfl ?_
    refine r_aload_n (pc := 26) dJ5_append_2_26 rfl 2 rfl ?_
    refine r_getR (f := 22) (pc := 27) dJ5_append_2_27 q304 (Or.inl rfl) rfl (fun v11 => ?_)
    refine r_cI (pc := 30) (rest := []) (run_S (n := 3) (As := [.int x1, .int (v1 + v3), .ref v11]) (rest := []) (t_J21_getChars γ l hl x1 (v1 + v3) v11 g5) dJ5_append_2_30 q591 q592 q135 q593 (by decide +kernel) rfl (Nat.le_of_ble_eq_true rfl) (Nat.le_of_ble_eq_true rfl) rfl (Nat.le_of_ble_eq_true rfl)) (fun v13 g12 => ?_)
    refine r_pop (pc := 33) dJ5_append_2_33 rfl ?_
    refine r_goto (tgt := 48) (pc := 34) dJ5_append_2_34 (by decide) ?_
    refine r_aload_n (pc := 48) dJ5_append_2_48 rfl 2 rfl ?_
    refine r_iload_n (pc := 49) dJ5_append_2_49 rfl 0 rfl ?_
    refine r_putI (f := 25) (pc := 50) dJ5_append_2_50 q308 (Or.inl rfl) (Or.inl rfl) rfl (fun g14 => ?_)
    refine r_aload_n (pc := 53) dJ5_append_2_53 rfl 2 rfl ?_
    exact r_aret (pc := 54) dJ5_append_2_54 rfl (by first | exact Or.inl ⟨_, rfl⟩ | exact Or.inr ⟨_, rfl⟩)
abbrev ck_J6_append_2 : CK := ("java/lang/StringBuilder", prog_49_method_15_code, 2, (some (.object "java/lang/StringBuilder")), "append", [], 6)
def f_J6_append_2 (γ : GP) (x0 : Nat) (x1 : Int32) (g : AH) : Option (Nat × AH) := bR ((if hK g x0 = 6 then f_J5_append_2 γ x0 x1 g else none)) fun v2 g1 => (some (x0, g1))
theorem t_J6_append_2 (γ : GP) (l : Launch) (hl : l.stackTraces = false) (x0 : Nat) (x1 : Int32) (g : AH) : TrM ρR γ l ⟨"java/lang/StringBuilder", "append", "(I)Ljava/lang/StringBuilder;"⟩ (ws_ ⟨"java/lang/StringBuilder", "append", "(I)Ljava/lang/StringBuilder;"⟩ prog_49_method_15_code 2 (some (.object "java/lang/StringBuilder"))) 6 [.ref x0, .int x1] g (f_J6_append_2 γ x0 x1 g) := by
  refine TrM_of (plainFor_of_name (by decide)) (Nat.le_of_ble_eq_true rfl) ?_
  unfold f_J6_append_2
  change AW ρR γ l ck_J6_append_2 g 0 [(0, .ref x0), (1, .int x1)] [] g _
  refine r_aload_n (pc := 0) dJ6_append_2_0 rfl 0 rfl ?_
  refine r_iload_n (pc := 1) dJ6_append_2_1 rfl 1 rfl ?_
  refine r_cR (pc := 2) (rest := []) (RunOK_chk (fun h => run_SU (n := 1) (As := [.int x1]) (rest := []) (t_J5_append_2 γ l hl x0 x1 g) dJ6_append_2_2 q585 q3889 q317 q586 q117 q587 ⟨by decide, by decide +kernel⟩ rfl h ⟨by decide, by decide⟩ (Nat.le_of_ble_eq_true rfl) (Nat.le_of_ble_eq_true rfl) rfl (Nat.le_of_ble_eq_true rfl))) (fun v2 g1 => ?_)
  refine r_pop (pc := 5) dJ6_append_2_5 rfl ?_
  refine r_aload_n (pc := 6) dJ6_append_2_6 rfl 0 rfl ?_
  exact r_aret (pc := 7) dJ6_append_2_7 rfl (by first | exact Or.inl ⟨_, rfl⟩ | exact Or.inr ⟨_, rfl⟩)
abbrev ck_J48_init_2 : CK := ("java/lang/ArithmeticException", prog_29_method_1_code, 1, none, "<init>", [], 7)
def f_J48_init_2 (γ : GP) (x0 : Nat) (g : AH) : Option (AH) := bV ((if x0 ≠ 0 then f_J11_init_3 γ x0 g else none)) fun g1 => (some g1)
theorem t_J48_init_2 (γ : GP) (l : Launch) (hl : l.stackTraces = false) (x0 : Nat) (g : AH) : TrM ρV γ l ⟨"java/lang/ArithmeticException", "<init>", "()V"⟩ (ws_ ⟨"java/lang/ArithmeticException", "<init>", "()V"⟩ prog_29_method_1_code 1 none) 7 [.ref x0] g (f_J48_init_2 γ x0 g) := by
  refine TrM_of (plainFor_of_name (by decide)) (Nat.le_of_ble_eq_true rfl) ?_
  unfold f_J48_init_2
  change AW ρV γ l ck_J48_init_2 g 0 [(0, .ref x0)] [] g _
  refine r_aload_n (pc := 0) dJ48_init_2_0 rfl 0 rfl ?_
  refine r_cV (pc := 1) (rest := []) (RunOK_chk (fun h => run_I (n := 0) (As := []) (rest := []) (t_J11_init_3 γ l hl x0 g) dJ48_init_2_1 q3332 q1007 q124 q1008 rfl (by decide +kernel) rfl h (Nat.le_of_ble_eq_true rfl) (Nat.le_of_ble_eq_true rfl) rfl (Nat.le_of_ble_eq_true rfl))) (fun g1 => ?_)
  exact r_vret (pc := 4) dJ48_init_2_4 rfl
abbrev ck_J35_size : CK := ("java/util/TreeMap$KeySet", prog_98_method_4_code, 1, (some .int), "size", [], 1)
def f_J35_size (γ : GP) (x0 : Nat) (g : AH) : Option (Int32 × AH) := gR g x0 92 fun v1 => none
theorem t_J35_size (γ : GP) (l : Launch) (hl : l.stackTraces = false) (x0 : Nat) (g : AH) : TrM ρI γ l ⟨"java/util/TreeMap$KeySet", "size", "()I"⟩ (ws_ ⟨"java/util/TreeMap$KeySet", "size", "()I"⟩ prog_98_method_4_code 1 (some .int)) 1 [.ref x0] g (f_J35_size γ x0 g) := by
  refine TrM_of (plainFor_of_name (by decide)) (Nat.le_of_ble_eq_true rfl) ?_
  unfold f_J35_size
  change AW ρI γ l ck_J35_size g 0 [(0, .ref x0)] [] g _
  refine r_aload_n (pc := 0) dJ35_size_0 rfl 0 rfl ?_
  refine r_getR (f := 92) (pc := 1) dJ35_size_1 q1485 (Or.inl rfl) rfl (fun v1 => ?_)
  exact AW_none
abbrev ck_J42_size : CK := ("java/util/TreeMap$Values", prog_102_method_3_code, 1, (some .int), "size", [], 2)
def f_J42_size (γ : GP) (x0 : Nat) (g : AH) : Option (Int32 × AH) := gR g x0 105 fun v1 => bI ((if hK g v1 = 15 then f_J28_size γ v1 g else none)) fun v3 g2 => (some (v3, g2))
theorem t_J42_size (γ : GP) (l : Launch) (hl : l.stackTraces = false) (x0 : Nat) (g : AH) : TrM ρI γ l ⟨"java/util/TreeMap$Values", "size", "()I"⟩ (ws_ ⟨"java/util/TreeMap$Values", "size", "()I"⟩ prog_102_method_3_code 1 (some .int)) 2 [.ref x0] g (f_J42_size γ x0 g) := by
  refine TrM_of (plainFor_of_name (by decide)) (Nat.le_of_ble_eq_true rfl) ?_
  unfold f_J42_size
  change AW ρI γ l ck_J42_size g 0 [(0, .ref x0)] [] g _
  refine r_aload_n (pc := 0) dJ42_size_0 rfl 0 rfl ?_
  refine r_getR (f := 105) (pc := 1) dJ42_size_1 q1084 (Or.inl rfl) rfl (fun v1 => ?_)
  refine r_cI (pc := 4) (rest := []) (RunOK_chk (fun h => run_V (n := 0) (c9 := 15) (As := []) (rest := []) (t_J28_size γ l hl v1 g) dJ42_size_4 q1315 q1301 q1302 q143 q1303 (by decide +kernel) rfl h ⟨rfl, by decide, by decide⟩ (Nat.le_of_ble_eq_true rfl) (Nat.le_of_ble_eq_true rfl) rfl (Nat.le_of_ble_eq_true rfl))) (fun v3 g2 => ?_)
  exact r_iret (pc := 7) dJ42_size_7 rfl
abbrev ck_J0_isEmpty : CK := ("java/util/AbstractCollection", prog_59_method_4_code, 1, (some .boolean), "isEmpty", [], 3)
def f_J0_isEmpty (γ : GP) (x0 : Nat) (g : AH) : Option (Int32 × AH) := bI ((if hK g x0 = 3 then f_J2_size γ x0 g else if hK g x0 = 5 then f_J4_size γ x0 g else if hK g x0 = 21 then f_J35_size γ x0 g else if hK g x0 = 26 then f_J42_size γ x0 g else none)) fun v2 g1 => (if v2 = 0 then (rtN .boolean (1 : Int32) g1) else (rtN .boolean (0 : Int32) g1))
theorem t_J0_isEmpty (γ : GP) (l : Launch) (hl : l.stackTraces = false) (x0 : Nat) (g : AH) : TrM ρI γ l ⟨"java/util/AbstractCollection", "isEmpty", "()Z"⟩ (ws_ ⟨"java/util/AbstractCollection", "isEmpty", "()Z"⟩ prog_59_method_4_code 1 (some .boolean)) 3 [.ref x0] g (f_J0_isEmpty γ x0 g) := by
  refine TrM_of (plainFor_of_name (by decide)) (Nat.le_of_ble_eq_true rfl) ?_
  unfold f_J0_isEmpty
  change AW ρI γ l ck_J0_isEmpty g 0 [(0, .ref x0)] [] g _
  refine r_aload_n (pc := 0) dJ0_isEmpty_0 rfl 0 rfl ?_
  refine r_cI (pc := 1) (rest := []) (RunOK_if (fun h => run_A (n := 0) (c9 := 3) (As := []) (rest := []) (owner := "java/util/AbstractCollection") (t_J2_size γ l hl x0 g) dJ0_isEmpty_1 q1297 q3891 q3892 q794 q112 q795 mv792 ⟨by decide, by decide, by decide +kernel⟩ rfl h ⟨by decide, by decide⟩ (Nat.le_of_ble_eq_true rfl) (Nat.le_of_ble_eq_true rfl) rfl (Nat.le_of_ble_eq_true rfl)) (RunOK_if (fun h => run_A (n := 0) (c9 := 5) (As := []) (rest := []) (owner := "java/util/AbstractCollection") (t_J4_size γ l hl x0 g) dJ0_isEmpty_1 q1297 q3891 q3893 q797 q116 q798 mv792 ⟨by decide, by decide, by decide +kernel⟩ rfl h ⟨by decide, by decide⟩ (Nat.le_of_ble_eq_true rfl) (Nat.le_of_ble_eq_true rfl) rfl (Nat.le_of_ble_eq_true rfl)) (RunOK_if (fun h => run_A (n := 0) (c9 := 21) (As := []) (rest := []) (owner := "java/util/AbstractCollection") (t_J35_size γ l hl x0 g) dJ0_isEmpty_1 q1297 q3891 q3895 q1304 q152 q1305 mv792 ⟨by decide, by decide, by decide +kernel⟩ rfl h ⟨by decide, by decide⟩ (Nat.le_of_ble_eq_true rfl) (Nat.le_of_ble_eq_true rfl) rfl (Nat.le_of_ble_eq_true rfl)) (RunOK_chk (fun h => run_A (n := 0) (c9 := 26) (As := []) (rest := []) (owner := "java/util/AbstractCollection") (t_J42_size γ l hl x0 g) dJ0_isEmpty_1 q1297 q3891 q3896 q1313 q164 q1314 mv792 ⟨by decide, by decide, by decide +kernel⟩ rfl h ⟨by decide, by decide⟩ (Nat.le_of_ble_eq_true rfl) (Nat.le_of_ble_eq_true rfl) rfl (Nat.le_of_ble_eq_true rfl)))))) (fun v2 g1 => ?_)
  refine r_if_ne (tgt := 11) (pc := 4) dJ0_isEmpty_4 (by decide) ?_ ?_
  · skip
    refine r_iconst (v := (1 : Int32)) (pc := 7) dJ0_isEmpty_7 (by decide) ?_
    refine r_goto (tgt := 12) (pc := 8) dJ0_isEmpty_8 (by decide) ?_
    exact r_zret (ty := .boolean) (pc := 12) dJ0_isEmpty_12 rfl
  · skip
    refine r_iconst (v := (0 : Int32)) (pc := 11) dJ0_isEmpty_11 (by decide) ?_
    exact r_zret (ty := .boolean) (pc := 12) dJ0_isEmpty_12 rfl
abbrev ck_J4_unlinkLast : CK := ("java/util/LinkedList", prog_74_method_7_code, 4, (some (.object "java/lang/Object")), "unlinkLast", [], 1)
def f_J4_unlinkLast (γ : GP) (x0 : Nat) (x1 : Nat) (g : AH) : Option (Nat × AH) := gR g x1 84 fun v1 => gR g x1 86 fun v2 => pR γ g x1 84 0 fun g3 => pR γ g3 x1 86 0 fun g4 => pR γ g4 x0 21 v2 fun g5 => jn (fun (g6 : AH) => gI g6 x0 19 fun v8 => pI γ g6 x0 19 (v8 - (1 : Int32)) fun g9 => gI g9 x0 14 fun v10 => pI γ g9 x0 14 (v10 + (1 : Int32)) fun g11 => (some (v1, g11))) (fun (j7 : AH → Option (Nat × AH)) => (if v2 = 0 then pR γ g5 x0 20 0 fun g12 => j7 g12 else pR γ g5 v2 85 0 fun g13 => j7 g13))
theorem t_J4_unlinkLast (γ : GP) (l : Launch) (hl : l.stackTraces = false) (x0 : Nat) (x1 : Nat) (g : AH) : TrM ρR γ l ⟨"java/util/LinkedList", "unlinkLast", "(Ljava/util/LinkedList$Node;)Ljava/lang/Object;"⟩ (ws_ ⟨"java/util/LinkedList", "unlinkLast", "(Ljava/util/LinkedList$Node;)Ljava/lang/Object;"⟩ prog_74_method_7_code 4 (some (.object "java/lang/Object"))) 1 [.ref x0, .ref x1] g (f_J4_unlinkLast γ x0 x1 g) := by
  refine TrM_of (plainFor_of_name (by decide)) (Nat.le_of_ble_eq_true rfl) ?_
  unfold f_J4_unlinkLast
  change AW ρR γ l ck_J4_unlinkLast g 0 [(0, .ref x0), (1, .ref x1)] [] g _
  refine r_aload_n (pc := 0) dJ4_unlinkLast_0 rfl 1 rfl ?_
  refine r_getR (f := 84) (pc := 1) dJ4_unlinkLast_1 q1365 (Or.inl rfl) rfl (fun v1 => ?_)
  refine r_astore_n (pc := 4) dJ4_unlinkLast_4 rfl (Nat.le_of_ble_eq_true rfl) rfl ?_
  refine r_aload_n (pc := 5) dJ4_unlinkLast_5 rfl 2 rfl ?_
  refine r_getR (f := 86) (pc := 6) dJ4_unlinkLast_6 q1370 (Or.inl rfl) rfl (fun v2 => ?_)
  refine r_astore_n (pc := 9) dJ4_unlinkLast_9 rfl (Nat.le_of_ble_eq_true rfl) rfl ?_
  refine r_aload_n (pc := 10) dJ4_unlinkLast_10 rfl 3 rfl ?_
  refine r_null (pc := 11) dJ4_unlinkLast_11 ?_
  refine r_putR (f := 84) (pc := 12) dJ4_unlinkLast_12 q1365 (Or.inl rfl) (Or.inl rfl) rfl (fun g3 => ?_)
  refine r_aload_n (pc := 15) dJ4_unlinkLast_15 rfl 3 rfl ?_
  refine r_null (pc := 16) dJ4_unlinkLast_16 ?_
  refine r_putR (f := 86) (pc := 17) dJ4_unlinkLast_17 q1370 (Or.inl rfl) (Or.inl rfl) rfl (fun g4 => ?_)
  refine r_aload_n (pc := 20) dJ4_unlinkLast_20 rfl 2 rfl ?_
  refine r_aload_n (pc := 21) dJ4_unlinkLast_21 rfl 0 rfl ?_
  refine r_putR (f := 21) (pc := 22) dJ4_unlinkLast_22 q256 (Or.inl rfl) (Or.inl rfl) rfl (fun g5 => ?_)
  refine r_aload_n (pc := 25) dJ4_unlinkLast_25 rfl 0 rfl ?_
  refine AW_jn (P := fun (j : AH → Option (Nat × AH)) => ∀ (g6 : AH), AW ρR γ l ck_J4_unlinkLast g 42 [(0, .ref x0), (2, .ref v1)] [] g6 (j g6)) (fun g6 => ?_) (fun j7 h_j7 => ?_)
  · skip
    refine r_aload_n (pc := 42) dJ4_unlinkLast_42 rfl 0 rfl ?_
    refine r_dup (pc := 43) dJ4_unlinkLast_43 rfl ?_
    refine r_getI (f := 19) (pc := 44) dJ4_unlinkLast_44 q253 (Or.inl rfl) rfl (fun v8 => ?_)
    refine r_iconst (v := (1 : Int32)) (pc := 47) dJ4_unlinkLast_47 (by decide) ?_
    refine r_isub (pc := 48) dJ4_unlinkLast_48 ?_
    refine r_putI (f := 19) (pc := 49) dJ4_unlinkLast_49 q253 (Or.inl rfl) (Or.inl rfl) rfl (fun g9 => ?_)
    refine r_aload_n (pc := 52) dJ4_unlinkLast_52 rfl 0 rfl ?_
    refine r_dup (pc := 53) dJ4_unlinkLast_53 rfl ?_
    refine r_getI (f := 14) (pc := 54) dJ4_unlinkLast_54 q217 (Or.inr q213) rfl (fun v10 => ?_)
    refine r_iconst (v := (1 : Int32)) (pc := 57) dJ4_unlinkLast_57 (by decide) ?_
    refine r_iadd (pc := 58) dJ4_unlinkLast_58 ?_
    refine r_putI (f := 14) (pc := 59) dJ4_unlinkLast_59 q217 (Or.inr q213) (Or.inl rfl) rfl (fun g11 => ?_)
    refine r_aload_n (pc := 62) dJ4_unlinkLast_62 rfl 1 rfl ?_
    exact r_aret (pc := 63) dJ4_unlinkLast_63 rfl (by first | exact Or.inl ⟨_, rfl⟩ | exact Or.inr ⟨_, rfl⟩)
  · skip
    refine r_ifnonnull (tgt := 37) (pc := 26) dJ4_unlinkLast_26 (by decide) ?_ ?_
    · skip
      refine r_aload_n (pc := 29) dJ4_unlinkLast_29 rfl 2 rfl ?_
      refine r_null (pc := 30) dJ4_unlinkLast_30 ?_
      refine r_putR (f := 20) (pc := 31) dJ4_unlinkLast_31 q255 (Or.inl rfl) (Or.inl rfl) rfl (fun g12 => ?_)
      refine r_goto (tgt := 42) (pc := 34) dJ4_unlinkLast_34 (by decide) ?_
      refine AW_sub [2, 1] rfl ?_
      exact h_j7 g12
    · skip
      refine r_aload_n (pc := 37) dJ4_unlinkLast_37 rfl 0 rfl ?_
      refine r_null (pc := 38) dJ4_unlinkLast_38 ?_
      refine r_putR (f := 85) (pc := 39) dJ4_unlinkLast_39 q1368 (Or.inl rfl) (Or.inl rfl) rfl (fun g13 => ?_)
      refine AW_sub [2, 1] rfl ?_
      exact h_j7 g13
abbrev ck_J4_removeLast : CK := ("java/util/LinkedList", prog_74_method_12_code, 2, (some (.object "java/lang/Object")), "removeLast", [], 2)
def f_J4_removeLast (γ : GP) (x0 : Nat) (g : AH) : Option (Nat × AH) := gR g x0 21 fun v1 => (if v1 = 0 then none else bR ((if hK g x0 = 5 then f_J4_unlinkLast γ x0 v1 g else none)) fun v3 g2 => (some (v3, g2)))
theorem t_J4_removeLast (γ : GP) (l : Launch) (hl : l.stackTraces = false) (x0 : Nat) (g : AH) : TrM ρR γ l ⟨"java/util/LinkedList", "removeLast", "()Ljava/lang/Object;"⟩ (ws_ ⟨"java/util/LinkedList", "removeLast", "()Ljava/lang/Object;"⟩ prog_74_method_12_code 2 (some (.object "java/lang/Object"))) 2 [.ref x0] g (f_J4_removeLast γ x0 g) := by
  refine TrM_of (plainFor_of_name (by decide)) (Nat.le_of_ble_eq_true rfl) ?_
  unfold f_J4_removeLast
  change AW ρR γ l ck_J4_removeLast g 0 [(0, .ref x0)] [] g _
  refine r_aload_n (pc := 0) dJ4_removeLast_0 rfl 0 rfl ?_
  refine r_getR (f := 21) (pc := 1) dJ4_removeLast_1 q256 (Or.inl rfl) rfl (fun v1 => ?_)
  refine r_astore_n (pc := 4) dJ4_removeLast_4 rfl (Nat.le_of_ble_eq_true rfl) rfl ?_
  refine r_aload_n (pc := 5) dJ4_removeLast_5 rfl 0 rfl ?_
  refine r_ifnonnull (tgt := 17) (pc := 6) dJ4_removeLast_6 (by decide) ?_ ?_
  · skip
    exact AW_none
  · skip
    refine r_aload_n (pc := 17) dJ4_removeLast_17 rfl 1 rfl ?_
    refine r_aload_n (pc := 18) dJ4_removeLast_18 rfl 0 rfl ?_
    refine r_cR (pc := 19) (rest := []) (RunOK_chk (fun h => run_V (n := 1) (c9 := 5) (As := [.ref v1]) (rest := []) (t_J4_unlinkLast γ l hl x0 v1 g) dJ4_removeLast_19 q3358 q3360 qs51 q116 q3361 (by decide +kernel) rfl h ⟨rfl, by decide, by decide⟩ (Nat.le_of_ble_eq_true rfl) (Nat.le_of_ble_eq_true rfl) rfl (Nat.le_of_ble_eq_true rfl))) (fun v3 g2 => ?_)
    exact r_aret (pc := 22) dJ4_removeLast_22 rfl (by first | exact Or.inl ⟨_, rfl⟩ | exact Or.inr ⟨_, rfl⟩)
abbrev ck_J19_canEncode_2 : CK := ("java/lang/StringLatin1", prog_51_method_4_code, 1, (some .boolean), "canEncode", [], 1)
def f_J19_canEncode_2 (γ : GP) (x0 : Int32) (g : AH) : Option (Int32 × AH) := (if x0 < 0 then (rtN .boolean (0 : Int32) g) else (if (255 : Int32) < x0 then (rtN .boolean (0 : Int32) g) else (rtN .boolean (1 : Int32) g)))
theorem t_J19_canEncode_2 (γ : GP) (l : Launch) (hl : l.stackTraces = false) (x0 : Int32) (g : AH) : TrM ρI γ l ⟨"java/lang/StringLatin1", "canEncode", "(I)Z"⟩ (ws_ ⟨"java/lang/StringLatin1", "canEncode", "(I)Z"⟩ prog_51_method_4_code 1 (some .boolean)) 1 [.int x0] g (f_J19_canEncode_2 γ x0 g) := by
  refine TrM_of (plainFor_of_name (by decide)) (Nat.le_of_ble_eq_true rfl) ?_
  unfold f_J19_canEncode_2
  change AW ρI γ l ck_J19_canEncode_2 g 0 [(0, .int x0)] [] g _
  refine r_iload_n (pc := 0) dJ19_canEncode_2_0 rfl 0 rfl ?_
  refine r_if_lt (tgt := 15) (pc := 1) dJ19_canEncode_2_1 (by decide) ?_ ?_
  · skip
    refine r_iconst (v := (0 : Int32)) (pc := 15) dJ19_canEncode_2_15 (by decide) ?_
    exact r_zret (ty := .boolean) (pc := 16) dJ19_canEncode_2_16 rfl
  · skip
    refine r_iload_n (pc := 4) dJ19_canEncode_2_4 rfl 0 rfl ?_
    refine r_sipush (v := (255 : Int32)) (pc := 5) dJ19_canEncode_2_5 (by decide) ?_
    refine r_icmp_gt (tgt := 15) (pc := 8) dJ19_canEncode_2_8 (by decide) ?_ ?_
    · skip
      refine r_iconst (v := (0 : Int32)) (pc := 15) dJ19_canEncode_2_15 (by decide) ?_
      exact r_zret (ty := .boolean) (pc := 16) dJ19_canEncode_2_16 rfl
    · skip
      refine r_iconst (v := (1 : Int32)) (pc := 11) dJ19_canEncode_2_11 (by decide) ?_
      refine r_goto (tgt := 16) (pc := 12) dJ19_canEncode_2_12 (by decide) ?_
      exact r_zret (ty := .boolean) (pc := 16) dJ19_canEncode_2_16 rfl
abbrev ck_J19_indexOfChar : CK := ("java/lang/StringLatin1", prog_51_method_23_code, 6, (some .int), "indexOfChar", [], 1)
def f_J19_indexOfChar_L7 (γ : GP) (x0 : Nat) (x3 : Int32) (x4 : Int32) : Nat → Int32 → AH → Option (Int32 × AH)
  | 0, _, _ => none
  | n + 1, x5, g => (if x3 ≤ x5 then (some ((-1 : Int32), g)) else gA g 102 x0 x5 fun v1 => (if v1 = x4 then (some (x5, g)) else f_J19_indexOfChar_L7 γ x0 x3 x4 n (x5 + (1 : Int32)) g))
def f_J19_indexOfChar (γ : GP) (x0 : Nat) (x1 : Int32) (x2 : Int32) (x3 : Int32) (g : AH) : Option (Int32 × AH) := f_J19_indexOfChar_L7 γ x0 x3 (x1).toInt8.toInt32 FU x2 g
theorem f_J19_indexOfChar_L7_w (γ : GP) (l : Launch) (hl : l.stackTraces = false) (G0 : AH) (x0 : Nat) (x3 : Int32) (x4 : Int32) : ∀ (n : Nat) (x5 : Int32) (g : AH), AW ρI γ l ck_J19_indexOfChar G0 7 [(0, .ref x0), (3, .int x3), (4, .int x4), (5, .int x5)] [] g (f_J19_indexOfChar_L7 γ x0 x3 x4 n x5 g) := by
  intro n
  induction n with
  | zero => intro x5 g; exact AW_none
  | succ n ih =>
    intro x5 g
    unfold f_J19_indexOfChar_L7
    refine r_iload (pc := 7) dJ19_indexOfChar_7 3 rfl ?_
    refine r_iload_n (pc := 9) dJ19_indexOfChar_9 rfl 1 rfl ?_
    refine r_icmp_ge (tgt := 31) (pc := 10) dJ19_indexOfChar_10 (by decide) ?_ ?_
    · skip
      refine r_iconst (v := (-1 : Int32)) (pc := 31) dJ19_indexOfChar_31 (by decide) ?_
      exact r_iret (pc := 32) dJ19_indexOfChar_32 rfl
    · skip
      refine r_aload_n (pc := 13) dJ19_indexOfChar_13 rfl 0 rfl ?_
      refine r_iload (pc := 14) dJ19_indexOfChar_14 3 rfl ?_
      refine r_bald (pc := 16) dJ19_indexOfChar_16 (fun v1 => ?_)
      refine r_iload (pc := 17) dJ19_indexOfChar_17 2 rfl ?_
      refine r_icmp_ne (tgt := 25) (pc := 19) dJ19_indexOfChar_19 (by decide) ?_ ?_
      · skip
        refine r_iload (pc := 22) dJ19_indexOfChar_22 3 rfl ?_
        exact r_iret (pc := 24) dJ19_indexOfChar_24 rfl
      · skip
        refine r_iinc (j := 3) (v := (x5 + (1 : Int32))) (pc := 25) dJ19_indexOfChar_25 rfl rfl (Nat.le_of_ble_eq_true rfl) rfl ?_
        refine r_goto (tgt := 7) (pc := 28) dJ19_indexOfChar_28 (by decide) ?_
        refine AW_sub [1, 2, 3, 0] rfl ?_
        exact ih (x5 + (1 : Int32)) g
theorem t_J19_indexOfChar (γ : GP) (l : Launch) (hl : l.stackTraces = false) (x0 : Nat) (x1 : Int32) (x2 : Int32) (x3 : Int32) (g : AH) : TrM ρI γ l ⟨"java/lang/StringLatin1", "indexOfChar", "([BIII)I"⟩ (ws_ ⟨"java/lang/StringLatin1", "indexOfChar", "([BIII)I"⟩ prog_51_method_23_code 6 (some .int)) 1 [.ref x0, .int x1, .int x2, .int x3] g (f_J19_indexOfChar γ x0 x1 x2 x3 g) := by
  refine TrM_of (plainFor_of_name (by decide)) (Nat.le_of_ble_eq_true rfl) ?_
  unfold f_J19_indexOfChar
  change AW ρI γ l ck_J19_indexOfChar g 0 [(0, .ref x0), (1, .int x1), (2, .int x2), (3, .int x3)] [] g _
  refine r_iload_n (pc := 0) dJ19_indexOfChar_0 rfl 1 rfl ?_
  refine r_i2b (pc := 1) dJ19_indexOfChar_1 ?_
  refine r_istore (pc := 2) dJ19_indexOfChar_2 (Nat.le_of_ble_eq_true rfl) rfl ?_
  refine r_iload_n (pc := 4) dJ19_indexOfChar_4 rfl 3 rfl ?_
  refine r_istore (pc := 5) dJ19_indexOfChar_5 (Nat.le_of_ble_eq_true rfl) rfl ?_
  refine AW_sub [2, 5, 1, 0] rfl ?_
  refine f_J19_indexOfChar_L7_w γ l hl _ x0 x3 (x1).toInt8.toInt32 FU x2 g
abbrev ck_J19_indexOf_3 : CK := ("java/lang/StringLatin1", prog_51_method_22_code, 4, (some .int), "indexOf", [], 2)
def f_J19_indexOf_3 (γ : GP) (x0 : Nat) (x1 : Int32) (x2 : Int32) (x3 : Int32) (g : AH) : Option (Int32 × AH) := bI (f_J19_canEncode_2 γ x1 g) fun v2 g1 => (if v2 = 0 then (some ((-1 : Int32), g1)) else bI (f_J16_max γ x2 (0 : Int32) g1) fun v4 g3 => gL g3 x0 fun v5 => bI (f_J16_min γ x3 v5 g3) fun v7 g6 => (if v4 < v7 then bI (f_J19_indexOfChar γ x0 x1 v4 v7 g6) fun v9 g8 => (some (v9, g8)) else (some ((-1 : Int32), g6))))
theorem t_J19_indexOf_3 (γ : GP) (l : Launch) (hl : l.stackTraces = false) (x0 : Nat) (x1 : Int32) (x2 : Int32) (x3 : Int32) (g : AH) : TrM ρI γ l ⟨"java/lang/StringLatin1", "indexOf", "([BIII)I"⟩ (ws_ ⟨"java/lang/StringLatin1", "indexOf", "([BIII)I"⟩ prog_51_method_22_code 4 (some .int)) 2 [.ref x0, .int x1, .int x2, .int x3] g (f_J19_indexOf_3 γ x0 x1 x2 x3 g) := by
  refine TrM_of (plainFor_of_name (by decide)) (Nat.le_of_ble_eq_true rfl) ?_
  unfold f_J19_indexOf_3
  change AW ρI γ l ck_J19_indexOf_3 g 0 [(0, .ref x0), (1, .int x1), (2, .int x2), (3, .int x3)] [] g _
  refine r_iload_n (pc := 0) dJ19_indexOf_3_0 rfl 1 rfl ?_
  refine r_cI (pc := 1) (rest := []) (run_S (n := 1) (As := [.int x1]) (rest := []) (t_J19_canEncode_2 γ l hl x1 g) dJ19_indexOf_3_1 q3746 q3747 q133 q3748 (by decide +kernel) rfl (Nat.le_of_ble_eq_true rfl) (Nat.le_of_ble_eq_true rfl) rfl (Nat.le_of_ble_eq_true rfl)) (fun v2 g1 => ?_)
  refine r_if_ne (tgt := 9) (pc := 4) dJ19_indexOf_3_4 (by decide) ?_ ?_
  · skip
    refine r_iconst (v := (-1 : Int32)) (pc := 7) dJ19_indexOf_3_7 (by decide) ?_
    exact r_iret (pc := 8) dJ19_indexOf_3_8 rfl
  · skip
    refine r_iload_n (pc := 9) dJ19_indexOf_3_9 rfl 2 rfl ?_
    refine r_iconst (v := (0 : Int32)) (pc := 10) dJ19_indexOf_3_10 (by decide) ?_
    refine r_cI (pc := 11) (rest := []) (run_S (n := 2) (As := [.int x2, .int (0 : Int32)]) (rest := []) (t_J16_max γ l hl x2 (0 : Int32) g1) dJ19_indexOf_3_11 q3749 q484 q129 q485 (by decide +kernel) rfl (Nat.le_of_ble_eq_true rfl) (Nat.le_of_ble_eq_true rfl) rfl (Nat.le_of_ble_eq_true rfl)) (fun v4 g3 => ?_)
    refine r_istore_n (pc := 14) dJ19_indexOf_3_14 rfl (Nat.le_of_ble_eq_true rfl) rfl ?_
    refine r_iload_n (pc := 15) dJ19_indexOf_3_15 rfl 3 rfl ?_
    refine r_aload_n (pc := 16) dJ19_indexOf_3_16 rfl 1 rfl ?_
    refine r_alen (pc := 17) dJ19_indexOf_3_17 (fun v5 => ?_)
    refine r_cI (pc := 18) (rest := []) (run_S (n := 2) (As := [.int x3, .int v5]) (rest := []) (t_J16_min γ l hl x3 v5 g3) dJ19_indexOf_3_18 q1614 q502 q129 q503 (by decide +kernel) rfl (Nat.le_of_ble_eq_true rfl) (Nat.le_of_ble_eq_true rfl) rfl (Nat.le_of_ble_eq_true rfl)) (fun v7 g6 => ?_)
    refine r_istore_n (pc := 21) dJ19_indexOf_3_21 rfl (Nat.le_of_ble_eq_true rfl) rfl ?_
    refine r_iload_n (pc := 22) dJ19_indexOf_3_22 rfl 1 rfl ?_
    refine r_iload_n (pc := 23) dJ19_indexOf_3_23 rfl 0 rfl ?_
    refine r_icmp_lt (tgt := 29) (pc := 24) dJ19_indexOf_3_24 (by decide) ?_ ?_
    · skip
      refine r_aload_n (pc := 29) dJ19_indexOf_3_29 rfl 2 rfl ?_
      refine r_iload_n (pc := 30) dJ19_indexOf_3_30 rfl 3 rfl ?_
      refine r_iload_n (pc := 31) dJ19_indexOf_3_31 rfl 1 rfl ?_
      refine r_iload_n (pc := 32) dJ19_indexOf_3_32 rfl 0 rfl ?_
      refine r_cI (pc := 33) (rest := []) (run_S (n := 4) (As := [.ref x0, .int x1, .int v4, .int v7]) (rest := []) (t_J19_indexOfChar γ l hl x0 x1 v4 v7 g6) dJ19_indexOf_3_33 q3750 q3751 q133 q3752 (by decide +kernel) rfl (Nat.le_of_ble_eq_true rfl) (Nat.le_of_ble_eq_true rfl) rfl (Nat.le_of_ble_eq_true rfl)) (fun v9 g8 => ?_)
      exact r_iret (pc := 36) dJ19_indexOf_3_36 rfl
    · skip
      refine r_iconst (v := (-1 : Int32)) (pc := 27) dJ19_indexOf_3_27 (by decide) ?_
      exact r_iret (pc := 28) dJ19_indexOf_3_28 rfl
abbrev ck_J8_indexOfCharUnsafe : CK := ("java/lang/StringUTF16", prog_52_method_48_code, 5, (some .int), "indexOfCharUnsafe", [], 3)
def f_J8_indexOfCharUnsafe_L3 (γ : GP) (x0 : Nat) (x1 : Int32) (x3 : Int32) : Nat → Int32 → AH → Option (Int32 × AH)
  | 0, _, _ => none
  | n + 1, x4, g => (if x3 ≤ x4 then (some ((-1 : Int32), g)) else bI (f_J8_getChar γ x0 x4 g) fun v2 g1 => (if v2 = x1 then (some (x4, g1)) else f_J8_indexOfCharUnsafe_L3 γ x0 x1 x3 n (x4 + (1 : Int32)) g1))
def f_J8_indexOfCharUnsafe (γ : GP) (x0 : Nat) (x1 : Int32) (x2 : Int32) (x3 : Int32) (g : AH) : Option (Int32 × AH) := f_J8_indexOfCharUnsafe_L3 γ x0 x1 x3 FU x2 g
theorem f_J8_indexOfCharUnsafe_L3_w (γ : GP) (l : Launch) (hl : l.stackTraces = false) (G0 : AH) (x0 : Nat) (x1 : Int32) (x3 : Int32) : ∀ (n : Nat) (x4 : Int32) (g : AH), AW ρI γ l ck_J8_indexOfCharUnsafe G0 3 [(0, .ref x0), (1, .int x1), (3, .int x3), (4, .int x4)] [] g (f_J8_indexOfCharUnsafe_L3 γ x0 x1 x3 n x4 g) := by
  intro n
  induction n with
  | zero => intro x4 g; exact AW_none
  | succ n ih =>
    intro x4 g
    unfold f_J8_indexOfCharUnsafe_L3
    refine r_iload (pc := 3) dJ8_indexOfCharUnsafe_3 3 rfl ?_
    refine r_iload_n (pc := 5) dJ8_indexOfCharUnsafe_5 rfl 2 rfl ?_
    refine r_icmp_ge (tgt := 28) (pc := 6) dJ8_indexOfCharUnsafe_6 (by decide) ?_ ?_
    · skip
      refine r_iconst (v := (-1 : Int32)) (pc := 28) dJ8_indexOfCharUnsafe_28 (by decide) ?_
      exact r_iret (pc := 29) dJ8_indexOfCharUnsafe_29 rfl
    · skip
      refine r_aload_n (pc := 9) dJ8_indexOfCharUnsafe_9 rfl 0 rfl ?_
      refine r_iload (pc := 10) dJ8_indexOfCharUnsafe_10 3 rfl ?_
      refine r_cI (pc := 12) (rest := []) (run_S (n := 2) (As := [.ref x0, .int x4]) (rest := []) (t_J8_getChar γ l hl x0 x4 g) dJ8_indexOfCharUnsafe_12 q689 q690 q120 q691 (by decide +kernel) rfl (Nat.le_of_ble_eq_true rfl) (Nat.le_of_ble_eq_true rfl) rfl (Nat.le_of_ble_eq_true rfl)) (fun v2 g1 => ?_)
      refine r_iload_n (pc := 15) dJ8_indexOfCharUnsafe_15 rfl 1 rfl ?_
      refine r_icmp_ne (tgt := 22) (pc := 16) dJ8_indexOfCharUnsafe_16 (by decide) ?_ ?_
      · skip
        refine r_iload (pc := 19) dJ8_indexOfCharUnsafe_19 3 rfl ?_
        exact r_iret (pc := 21) dJ8_indexOfCharUnsafe_21 rfl
      · skip
        refine r_iinc (j := 3) (v := (x4 + (1 : Int32))) (pc := 22) dJ8_indexOfCharUnsafe_22 rfl rfl (Nat.le_of_ble_eq_true rfl) rfl ?_
        refine r_goto (tgt := 3) (pc := 25) dJ8_indexOfCharUnsafe_25 (by decide) ?_
        refine AW_sub [1, 2, 3, 0] rfl ?_
        exact ih (x4 + (1 : Int32)) g1
theorem t_J8_indexOfCharUnsafe (γ : GP) (l : Launch) (hl : l.stackTraces = false) (x0 : Nat) (x1 : Int32) (x2 : Int32) (x3 : Int32) (g : AH) : TrM ρI γ l ⟨"java/lang/StringUTF16", "indexOfCharUnsafe", "([BIII)I"⟩ (ws_ ⟨"java/lang/StringUTF16", "indexOfCharUnsafe", "([BIII)I"⟩ prog_52_method_48_code 5 (some .int)) 3 [.ref x0, .int x1, .int x2, .int x3] g (f_J8_indexOfCharUnsafe γ x0 x1 x2 x3 g) := by
  refine TrM_of (plainFor_of_name (by decide)) (Nat.le_of_ble_eq_true rfl) ?_
  unfold f_J8_indexOfCharUnsafe
  change AW ρI γ l ck_J8_indexOfCharUnsafe g 0 [(0, .ref x0), (1, .int x1), (2, .int x2), (3, .int x3)] [] g _
  refine r_iload_n (pc := 0) dJ8_indexOfCharUnsafe_0 rfl 2 rfl ?_
  refine r_istore (pc := 1) dJ8_indexOfCharUnsafe_1 (Nat.le_of_ble_eq_true rfl) rfl ?_
  refine AW_sub [1, 2, 4, 0] rfl ?_
  refine f_J8_indexOfCharUnsafe_L3_w γ l hl _ x0 x1 x3 FU x2 g
abbrev ck_J8_indexOfChar : CK := ("java/lang/StringUTF16", prog_52_method_47_code, 4, (some .int), "indexOfChar", [], 4)
def f_J8_indexOfChar (γ : GP) (x0 : Nat) (x1 : Int32) (x2 : Int32) (x3 : Int32) (g : AH) : Option (Int32 × AH) := bV (f_J8_checkBoundsBeginEnd γ x2 x3 x0 g) fun g1 => bI (f_J8_indexOfCharUnsafe γ x0 x1 x2 x3 g1) fun v3 g2 => (some (v3, g2))
theorem t_J8_indexOfChar (γ : GP) (l : Launch) (hl : l.stackTraces = false) (x0 : Nat) (x1 : Int32) (x2 : Int32) (x3 : Int32) (g : AH) : TrM ρI γ l ⟨"java/lang/StringUTF16", "indexOfChar", "([BIII)I"⟩ (ws_ ⟨"java/lang/StringUTF16", "indexOfChar", "([BIII)I"⟩ prog_52_method_47_code 4 (some .int)) 4 [.ref x0, .int x1, .int x2, .int x3] g (f_J8_indexOfChar γ x0 x1 x2 x3 g) := by
  refine TrM_of (plainFor_of_name (by decide)) (Nat.le_of_ble_eq_true rfl) ?_
  unfold f_J8_indexOfChar
  change AW ρI γ l ck_J8_indexOfChar g 0 [(0, .ref x0), (1, .int x1), (2, .int x2), (3, .int x3)] [] g _
  refine r_iload_n (pc := 0) dJ8_indexOfChar_0 rfl 2 rfl ?_
  refine r_iload_n (pc := 1) dJ8_indexOfChar_1 rfl 3 rfl ?_
  refine r_aload_n (pc := 2) dJ8_indexOfChar_2 rfl 0 rfl ?_
  refine r_cV (pc := 3) (rest := []) (run_S (n := 3) (As := [.int x2, .int x3, .ref x0]) (rest := []) (t_J8_checkBoundsBeginEnd γ l hl x2 x3 x0 g) dJ8_indexOfChar_3 q515 q516 q120 q517 (by decide +kernel) rfl (Nat.le_of_ble_eq_true rfl) (Nat.le_of_ble_eq_true rfl) rfl (Nat.le_of_ble_eq_true rfl)) (fun g1 => ?_)
  refine r_aload_n (pc := 6) dJ8_indexOfChar_6 rfl 0 rfl ?_
  refine r_iload_n (pc := 7) dJ8_indexOfChar_7 rfl 1 rfl ?_
  refine r_iload_n (pc := 8) dJ8_indexOfChar_8 rfl 2 rfl ?_
  refine r_iload_n (pc := 9) dJ8_indexOfChar_9 rfl 3 rfl ?_
  refine r_cI (pc := 10) (rest := []) (run_S (n := 4) (As := [.ref x0, .int x1, .int x2, .int x3]) (rest := []) (t_J8_indexOfCharUnsafe γ l hl x0 x1 x2 x3 g1) dJ8_indexOfChar_10 q3761 q3762 q120 q3763 (by decide +kernel) rfl (Nat.le_of_ble_eq_true rfl) (Nat.le_of_ble_eq_true rfl) rfl (Nat.le_of_ble_eq_true rfl)) (fun v3 g2 => ?_)
  exact r_iret (pc := 13) dJ8_indexOfChar_13 rfl
abbrev ck_J47_isValidCodePoint : CK := ("java/lang/Character", prog_32_method_11_code, 2, (some .boolean), "isValidCodePoint", [], 1)
def f_J47_isValidCodePoint (γ : GP) (x0 : Int32) (g : AH) : Option (Int32 × AH) := (if (17 : Int32) ≤ ((x0).toUInt32 >>> (((16 : Int32)).toUInt32 &&& Int32.toUInt32 31)).toInt32 then (rtN .boolean (0 : Int32) g) else (rtN .boolean (1 : Int32) g))
theorem t_J47_isValidCodePoint (γ : GP) (l : Launch) (hl : l.stackTraces = false) (x0 : Int32) (g : AH) : TrM ρI γ l ⟨"java/lang/Character", "isValidCodePoint", "(I)Z"⟩ (ws_ ⟨"java/lang/Character", "isValidCodePoint", "(I)Z"⟩ prog_32_method_11_code 2 (some .boolean)) 1 [.int x0] g (f_J47_isValidCodePoint γ x0 g) := by
  refine TrM_of (plainFor_of_name (by decide)) (Nat.le_of_ble_eq_true rfl) ?_
  unfold f_J47_isValidCodePoint
  change AW ρI γ l ck_J47_isValidCodePoint g 0 [(0, .int x0)] [] g _
  refine r_iload_n (pc := 0) dJ47_isValidCodePoint_0 rfl 0 rfl ?_
  refine r_bipush (v := (16 : Int32)) (pc := 1) dJ47_isValidCodePoint_1 (by decide) ?_
  refine r_iushr (pc := 3) dJ47_isValidCodePoint_3 ?_
  refine r_istore_n (pc := 4) dJ47_isValidCodePoint_4 rfl (Nat.le_of_ble_eq_true rfl) rfl ?_
  refine r_iload_n (pc := 5) dJ47_isValidCodePoint_5 rfl 0 rfl ?_
  refine r_bipush (v := (17 : Int32)) (pc := 6) dJ47_isValidCodePoint_6 (by decide) ?_
  refine r_icmp_ge (tgt := 15) (pc := 8) dJ47_isValidCodePoint_8 (by decide) ?_ ?_
  · skip
    refine r_iconst (v := (0 : Int32)) (pc := 15) dJ47_isValidCodePoint_15 (by decide) ?_
    exact r_zret (ty := .boolean) (pc := 16) dJ47_isValidCodePoint_16 rfl
  · skip
    refine r_iconst (v := (1 : Int32)) (pc := 11) dJ47_isValidCodePoint_11 (by decide) ?_
    refine r_goto (tgt := 16) (pc := 12) dJ47_isValidCodePoint_12 (by decide) ?_
    exact r_zret (ty := .boolean) (pc := 16) dJ47_isValidCodePoint_16 rfl
abbrev ck_J47_highSurrogate : CK := ("java/lang/Character", prog_32_method_28_code, 1, (some .char), "highSurrogate", [], 1)
def f_J47_highSurrogate (γ : GP) (x0 : Int32) (g : AH) : Option (Int32 × AH) := (rtN .char (((((x0).toUInt32 >>> (((10 : Int32)).toUInt32 &&& Int32.toUInt32 31)).toInt32 + (55232 : Int32))).toUInt32 % 65536).toInt32 g)
theorem t_J47_highSurrogate (γ : GP) (l : Launch) (hl : l.stackTraces = false) (x0 : Int32) (g : AH) : TrM ρI γ l ⟨"java/lang/Character", "highSurrogate", "(I)C"⟩ (ws_ ⟨"java/lang/Character", "highSurrogate", "(I)C"⟩ prog_32_method_28_code 1 (some .char)) 1 [.int x0] g (f_J47_highSurrogate γ x0 g) := by
  refine TrM_of (plainFor_of_name (by decide)) (Nat.le_of_ble_eq_true rfl) ?_
  unfold f_J47_highSurrogate
  change AW ρI γ l ck_J47_highSurrogate g 0 [(0, .int x0)] [] g _
  refine r_iload_n (pc := 0) dJ47_highSurrogate_0 rfl 0 rfl ?_
  refine r_bipush (v := (10 : Int32)) (pc := 1) dJ47_highSurrogate_1 (by decide) ?_
  refine r_iushr (pc := 3) dJ47_highSurrogate_3 ?_
  refine r_ldci (v := (55232 : Int32)) (pc := 4) dJ47_highSurrogate_4 q3773 ?_
  refine r_iadd (pc := 6) dJ47_highSurrogate_6 ?_
  refine r_i2c (pc := 7) dJ47_highSurrogate_7 ?_
  exact r_zret (ty := .char) (pc := 8) dJ47_highSurrogate_8 rfl
abbrev ck_J47_lowSurrogate : CK := ("java/lang/Character", prog_32_method_29_code, 1, (some .char), "lowSurrogate", [], 1)
def f_J47_lowSurrogate (γ : GP) (x0 : Int32) (g : AH) : Option (Int32 × AH) := (rtN .char ((((x0 &&& (1023 : Int32)) + (56320 : Int32))).toUInt32 % 65536).toInt32 g)
theorem t_J47_lowSurrogate (γ : GP) (l : Launch) (hl : l.stackTraces = false) (x0 : Int32) (g : AH) : TrM ρI γ l ⟨"java/lang/Character", "lowSurrogate", "(I)C"⟩ (ws_ ⟨"java/lang/Character", "lowSurrogate", "(I)C"⟩ prog_32_method_29_code 1 (some .char)) 1 [.int x0] g (f_J47_lowSurrogate γ x0 g) := by
  refine TrM_of (plainFor_of_name (by decide)) (Nat.le_of_ble_eq_true rfl) ?_
  unfold f_J47_lowSurrogate
  change AW ρI γ l ck_J47_lowSurrogate g 0 [(0, .int x0)] [] g _
  refine r_iload_n (pc := 0) dJ47_lowSurrogate_0 rfl 0 rfl ?_
  refine r_sipush (v := (1023 : Int32)) (pc := 1) dJ47_lowSurrogate_1 (by decide) ?_
  refine r_iand (pc := 4) dJ47_lowSurrogate_4 ?_
  refine r_ldci (v := (56320 : Int32)) (pc := 5) dJ47_lowSurrogate_5 q3777 ?_
  refine r_iadd (pc := 7) dJ47_lowSurrogate_7 ?_
  refine r_i2c (pc := 8) dJ47_lowSurrogate_8 ?_
  exact r_zret (ty := .char) (pc := 9) dJ47_lowSurrogate_9 rfl
abbrev ck_J8_indexOfSupplementary : CK := ("java/lang/StringUTF16", prog_52_method_49_code, 7, (some .int), "indexOfSupplementary", [], 4)
def f_J8_indexOfSupplementary_L28 (γ : GP) (x0 : Nat) (x3 : Int32) (x4 : Int32) (x5 : Int32) : Nat → Int32 → AH → Option (Int32 × AH)
  | 0, _, _ => none
  | n + 1, x6, g => (if (x3 - (1 : Int32)) ≤ x6 then (some ((-1 : Int32), g)) else bI (f_J8_getChar γ x0 x6 g) fun v9 g8 => (if v9 = x4 then bI (f_J8_getChar γ x0 (x6 + (1 : Int32)) g8) fun v11 g10 => (if v11 = x5 then (some (x6, g10)) else f_J8_indexOfSupplementary_L28 γ x0 x3 x4 x5 n (x6 + (1 : Int32)) g10) else f_J8_indexOfSupplementary_L28 γ x0 x3 x4 x5 n (x6 + (1 : Int32)) g8))
def f_J8_indexOfSupplementary (γ : GP) (x0 : Nat) (x1 : Int32) (x2 : Int32) (x3 : Int32) (g : AH) : Option (Int32 × AH) := bI (f_J47_isValidCodePoint γ x1 g) fun v2 g1 => (if v2 = 0 then (some ((-1 : Int32), g1)) else bI (f_J47_highSurrogate γ x1 g1) fun v4 g3 => bI (f_J47_lowSurrogate γ x1 g3) fun v6 g5 => bV (f_J8_checkBoundsBeginEnd γ x2 x3 x0 g5) fun g7 => f_J8_indexOfSupplementary_L28 γ x0 x3 v4 v6 FU x2 g7)
theorem f_J8_indexOfSupplementary_L28_w (γ : GP) (l : Launch) (hl : l.stackTraces = false) (G0 : AH) (x0 : Nat) (x3 : Int32) (x4 : Int32) (x5 : Int32) : ∀ (n : Nat) (x6 : Int32) (g : AH), AW ρI γ l ck_J8_indexOfSupplementary G0 28 [(0, .ref x0), (3, .int x3), (4, .int x4), (5, .int x5), (6, .int x6)] [] g (f_J8_indexOfSupplementary_L28 γ x0 x3 x4 x5 n x6 g) := by
  intro n
  induction n with
  | zero => intro x6 g; exact AW_none
  | succ n ih =>
    intro x6 g
    unfold f_J8_indexOfSupplementary_L28
    refine r_iload (pc := 28) dJ8_indexOfSupplementary_28 4 rfl ?_
    refine r_iload_n (pc := 30) dJ8_indexOfSupplementary_30 rfl 1 rfl ?_
    refine r_iconst (v := (1 : Int32)) (pc := 31) dJ8_indexOfSupplementary_31 (by decide) ?_
    refine r_isub (pc := 32) dJ8_indexOfSupplementary_32 ?_
    refine r_icmp_ge (tgt := 69) (pc := 33) dJ8_indexOfSupplementary_33 (by decide) ?_ ?_
    · skip
      refine r_iconst (v := (-1 : Int32)) (pc := 69) dJ8_indexOfSupplementary_69 (by decide) ?_
      exact r_iret (pc := 70) dJ8_indexOfSupplementary_70 rfl
    · skip
      refine r_aload_n (pc := 36) dJ8_indexOfSupplementary_36 rfl 0 rfl ?_
      refine r_iload (pc := 37) dJ8_indexOfSupplementary_37 4 rfl ?_
      refine r_cI (pc := 39) (rest := []) (run_S (n := 2) (As := [.ref x0, .int x6]) (rest := []) (t_J8_getChar γ l hl x0 x6 g) dJ8_indexOfSupplementary_39 q689 q690 q120 q691 (by decide +kernel) rfl (Nat.le_of_ble_eq_true rfl) (Nat.le_of_ble_eq_true rfl) rfl (Nat.le_of_ble_eq_true rfl)) (fun v9 g8 => ?_)
      refine r_iload (pc := 42) dJ8_indexOfSupplementary_42 2 rfl ?_
      refine r_icmp_ne (tgt := 63) (pc := 44) dJ8_indexOfSupplementary_44 (by decide) ?_ ?_
      · skip
        refine r_aload_n (pc := 47) dJ8_indexOfSupplementary_47 rfl 0 rfl ?_
        refine r_iload (pc := 48) dJ8_indexOfSupplementary_48 4 rfl ?_
        refine r_iconst (v := (1 : Int32)) (pc := 50) dJ8_indexOfSupplementary_50 (by decide) ?_
        refine r_iadd (pc := 51) dJ8_indexOfSupplementary_51 ?_
        refine r_cI (pc := 52) (rest := []) (run_S (n := 2) (As := [.ref x0, .int (x6 + (1 : Int32))]) (rest := []) (t_J8_getChar γ l hl x0 (x6 + (1 : Int32)) g8) dJ8_indexOfSupplementary_52 q689 q690 q120 q691 (by decide +kernel) rfl (Nat.le_of_ble_eq_true rfl) (Nat.le_of_ble_eq_true rfl) rfl (Nat.le_of_ble_eq_true rfl)) (fun v11 g10 => ?_)
        refine r_iload (pc := 55) dJ8_indexOfSupplementary_55 3 rfl ?_
        refine r_icmp_ne (tgt := 63) (pc := 57) dJ8_indexOfSupplementary_57 (by decide) ?_ ?_
        · skip
          refine r_iload (pc := 60) dJ8_indexOfSupplementary_60 4 rfl ?_
          exact r_iret (pc := 62) dJ8_indexOfSupplementary_62 rfl
        · skip
          refine r_iinc (j := 4) (v := (x6 + (1 : Int32))) (pc := 63) dJ8_indexOfSupplementary_63 rfl rfl (Nat.le_of_ble_eq_true rfl) rfl ?_
          refine r_goto (tgt := 28) (pc := 66) dJ8_indexOfSupplementary_66 (by decide) ?_
          refine AW_sub [1, 2, 3, 4, 0] rfl ?_
          exact ih (x6 + (1 : Int32)) g10
      · skip
        refine r_iinc (j := 4) (v := (x6 + (1 : Int32))) (pc := 63) dJ8_indexOfSupplementary_63 rfl rfl (Nat.le_of_ble_eq_true rfl) rfl ?_
        refine r_goto (tgt := 28) (pc := 66) dJ8_indexOfSupplementary_66 (by decide) ?_
        refine AW_sub [1, 2, 3, 4, 0] rfl ?_
        exact ih (x6 + (1 : Int32)) g8
theorem t_J8_indexOfSupplementary (γ : GP) (l : Launch) (hl : l.stackTraces = false) (x0 : Nat) (x1 : Int32) (x2 : Int32) (x3 : Int32) (g : AH) : TrM ρI γ l ⟨"java/lang/StringUTF16", "indexOfSupplementary", "([BIII)I"⟩ (ws_ ⟨"java/lang/StringUTF16", "indexOfSupplementary", "([BIII)I"⟩ prog_52_method_49_code 7 (some .int)) 4 [.ref x0, .int x1, .int x2, .int x3] g (f_J8_indexOfSupplementary γ x0 x1 x2 x3 g) := by
  refine TrM_of (plainFor_of_name (by decide)) (Nat.le_of_ble_eq_true rfl) ?_
  unfold f_J8_indexOfSupplementary
  change AW ρI γ l ck_J8_indexOfSupplementary g 0 [(0, .ref x0), (1, .int x1), (2, .int x2), (3, .int x3)] [] g _
  refine r_iload_n (pc := 0) dJ8_indexOfSupplementary_0 rfl 1 rfl ?_
  refine r_cI (pc := 1) (rest := []) (run_S (n := 1) (As := [.int x1]) (rest := []) (t_J47_isValidCodePoint γ l hl x1 g) dJ8_indexOfSupplementary_1 q3767 q3768 q177 q3769 (by decide +kernel) rfl (Nat.le_of_ble_eq_true rfl) (Nat.le_of_ble_eq_true rfl) rfl (Nat.le_of_ble_eq_true rfl)) (fun v2 g1 => ?_)
  refine r_if_eq (tgt := 69) (pc := 4) dJ8_indexOfSupplementary_4 (by decide) ?_ ?_
  · skip
    refine r_iconst (v := (-1 : Int32)) (pc := 69) dJ8_indexOfSupplementary_69 (by decide) ?_
    exact r_iret (pc := 70) dJ8_indexOfSupplementary_70 rfl
  · skip
    refine r_iload_n (pc := 7) dJ8_indexOfSupplementary_7 rfl 1 rfl ?_
    refine r_cI (pc := 8) (rest := []) (run_S (n := 1) (As := [.int x1]) (rest := []) (t_J47_highSurrogate γ l hl x1 g1) dJ8_indexOfSupplementary_8 q3770 q3771 q177 q3772 (by decide +kernel) rfl (Nat.le_of_ble_eq_true rfl) (Nat.le_of_ble_eq_true rfl) rfl (Nat.le_of_ble_eq_true rfl)) (fun v4 g3 => ?_)
    refine r_istore (pc := 11) dJ8_indexOfSupplementary_11 (Nat.le_of_ble_eq_true rfl) rfl ?_
    refine r_iload_n (pc := 13) dJ8_indexOfSupplementary_13 rfl 2 rfl ?_
    refine r_cI (pc := 14) (rest := []) (run_S (n := 1) (As := [.int x1]) (rest := []) (t_J47_lowSurrogate γ l hl x1 g3) dJ8_indexOfSupplementary_14 q3774 q3775 q177 q3776 (by decide +kernel) rfl (Nat.le_of_ble_eq_true rfl) (Nat.le_of_ble_eq_true rfl) rfl (Nat.le_of_ble_eq_true rfl)) (fun v6 g5 => ?_)
    refine r_istore (pc := 17) dJ8_indexOfSupplementary_17 (Nat.le_of_ble_eq_true rfl) rfl ?_
    refine r_iload_n (pc := 19) dJ8_indexOfSupplementary_19 rfl 4 rfl ?_
    refine r_iload_n (pc := 20) dJ8_indexOfSupplementary_20 rfl 5 rfl ?_
    refine r_aload_n (pc := 21) dJ8_indexOfSupplementary_21 rfl 2 rfl ?_
    refine r_cV (pc := 22) (rest := []) (run_S (n := 3) (As := [.int x2, .int x3, .ref x0]) (rest := []) (t_J8_checkBoundsBeginEnd γ l hl x2 x3 x0 g5) dJ8_indexOfSupplementary_22 q515 q516 q120 q517 (by decide +kernel) rfl (Nat.le_of_ble_eq_true rfl) (Nat.le_of_ble_eq_true rfl) rfl (Nat.le_of_ble_eq_true rfl)) (fun g7 => ?_)
    refine r_iload_n (pc := 25) dJ8_indexOfSupplementary_25 rfl 4 rfl ?_
    refine r_istore (pc := 26) dJ8_indexOfSupplementary_26 (Nat.le_of_ble_eq_true rfl) rfl ?_
    refine AW_sub [3, 6, 2, 1, 0] rfl ?_
    refine f_J8_indexOfSupplementary_L28_w γ l hl _ x0 x3 v4 v6 FU x2 g7
abbrev ck_J8_indexOf_2 : CK := ("java/lang/StringUTF16", prog_52_method_40_code, 4, (some .int), "indexOf", [], 5)
def f_J8_indexOf_2 (γ : GP) (x0 : Nat) (x1 : Int32) (x2 : Int32) (x3 : Int32) (g : AH) : Option (Int32 × AH) := bI (f_J16_max γ x2 (0 : Int32) g) fun v2 g1 => gL g1 x0 fun v3 => bI (f_J16_min γ x3 (v3 >>> ((1 : Int32) &&& 31)) g1) fun v5 g4 => (if v2 < v5 then (if (65536 : Int32) ≤ x1 then bI (f_J8_indexOfSupplementary γ x0 x1 v2 v5 g4) fun v7 g6 => (some (v7, g6)) else bI (f_J8_indexOfChar γ x0 x1 v2 v5 g4) fun v9 g8 => (some (v9, g8))) else (some ((-1 : Int32), g4)))
theorem t_J8_indexOf_2 (γ : GP) (l : Launch) (hl : l.stackTraces = false) (x0 : Nat) (x1 : Int32) (x2 : Int32) (x3 : Int32) (g : AH) : TrM ρI γ l ⟨"java/lang/StringUTF16", "indexOf", "([BIII)I"⟩ (ws_ ⟨"java/lang/StringUTF16", "indexOf", "([BIII)I"⟩ prog_52_method_40_code 4 (some .int)) 5 [.ref x0, .int x1, .int x2, .int x3] g (f_J8_indexOf_2 γ x0 x1 x2 x3 g) := by
  refine TrM_of (plainFor_of_name (by decide)) (Nat.le_of_ble_eq_true rfl) ?_
  unfold f_J8_indexOf_2
  change AW ρI γ l ck_J8_indexOf_2 g 0 [(0, .ref x0), (1, .int x1), (2, .int x2), (3, .int x3)] [] g _
  refine r_iload_n (pc := 0) dJ8_indexOf_2_0 rfl 2 rfl ?_
  refine r_iconst (v := (0 : Int32)) (pc := 1) dJ8_indexOf_2_1 (by decide) ?_
  refine r_cI (pc := 2) (rest := []) (run_S (n := 2) (As := [.int x2, .int (0 : Int32)]) (rest := []) (t_J16_max γ l hl x2 (0 : Int32) g) dJ8_indexOf_2_2 q3756 q484 q129 q485 (by decide +kernel) rfl (Nat.le_of_ble_eq_true rfl) (Nat.le_of_ble_eq_true rfl) rfl (Nat.le_of_ble_eq_true rfl)) (fun v2 g1 => ?_)
  refine r_istore_n (pc := 5) dJ8_indexOf_2_5 rfl (Nat.le_of_ble_eq_true rfl) rfl ?_
  refine r_iload_n (pc := 6) dJ8_indexOf_2_6 rfl 3 rfl ?_
  refine r_aload_n (pc := 7) dJ8_indexOf_2_7 rfl 1 rfl ?_
  refine r_alen (pc := 8) dJ8_indexOf_2_8 (fun v3 => ?_)
  refine r_iconst (v := (1 : Int32)) (pc := 9) dJ8_indexOf_2_9 (by decide) ?_
  refine r_ishr (pc := 10) dJ8_indexOf_2_10 ?_
  refine r_cI (pc := 11) (rest := []) (run_S (n := 2) (As := [.int x3, .int (v3 >>> ((1 : Int32) &&& 31))]) (rest := []) (t_J16_min γ l hl x3 (v3 >>> ((1 : Int32) &&& 31)) g1) dJ8_indexOf_2_11 q1728 q502 q129 q503 (by decide +kernel) rfl (Nat.le_of_ble_eq_true rfl) (Nat.le_of_ble_eq_true rfl) rfl (Nat.le_of_ble_eq_true rfl)) (fun v5 g4 => ?_)
  refine r_istore_n (pc := 14) dJ8_indexOf_2_14 rfl (Nat.le_of_ble_eq_true rfl) rfl ?_
  refine r_iload_n (pc := 15) dJ8_indexOf_2_15 rfl 1 rfl ?_
  refine r_iload_n (pc := 16) dJ8_indexOf_2_16 rfl 0 rfl ?_
  refine r_icmp_lt (tgt := 22) (pc := 17) dJ8_indexOf_2_17 (by decide) ?_ ?_
  · skip
    refine r_iload_n (pc := 22) dJ8_indexOf_2_22 rfl 3 rfl ?_
    refine r_ldci (v := (65536 : Int32)) (pc := 23) dJ8_indexOf_2_23 q3757 ?_
    refine r_icmp_ge (tgt := 36) (pc := 25) dJ8_indexOf_2_25 (by decide) ?_ ?_
    · skip
      refine r_aload_n (pc := 36) dJ8_indexOf_2_36 rfl 2 rfl ?_
      refine r_iload_n (pc := 37) dJ8_indexOf_2_37 rfl 3 rfl ?_
      refine r_iload_n (pc := 38) dJ8_indexOf_2_38 rfl 1 rfl ?_
      refine r_iload_n (pc := 39) dJ8_indexOf_2_39 rfl 0 rfl ?_
      refine r_cI (pc := 40) (rest := []) (run_S (n := 4) (As := [.ref x0, .int x1, .int v2, .int v5]) (rest := []) (t_J8_indexOfSupplementary γ l hl x0 x1 v2 v5 g4) dJ8_indexOf_2_40 q3764 q3765 q120 q3766 (by decide +kernel) rfl (Nat.le_of_ble_eq_true rfl) (Nat.le_of_ble_eq_true rfl) rfl (Nat.le_of_ble_eq_true rfl)) (fun v7 g6 => ?_)
      exact r_iret (pc := 43) dJ8_indexOf_2_43 rfl
    · skip
      refine r_aload_n (pc := 28) dJ8_indexOf_2_28 rfl 2 rfl ?_
      refine r_iload_n (pc := 29) dJ8_indexOf_2_29 rfl 3 rfl ?_
      refine r_iload_n (pc := 30) dJ8_indexOf_2_30 rfl 1 rfl ?_
      refine r_iload_n (pc := 31) dJ8_indexOf_2_31 rfl 0 rfl ?_
      refine r_cI (pc := 32) (rest := []) (run_S (n := 4) (As := [.ref x0, .int x1, .int v2, .int v5]) (rest := []) (t_J8_indexOfChar γ l hl x0 x1 v2 v5 g4) dJ8_indexOf_2_32 q3758 q3759 q120 q3760 (by decide +kernel) rfl (Nat.le_of_ble_eq_true rfl) (Nat.le_of_ble_eq_true rfl) rfl (Nat.le_of_ble_eq_true rfl)) (fun v9 g8 => ?_)
      exact r_iret (pc := 35) dJ8_indexOf_2_35 rfl
  · skip
    refine r_iconst (v := (-1 : Int32)) (pc := 20) dJ8_indexOf_2_20 (by decide) ?_
    exact r_iret (pc := 21) dJ8_indexOf_2_21 rfl
abbrev ck_J7_indexOf_2 : CK := ("java/lang/String", prog_48_method_80_code, 3, (some .int), "indexOf", [], 6)
def f_J7_indexOf_2 (γ : GP) (x0 : Nat) (x1 : Int32) (x2 : Int32) (g : AH) : Option (Int32 × AH) := bI ((if hK g x0 = 7 then f_J7_isLatin1 γ x0 g else none)) fun v2 g1 => (if v2 = 0 then gR g1 x0 26 fun v3 => bI ((if hK g1 x0 = 7 then f_J7_length γ x0 g1 else none)) fun v5 g4 => bI (f_J8_indexOf_2 γ v3 x1 x2 v5 g4) fun v7 g6 => (some (v7, g6)) else gR g1 x0 26 fun v8 => bI ((if hK g1 x0 = 7 then f_J7_length γ x0 g1 else none)) fun v10 g9 => bI (f_J19_indexOf_3 γ v8 x1 x2 v10 g9) fun v12 g11 => (some (v12, g11)))
theorem t_J7_indexOf_2 (γ : GP) (l : Launch) (hl : l.stackTraces = false) (x0 : Nat) (x1 : Int32) (x2 : Int32) (g : AH) : TrM ρI γ l ⟨"java/lang/String", "indexOf", "(II)I"⟩ (ws_ ⟨"java/lang/String", "indexOf", "(II)I"⟩ prog_48_method_80_code 3 (some .int)) 6 [.ref x0, .int x1, .int x2] g (f_J7_indexOf_2 γ x0 x1 x2 g) := by
  refine TrM_of (plainFor_of_name (by decide)) (Nat.le_of_ble_eq_true rfl) ?_
  unfold f_J7_indexOf_2
  change AW ρI γ l ck_J7_indexOf_2 g 0 [(0, .ref x0), (1, .int x1), (2, .int x2)] [] g _
  refine r_aload_n (pc := 0) dJ7_indexOf_2_0 rfl 0 rfl ?_
  refine r_cI (pc := 1) (rest := []) (RunOK_chk (fun h => run_V (n := 0) (c9 := 7) (As := []) (rest := []) (t_J7_isLatin1 γ l hl x0 g) dJ7_indexOf_2_1 q2286 q2287 q2288 q119 q2289 (by decide +kernel) rfl h ⟨rfl, by decide, by decide⟩ (Nat.le_of_ble_eq_true rfl) (Nat.le_of_ble_eq_true rfl) rfl (Nat.le_of_ble_eq_true rfl))) (fun v2 g1 => ?_)
  refine r_if_eq (tgt := 23) (pc := 4) dJ7_indexOf_2_4 (by decide) ?_ ?_
  · skip
    refine r_aload_n (pc := 23) dJ7_indexOf_2_23 rfl 0 rfl ?_
    refine r_getR (f := 26) (pc := 24) dJ7_indexOf_2_24 q696 (Or.inl rfl) rfl (fun v3 => ?_)
    refine r_iload_n (pc := 27) dJ7_indexOf_2_27 rfl 1 rfl ?_
    refine r_iload_n (pc := 28) dJ7_indexOf_2_28 rfl 2 rfl ?_
    refine r_aload_n (pc := 29) dJ7_indexOf_2_29 rfl 0 rfl ?_
    refine r_cI (pc := 30) (rest := [.int x2, .int x1, .ref v3]) (RunOK_chk (fun h => run_V (n := 0) (c9 := 7) (As := []) (rest := [.int x2, .int x1, .ref v3]) (t_J7_length γ l hl x0 g1) dJ7_indexOf_2_30 q3742 q539 q540 q119 q541 (by decide +kernel) rfl h ⟨rfl, by decide, by decide⟩ (Nat.le_of_ble_eq_true rfl) (Nat.le_of_ble_eq_true rfl) rfl (Nat.le_of_ble_eq_true rfl))) (fun v5 g4 => ?_)
    refine r_cI (pc := 33) (rest := []) (run_S (n := 4) (As := [.ref v3, .int x1, .int x2, .int v5]) (rest := []) (t_J8_indexOf_2 γ l hl v3 x1 x2 v5 g4) dJ7_indexOf_2_33 q3753 q3754 q120 q3755 (by decide +kernel) rfl (Nat.le_of_ble_eq_true rfl) (Nat.le_of_ble_eq_true rfl) rfl (Nat.le_of_ble_eq_true rfl)) (fun v7 g6 => ?_)
    exact r_iret (pc := 36) dJ7_indexOf_2_36 rfl
  · skip
    refine r_aload_n (pc := 7) dJ7_indexOf_2_7 rfl 0 rfl ?_
    refine r_getR (f := 26) (pc := 8) dJ7_indexOf_2_8 q696 (Or.inl rfl) rfl (fun v8 => ?_)
    refine r_iload_n (pc := 11) dJ7_indexOf_2_11 rfl 1 rfl ?_
    refine r_iload_n (pc := 12) dJ7_indexOf_2_12 rfl 2 rfl ?_
    refine r_aload_n (pc := 13) dJ7_indexOf_2_13 rfl 0 rfl ?_
    refine r_cI (pc := 14) (rest := [.int x2, .int x1, .ref v8]) (RunOK_chk (fun h => run_V (n := 0) (c9 := 7) (As := []) (rest := [.int x2, .int x1, .ref v8]) (t_J7_length γ l hl x0 g1) dJ7_indexOf_2_14 q3742 q539 q540 q119 q541 (by decide +kernel) rfl h ⟨rfl, by decide, by decide⟩ (Nat.le_of_ble_eq_true rfl) (Nat.le_of_ble_eq_true rfl) rfl (Nat.le_of_ble_eq_true rfl))) (fun v10 g9 => ?_)
    refine r_cI (pc := 17) (rest := []) (run_S (n := 4) (As := [.ref v8, .int x1, .int x2, .int v10]) (rest := []) (t_J19_indexOf_3 γ l hl v8 x1 x2 v10 g9) dJ7_indexOf_2_17 q3743 q3744 q133 q3745 (by decide +kernel) rfl (Nat.le_of_ble_eq_true rfl) (Nat.le_of_ble_eq_true rfl) rfl (Nat.le_of_ble_eq_true rfl)) (fun v12 g11 => ?_)
    refine r_goto (tgt := 36) (pc := 20) dJ7_indexOf_2_20 (by decide) ?_
    exact r_iret (pc := 36) dJ7_indexOf_2_36 rfl
abbrev ck_J7_init_3 : CK := ("java/lang/String", prog_48_method_151_code, 3, none, "<init>", [], 2)
def f_J7_init_3 (γ : GP) (x0 : Nat) (x1 : Nat) (x2 : Int32) (g : AH) : Option (AH) := (if x0 ≠ 0 then pR γ g x0 26 x1 fun g1 => pI γ g1 x0 27 x2 fun g2 => (some g2) else none)
theorem t_J7_init_3 (γ : GP) (l : Launch) (hl : l.stackTraces = false) (x0 : Nat) (x1 : Nat) (x2 : Int32) (g : AH) : TrM ρV γ l ⟨"java/lang/String", "<init>", "([BB)V"⟩ (ws_ ⟨"java/lang/String", "<init>", "([BB)V"⟩ prog_48_method_151_code 3 none) 2 [.ref x0, .ref x1, .int x2] g (f_J7_init_3 γ x0 x1 x2 g) := by
  refine TrM_of (plainFor_of_name (by decide)) (Nat.le_of_ble_eq_true rfl) ?_
  unfold f_J7_init_3
  change AW ρV γ l ck_J7_init_3 g 0 [(0, .ref x0), (1, .ref x1), (2, .int x2)] [] g _
  refine r_aload_n (pc := 0) dJ7_init_3_0 rfl 0 rfl ?_
  refine r_objInit (pc := 1) dJ7_init_3_1 q619 q185 q186 (by decide) (Nat.le_of_ble_eq_true rfl) ?_
  refine r_aload_n (pc := 4) dJ7_init_3_4 rfl 0 rfl ?_
  refine r_aload_n (pc := 5) dJ7_init_3_5 rfl 1 rfl ?_
  refine r_putR (f := 26) (pc := 6) dJ7_init_3_6 q696 (Or.inl rfl) (Or.inr ⟨rfl, rfl⟩) rfl (fun g1 => ?_)
  refine r_aload_n (pc := 9) dJ7_init_3_9 rfl 0 rfl ?_
  refine r_iload_n (pc := 10) dJ7_init_3_10 rfl 2 rfl ?_
  refine r_putI (f := 27) (pc := 11) dJ7_init_3_11 q697 (Or.inl rfl) (Or.inr ⟨rfl, rfl⟩) rfl (fun g2 => ?_)
  exact r_vret (pc := 14) dJ7_init_3_14 rfl
abbrev ck_J19_newString : CK := ("java/lang/StringLatin1", prog_51_method_47_code, 3, (some (.object "java/lang/String")), "newString", [], 4)
def f_J19_newString (γ : GP) (x0 : Nat) (x1 : Int32) (x2 : Int32) (g : AH) : Option (Nat × AH) := (if x2 = 0 then none else mO g 7 fun q1 g2 => bR (f_J17_copyOfRange γ x0 x1 (x1 + x2) g2) fun v4 g3 => bV ((if q1 ≠ 0 then f_J7_init_3 γ q1 v4 (0 : Int32) g3 else none)) fun g5 => (some (q1, g5)))
theorem t_J19_newString (γ : GP) (l : Launch) (hl : l.stackTraces = false) (x0 : Nat) (x1 : Int32) (x2 : Int32) (g : AH) : TrM ρR γ l ⟨"java/lang/StringLatin1", "newString", "([BII)Ljava/lang/String;"⟩ (ws_ ⟨"java/lang/StringLatin1", "newString", "([BII)Ljava/lang/String;"⟩ prog_51_method_47_code 3 (some (.object "java/lang/String"))) 4 [.ref x0, .int x1, .int x2] g (f_J19_newString γ x0 x1 x2 g) := by
  refine TrM_of (plainFor_of_name (by decide)) (Nat.le_of_ble_eq_true rfl) ?_
  unfold f_J19_newString
  change AW ρR γ l ck_J19_newString g 0 [(0, .ref x0), (1, .int x1), (2, .int x2)] [] g _
  refine r_iload_n (pc := 0) dJ19_newString_0 rfl 2 rfl ?_
  refine r_if_ne (tgt := 7) (pc := 1) dJ19_newString_1 (by decide) ?_ ?_
  · skip
    exact AW_none
  · skip
    refine r_new (c := 7) (pc := 7) dJ19_newString_7 q3788 (by decide) (by decide) (fun q1 g2 => ?_)
    refine r_dup (pc := 10) dJ19_newString_10 rfl ?_
    refine r_aload_n (pc := 11) dJ19_newString_11 rfl 0 rfl ?_
    refine r_iload_n (pc := 12) dJ19_newString_12 rfl 1 rfl ?_
    refine r_iload_n (pc := 13) dJ19_newString_13 rfl 1 rfl ?_
    refine r_iload_n (pc := 14) dJ19_newString_14 rfl 2 rfl ?_
    refine r_iadd (pc := 15) dJ19_newString_15 ?_
    refine r_cR (pc := 16) (rest := [.ref q1, .ref q1]) (run_S (n := 3) (As := [.ref x0, .int x1, .int (x1 + x2)]) (rest := [.ref q1, .ref q1]) (t_J17_copyOfRange γ l hl x0 x1 (x1 + x2) g2) dJ19_newString_16 q3789 q635 q130 q636 (by decide +kernel) rfl (Nat.le_of_ble_eq_true rfl) (Nat.le_of_ble_eq_true rfl) rfl (Nat.le_of_ble_eq_true rfl)) (fun v4 g3 => ?_)
    refine r_iconst (v := (0 : Int32)) (pc := 19) dJ19_newString_19 (by decide) ?_
    refine r_cV (pc := 20) (rest := [.ref q1]) (RunOK_chk (fun h => run_I (n := 2) (As := [.ref v4, .int (0 : Int32)]) (rest := [.ref q1]) (t_J7_init_3 γ l hl q1 v4 (0 : Int32) g3) dJ19_newString_20 q3790 q3099 q119 q3100 rfl (by decide +kernel) rfl h (Nat.le_of_ble_eq_true rfl) (Nat.le_of_ble_eq_true rfl) rfl (Nat.le_of_ble_eq_true rfl))) (fun g5 => ?_)
    exact r_aret (pc := 23) dJ19_newString_23 rfl (by first | exact Or.inl ⟨_, rfl⟩ | exact Or.inr ⟨_, rfl⟩)
abbrev ck_J8_newString : CK := ("java/lang/StringUTF16", prog_52_method_69_code, 5, (some (.object "java/lang/String")), "newString", [], 6)
def f_J8_newString (γ : GP) (x0 : Nat) (x1 : Int32) (x2 : Int32) (g : AH) : Option (Nat × AH) := (if x2 = 0 then none else (if (1 : Int32) = 0 then mO g 7 fun q1 g2 => bR (f_J17_copyOfRange γ x0 (x1 <<< ((1 : Int32) &&& 31)) ((x1 + x2) <<< ((1 : Int32) &&& 31)) g2) fun v4 g3 => bV ((if q1 ≠ 0 then f_J7_init_3 γ q1 v4 (1 : Int32) g3 else none)) fun g5 => (some (q1, g5)) else bR (f_J8_compress γ x0 x1 x2 g) fun v7 g6 => bI (f_J8_coderFromArrayLen γ v7 x2 g6) fun v9 g8 => mO g8 7 fun q10 g11 => bV ((if q10 ≠ 0 then f_J7_init_3 γ q10 v7 v9 g11 else none)) fun g12 => (some (q10, g12))))
theorem t_J8_newString (γ : GP) (l : Launch) (hl : l.stackTraces = false) (x0 : Nat) (x1 : Int32) (x2 : Int32) (g : AH) : TrM ρR γ l ⟨"java/lang/StringUTF16", "newString", "([BII)Ljava/lang/String;"⟩ (ws_ ⟨"java/lang/StringUTF16", "newString", "([BII)Ljava/lang/String;"⟩ prog_52_method_69_code 5 (some (.object "java/lang/String"))) 6 [.ref x0, .int x1, .int x2] g (f_J8_newString γ x0 x1 x2 g) := by
  refine TrM_of (plainFor_of_name (by decide)) (Nat.le_of_ble_eq_true rfl) ?_
  unfold f_J8_newString
  change AW ρR γ l ck_J8_newString g 0 [(0, .ref x0), (1, .int x1), (2, .int x2)] [] g _
  refine r_iload_n (pc := 0) dJ8_newString_0 rfl 2 rfl ?_
  refine r_if_ne (tgt := 8) (pc := 1) dJ8_newString_1 (by decide) ?_ ?_
  · skip
    exact AW_none
  · skip
    refine r_getsI (v := (1 : Int32)) (pc := 8) dJ8_newString_8 q3795 (List.mem_of_getElem? (i := 0) rfl) rfl ?_
    refine r_if_eq (tgt := 39) (pc := 11) dJ8_newString_11 (by decide) ?_ ?_
    · skip
      refine r_iload_n (pc := 39) dJ8_newString_39 rfl 1 rfl ?_
      refine r_iload_n (pc := 40) dJ8_newString_40 rfl 2 rfl ?_
      refine r_iadd (pc := 41) dJ8_newString_41 ?_
      refine r_istore_n (pc := 42) dJ8_newString_42 rfl (Nat.le_of_ble_eq_true rfl) rfl ?_
      refine r_new (c := 7) (pc := 43) dJ8_newString_43 q3798 (by decide) (by decide) (fun q1 g2 => ?_)
      refine r_dup (pc := 46) dJ8_newString_46 rfl ?_
      refine r_aload_n (pc := 47) dJ8_newString_47 rfl 1 rfl ?_
      refine r_iload_n (pc := 48) dJ8_newString_48 rfl 2 rfl ?_
      refine r_iconst (v := (1 : Int32)) (pc := 49) dJ8_newString_49 (by decide) ?_
      refine r_ishl (pc := 50) dJ8_newString_50 ?_
      refine r_iload_n (pc := 51) dJ8_newString_51 rfl 0 rfl ?_
      refine r_iconst (v := (1 : Int32)) (pc := 52) dJ8_newString_52 (by decide) ?_
      refine r_ishl (pc := 53) dJ8_newString_53 ?_
      refine r_cR (pc := 54) (rest := [.ref q1, .ref q1]) (run_S (n := 3) (As := [.ref x0, .int (x1 <<< ((1 : Int32) &&& 31)), .int ((x1 + x2) <<< ((1 : Int32) &&& 31))]) (rest := [.ref q1, .ref q1]) (t_J17_copyOfRange γ l hl x0 (x1 <<< ((1 : Int32) &&& 31)) ((x1 + x2) <<< ((1 : Int32) &&& 31)) g2) dJ8_newString_54 q692 q635 q130 q636 (by decide +kernel) rfl (Nat.le_of_ble_eq_true rfl) (Nat.le_of_ble_eq_true rfl) rfl (Nat.le_of_ble_eq_true rfl)) (fun v4 g3 => ?_)
      refine r_iconst (v := (1 : Int32)) (pc := 57) dJ8_newString_57 (by decide) ?_
      refine r_cV (pc := 58) (rest := [.ref q1]) (RunOK_chk (fun h => run_I (n := 2) (As := [.ref v4, .int (1 : Int32)]) (rest := [.ref q1]) (t_J7_init_3 γ l hl q1 v4 (1 : Int32) g3) dJ8_newString_58 q3799 q3099 q119 q3100 rfl (by decide +kernel) rfl h (Nat.le_of_ble_eq_true rfl) (Nat.le_of_ble_eq_true rfl) rfl (Nat.le_of_ble_eq_true rfl))) (fun g5 => ?_)
      exact r_aret (pc := 61) dJ8_newString_61 rfl (by first | exact Or.inl ⟨_, rfl⟩ | exact Or.inr ⟨_, rfl⟩)
    · skip
      refine r_aload_n (pc := 14) dJ8_newString_14 rfl 0 rfl ?_
      refine r_iload_n (pc := 15) dJ8_newString_15 rfl 1 rfl ?_
      refine r_iload_n (pc := 16) dJ8_newString_16 rfl 2 rfl ?_
      refine r_cR (pc := 17) (rest := []) (run_S (n := 3) (As := [.ref x0, .int x1, .int x2]) (rest := []) (t_J8_compress γ l hl x0 x1 x2 g) dJ8_newString_17 q3796 q684 q120 q685 (by decide +kernel) rfl (Nat.le_of_ble_eq_true rfl) (Nat.le_of_ble_eq_true rfl) rfl (Nat.le_of_ble_eq_true rfl)) (fun v7 g6 => ?_)
      refine r_astore_n (pc := 20) dJ8_newString_20 rfl (Nat.le_of_ble_eq_true rfl) rfl ?_
      refine r_aload_n (pc := 21) dJ8_newString_21 rfl 0 rfl ?_
      refine r_iload_n (pc := 22) dJ8_newString_22 rfl 3 rfl ?_
      refine r_cI (pc := 23) (rest := []) (run_S (n := 2) (As := [.ref v7, .int x2]) (rest := []) (t_J8_coderFromArrayLen γ l hl v7 x2 g6) dJ8_newString_23 q3797 q694 q120 q695 (by decide +kernel) rfl (Nat.le_of_ble_eq_true rfl) (Nat.le_of_ble_eq_true rfl) rfl (Nat.le_of_ble_eq_true rfl)) (fun v9 g8 => ?_)
      refine r_istore (pc := 26) dJ8_newString_26 (Nat.le_of_ble_eq_true rfl) rfl ?_
      refine r_new (c := 7) (pc := 28) dJ8_newString_28 q3798 (by decide) (by decide) (fun q10 g11 => ?_)
      refine r_dup (pc := 31) dJ8_newString_31 rfl ?_
      refine r_aload_n (pc := 32) dJ8_newString_32 rfl 1 rfl ?_
      refine r_iload (pc := 33) dJ8_newString_33 0 rfl ?_
      refine r_cV (pc := 35) (rest := [.ref q10]) (RunOK_chk (fun h => run_I (n := 2) (As := [.ref v7, .int v9]) (rest := [.ref q10]) (t_J7_init_3 γ l hl q10 v7 v9 g11) dJ8_newString_35 q3799 q3099 q119 q3100 rfl (by decide +kernel) rfl h (Nat.le_of_ble_eq_true rfl) (Nat.le_of_ble_eq_true rfl) rfl (Nat.le_of_ble_eq_true rfl))) (fun g12 => ?_)
      exact r_aret (pc := 38) dJ8_newString_38 rfl (by first | exact Or.inl ⟨_, rfl⟩ | exact Or.inr ⟨_, rfl⟩)
abbrev ck_J7_substring : CK := ("java/lang/String", prog_48_method_92_code, 5, (some (.object "java/lang/String")), "substring", [], 7)
def f_J7_substring (γ : GP) (x0 : Nat) (x1 : Int32) (x2 : Int32) (g : AH) : Option (Nat × AH) := bI ((if hK g x0 = 7 then f_J7_length γ x0 g else none)) fun v2 g1 => bV (f_J7_checkBoundsBeginEnd γ x1 x2 v2 g1) fun g3 => jn (fun (g4 : AH) => bI ((if hK g4 x0 = 7 then f_J7_isLatin1 γ x0 g4 else none)) fun v7 g6 => (if v7 = 0 then gR g6 x0 26 fun v8 => bR (f_J8_newString γ v8 x1 (x2 - x1) g6) fun v10 g9 => (some (v10, g9)) else gR g6 x0 26 fun v11 => bR (f_J19_newString γ v11 x1 (x2 - x1) g6) fun v13 g12 => (some (v13, g12)))) (fun (j5 : AH → Option (Nat × AH)) => (if x1 = 0 then (if x2 = v2 then (some (x0, g3)) else j5 g3) else j5 g3))
theorem t_J7_substring (γ : GP) (l : Launch) (hl : l.stackTraces = false) (x0 : Nat) (x1 : Int32) (x2 : Int32) (g : AH) : TrM ρR γ l ⟨"java/lang/String", "substring", "(II)Ljava/lang/String;"⟩ (ws_ ⟨"java/lang/String", "substring", "(II)Ljava/lang/String;"⟩ prog_48_method_92_code 5 (some (.object "java/lang/String"))) 7 [.ref x0, .int x1, .int x2] g (f_J7_substring γ x0 x1 x2 g) := by
  refine TrM_of (plainFor_of_name (by decide)) (Nat.le_of_ble_eq_true rfl) ?_
  unfold f_J7_substring
  change AW ρR γ l ck_J7_substring g 0 [(0, .ref x0), (1, .int x1), (2, .int x2)] [] g _
  refine r_aload_n (pc := 0) dJ7_substring_0 rfl 0 rfl ?_
  refine r_cI (pc := 1) (rest := []) (RunOK_chk (fun h => run_V (n := 0) (c9 := 7) (As := []) (rest := []) (t_J7_length γ l hl x0 g) dJ7_substring_1 q3742 q539 q540 q119 q541 (by decide +kernel) rfl h ⟨rfl, by decide, by decide⟩ (Nat.le_of_ble_eq_true rfl) (Nat.le_of_ble_eq_true rfl) rfl (Nat.le_of_ble_eq_true rfl))) (fun v2 g1 => ?_)
  refine r_istore_n (pc := 4) dJ7_substring_4 rfl (Nat.le_of_ble_eq_true rfl) rfl ?_
  refine r_iload_n (pc := 5) dJ7_substring_5 rfl 2 rfl ?_
  refine r_iload_n (pc := 6) dJ7_substring_6 rfl 3 rfl ?_
  refine r_iload_n (pc := 7) dJ7_substring_7 rfl 0 rfl ?_
  refine r_cV (pc := 8) (rest := []) (run_S (n := 3) (As := [.int x1, .int x2, .int v2]) (rest := []) (t_J7_checkBoundsBeginEnd γ l hl x1 x2 v2 g1) dJ7_substring_8 q3783 q522 q119 q523 (by decide +kernel) rfl (Nat.le_of_ble_eq_true rfl) (Nat.le_of_ble_eq_true rfl) rfl (Nat.le_of_ble_eq_true rfl)) (fun g3 => ?_)
  refine r_iload_n (pc := 11) dJ7_substring_11 rfl 2 rfl ?_
  refine AW_jn (P := fun (j : AH → Option (Nat × AH)) => ∀ (g4 : AH), AW ρR γ l ck_J7_substring g 22 [(0, .ref x0), (1, .int x1), (2, .int x2)] [] g4 (j g4)) (fun g4 => ?_) (fun j5 h_j5 => ?_)
  · skip
    refine r_iload_n (pc := 22) dJ7_substring_22 rfl 2 rfl ?_
    refine r_iload_n (pc := 23) dJ7_substring_23 rfl 1 rfl ?_
    refine r_isub (pc := 24) dJ7_substring_24 ?_
    refine r_istore (pc := 25) dJ7_substring_25 (Nat.le_of_ble_eq_true rfl) rfl ?_
    refine r_aload_n (pc := 27) dJ7_substring_27 rfl 1 rfl ?_
    refine r_cI (pc := 28) (rest := []) (RunOK_chk (fun h => run_V (n := 0) (c9 := 7) (As := []) (rest := []) (t_J7_isLatin1 γ l hl x0 g4) dJ7_substring_28 q2286 q2287 q2288 q119 q2289 (by decide +kernel) rfl h ⟨rfl, by decide, by decide⟩ (Nat.le_of_ble_eq_true rfl) (Nat.le_of_ble_eq_true rfl) rfl (Nat.le_of_ble_eq_true rfl))) (fun v7 g6 => ?_)
    refine r_if_eq (tgt := 47) (pc := 31) dJ7_substring_31 (by decide) ?_ ?_
    · skip
      refine r_aload_n (pc := 47) dJ7_substring_47 rfl 1 rfl ?_
      refine r_getR (f := 26) (pc := 48) dJ7_substring_48 q696 (Or.inl rfl) rfl (fun v8 => ?_)
      refine r_iload_n (pc := 51) dJ7_substring_51 rfl 2 rfl ?_
      refine r_iload (pc := 52) dJ7_substring_52 0 rfl ?_
      refine r_cR (pc := 54) (rest := []) (run_S (n := 3) (As := [.ref v8, .int x1, .int (x2 - x1)]) (rest := []) (t_J8_newString γ l hl v8 x1 (x2 - x1) g6) dJ7_substring_54 q3791 q3792 q120 q3793 (by decide +kernel) rfl (Nat.le_of_ble_eq_true rfl) (Nat.le_of_ble_eq_true rfl) rfl (Nat.le_of_ble_eq_true rfl)) (fun v10 g9 => ?_)
      exact r_aret (pc := 57) dJ7_substring_57 rfl (by first | exact Or.inl ⟨_, rfl⟩ | exact Or.inr ⟨_, rfl⟩)
    · skip
      refine r_aload_n (pc := 34) dJ7_substring_34 rfl 1 rfl ?_
      refine r_getR (f := 26) (pc := 35) dJ7_substring_35 q696 (Or.inl rfl) rfl (fun v11 => ?_)
      refine r_iload_n (pc := 38) dJ7_substring_38 rfl 2 rfl ?_
      refine r_iload (pc := 39) dJ7_substring_39 0 rfl ?_
      refine r_cR (pc := 41) (rest := []) (run_S (n := 3) (As := [.ref v11, .int x1, .int (x2 - x1)]) (rest := []) (t_J19_newString γ l hl v11 x1 (x2 - x1) g6) dJ7_substring_41 q3784 q3785 q133 q3786 (by decide +kernel) rfl (Nat.le_of_ble_eq_true rfl) (Nat.le_of_ble_eq_true rfl) rfl (Nat.le_of_ble_eq_true rfl)) (fun v13 g12 => ?_)
      refine r_goto (tgt := 57) (pc := 44) dJ7_substring_44 (by decide) ?_
      exact r_aret (pc := 57) dJ7_substring_57 rfl (by first | exact Or.inl ⟨_, rfl⟩ | exact Or.inr ⟨_, rfl⟩)
  · skip
    refine r_if_ne (tgt := 22) (pc := 12) dJ7_substring_12 (by decide) ?_ ?_
    · skip
      refine r_iload_n (pc := 15) dJ7_substring_15 rfl 3 rfl ?_
      refine r_iload_n (pc := 16) dJ7_substring_16 rfl 0 rfl ?_
      refine r_icmp_ne (tgt := 22) (pc := 17) dJ7_substring_17 (by decide) ?_ ?_
      · skip
        refine r_aload_n (pc := 20) dJ7_substring_20 rfl 1 rfl ?_
        exact r_aret (pc := 21) dJ7_substring_21 rfl (by first | exact Or.inl ⟨_, rfl⟩ | exact Or.inr ⟨_, rfl⟩)
      · skip
        refine AW_sub [1, 2, 3] rfl ?_
        exact h_j5 g3
    · skip
      refine AW_sub [1, 2, 3] rfl ?_
      exact h_j5 g3
