set_option maxRecDepth 100000
abbrev cX2_learns : ByteArray := prog_14_method_33_code
def dkwX2_learns_6 : List UInt8 := [182, 1, 34, 184, 0, 103, 42, 27, 29, 21, 6, 182, 1, 40, 25, 4, 182, 1, 34, 172]
abbrev dktX2_learns_6 : List UInt8 := dkwX2_learns_6 ++ []
def dkwX2_learns_5 : List UInt8 := [154, 0, 14, 25, 5, 182, 0, 250, 182, 1, 37, 153, 0, 7, 4, 167, 0, 4, 3, 16, 12, 25, 5]
abbrev dktX2_learns_5 : List UInt8 := dkwX2_learns_5 ++ dktX2_learns_6
def dkwX2_learns_4 : List UInt8 := [184, 0, 103, 25, 5, 182, 0, 250, 178, 1, 19, 166, 0, 7, 4, 167, 0, 4, 3, 54, 6, 21, 6]
abbrev dktX2_learns_4 : List UInt8 := dkwX2_learns_4 ++ dktX2_learns_5
def dkwX2_learns_3 : List UInt8 := [184, 0, 103, 42, 28, 182, 0, 86, 182, 0, 218, 154, 0, 7, 4, 167, 0, 4, 3, 16, 11, 28]
abbrev dktX2_learns_3 : List UInt8 := dkwX2_learns_3 ++ dktX2_learns_4
def dkwX2_learns_2 : List UInt8 := [184, 0, 103, 42, 27, 182, 0, 86, 182, 0, 218, 154, 0, 7, 4, 167, 0, 4, 3, 16, 11, 27]
abbrev dktX2_learns_2 : List UInt8 := dkwX2_learns_2 ++ dktX2_learns_3
def dkwX2_learns_1 : List UInt8 := [29, 182, 0, 119, 28, 182, 0, 126, 58, 5, 25, 4, 182, 0, 154, 16, 10, 25, 4, 182, 1, 34]
abbrev dktX2_learns_1 : List UInt8 := dkwX2_learns_1 ++ dktX2_learns_2
def dkwX2_learns_0 : List UInt8 := [42, 27, 29, 182, 1, 31, 42, 28, 29, 182, 1, 31, 42, 29, 182, 0, 119, 27, 182, 0, 126, 58, 4, 42]
abbrev dktX2_learns_0 : List UInt8 := dkwX2_learns_0 ++ dktX2_learns_1
theorem dksX2_learns_0 : cX2_learns.data.toList.drop 0 = dktX2_learns_0 := by decide +kernel
theorem dksX2_learns_1 : cX2_learns.data.toList.drop 24 = dktX2_learns_1 := dk_seg dksX2_learns_0 24 rfl rfl
theorem dksX2_learns_2 : cX2_learns.data.toList.drop 46 = dktX2_learns_2 := dk_seg dksX2_learns_1 22 rfl rfl
theorem dksX2_learns_3 : cX2_learns.data.toList.drop 68 = dktX2_learns_3 := dk_seg dksX2_learns_2 22 rfl rfl
theorem dksX2_learns_4 : cX2_learns.data.toList.drop 90 = dktX2_learns_4 := dk_seg dksX2_learns_3 22 rfl rfl
theorem dksX2_learns_5 : cX2_learns.data.toList.drop 113 = dktX2_learns_5 := dk_seg dksX2_learns_4 23 rfl rfl
theorem dksX2_learns_6 : cX2_learns.data.toList.drop 136 = dktX2_learns_6 := dk_seg dksX2_learns_5 23 rfl rfl
theorem dX2_learns_0 : decode cX2_learns 0 = .ok (.aload_n 0, 1) := dk_42 (dk_at dksX2_learns_0 0 rfl rfl)
theorem dX2_learns_1 : decode cX2_learns 1 = .ok (.iload_n 1, 1) := dk_27 (dk_at dksX2_learns_0 1 rfl rfl)
theorem dX2_learns_2 : decode cX2_learns 2 = .ok (.iload_n 3, 1) := dk_29 (dk_at dksX2_learns_0 2 rfl rfl)
theorem dX2_learns_3 : decode cX2_learns 3 = .ok (.invokevirtual 287, 3) := dk_182 1 31 (dk_at dksX2_learns_0 3 rfl rfl)
theorem dX2_learns_6 : decode cX2_learns 6 = .ok (.aload_n 0, 1) := dk_42 (dk_at dksX2_learns_0 6 rfl rfl)
theorem dX2_learns_7 : decode cX2_learns 7 = .ok (.iload_n 2, 1) := dk_28 (dk_at dksX2_learns_0 7 rfl rfl)
theorem dX2_learns_8 : decode cX2_learns 8 = .ok (.iload_n 3, 1) := dk_29 (dk_at dksX2_learns_0 8 rfl rfl)
theorem dX2_learns_9 : decode cX2_learns 9 = .ok (.invokevirtual 287, 3) := dk_182 1 31 (dk_at dksX2_learns_0 9 rfl rfl)
theorem dX2_learns_12 : decode cX2_learns 12 = .ok (.aload_n 0, 1) := dk_42 (dk_at dksX2_learns_0 12 rfl rfl)
theorem dX2_learns_13 : decode cX2_learns 13 = .ok (.iload_n 3, 1) := dk_29 (dk_at dksX2_learns_0 13 rfl rfl)
theorem dX2_learns_14 : decode cX2_learns 14 = .ok (.invokevirtual 119, 3) := dk_182 0 119 (dk_at dksX2_learns_0 14 rfl rfl)
theorem dX2_learns_17 : decode cX2_learns 17 = .ok (.iload_n 1, 1) := dk_27 (dk_at dksX2_learns_0 17 rfl rfl)
theorem dX2_learns_18 : decode cX2_learns 18 = .ok (.invokevirtual 126, 3) := dk_182 0 126 (dk_at dksX2_learns_0 18 rfl rfl)
theorem dX2_learns_21 : decode cX2_learns 21 = .ok (.astore 4, 2) := dk_58 4 (dk_at dksX2_learns_0 21 rfl rfl)
theorem dX2_learns_23 : decode cX2_learns 23 = .ok (.aload_n 0, 1) := dk_42 (dk_at dksX2_learns_0 23 rfl rfl)
theorem dX2_learns_24 : decode cX2_learns 24 = .ok (.iload_n 3, 1) := dk_29 (dk_at dksX2_learns_1 0 rfl rfl)
theorem dX2_learns_25 : decode cX2_learns 25 = .ok (.invokevirtual 119, 3) := dk_182 0 119 (dk_at dksX2_learns_1 1 rfl rfl)
theorem dX2_learns_28 : decode cX2_learns 28 = .ok (.iload_n 2, 1) := dk_28 (dk_at dksX2_learns_1 4 rfl rfl)
theorem dX2_learns_29 : decode cX2_learns 29 = .ok (.invokevirtual 126, 3) := dk_182 0 126 (dk_at dksX2_learns_1 5 rfl rfl)
theorem dX2_learns_32 : decode cX2_learns 32 = .ok (.astore 5, 2) := dk_58 5 (dk_at dksX2_learns_1 8 rfl rfl)
theorem dX2_learns_34 : decode cX2_learns 34 = .ok (.aload 4, 2) := dk_25 4 (dk_at dksX2_learns_1 10 rfl rfl)
theorem dX2_learns_36 : decode cX2_learns 36 = .ok (.invokevirtual 154, 3) := dk_182 0 154 (dk_at dksX2_learns_1 12 rfl rfl)
theorem dX2_learns_39 : decode cX2_learns 39 = .ok (.bipush 10, 2) := dk_16 10 (dk_at dksX2_learns_1 15 rfl rfl)
theorem dX2_learns_41 : decode cX2_learns 41 = .ok (.aload 4, 2) := dk_25 4 (dk_at dksX2_learns_1 17 rfl rfl)
theorem dX2_learns_43 : decode cX2_learns 43 = .ok (.invokevirtual 290, 3) := dk_182 1 34 (dk_at dksX2_learns_1 19 rfl rfl)
theorem dX2_learns_46 : decode cX2_learns 46 = .ok (.invokestatic 103, 3) := dk_184 0 103 (dk_at dksX2_learns_2 0 rfl rfl)
theorem dX2_learns_49 : decode cX2_learns 49 = .ok (.aload_n 0, 1) := dk_42 (dk_at dksX2_learns_2 3 rfl rfl)
theorem dX2_learns_50 : decode cX2_learns 50 = .ok (.iload_n 1, 1) := dk_27 (dk_at dksX2_learns_2 4 rfl rfl)
theorem dX2_learns_51 : decode cX2_learns 51 = .ok (.invokevirtual 86, 3) := dk_182 0 86 (dk_at dksX2_learns_2 5 rfl rfl)
theorem dX2_learns_54 : decode cX2_learns 54 = .ok (.invokevirtual 218, 3) := dk_182 0 218 (dk_at dksX2_learns_2 8 rfl rfl)
theorem dX2_learns_57 : decode cX2_learns 57 = .ok (.ifCond .ne 7, 3) := dk_154 0 7 (dk_at dksX2_learns_2 11 rfl rfl)
theorem dX2_learns_60 : decode cX2_learns 60 = .ok (.iconst 1, 1) := dk_4 (dk_at dksX2_learns_2 14 rfl rfl)
theorem dX2_learns_61 : decode cX2_learns 61 = .ok (.goto 4, 3) := dk_167 0 4 (dk_at dksX2_learns_2 15 rfl rfl)
theorem dX2_learns_64 : decode cX2_learns 64 = .ok (.iconst 0, 1) := dk_3 (dk_at dksX2_learns_2 18 rfl rfl)
theorem dX2_learns_65 : decode cX2_learns 65 = .ok (.bipush 11, 2) := dk_16 11 (dk_at dksX2_learns_2 19 rfl rfl)
theorem dX2_learns_67 : decode cX2_learns 67 = .ok (.iload_n 1, 1) := dk_27 (dk_at dksX2_learns_2 21 rfl rfl)
theorem dX2_learns_68 : decode cX2_learns 68 = .ok (.invokestatic 103, 3) := dk_184 0 103 (dk_at dksX2_learns_3 0 rfl rfl)
theorem dX2_learns_71 : decode cX2_learns 71 = .ok (.aload_n 0, 1) := dk_42 (dk_at dksX2_learns_3 3 rfl rfl)
theorem dX2_learns_72 : decode cX2_learns 72 = .ok (.iload_n 2, 1) := dk_28 (dk_at dksX2_learns_3 4 rfl rfl)
theorem dX2_learns_73 : decode cX2_learns 73 = .ok (.invokevirtual 86, 3) := dk_182 0 86 (dk_at dksX2_learns_3 5 rfl rfl)
theorem dX2_learns_76 : decode cX2_learns 76 = .ok (.invokevirtual 218, 3) := dk_182 0 218 (dk_at dksX2_learns_3 8 rfl rfl)
theorem dX2_learns_79 : decode cX2_learns 79 = .ok (.ifCond .ne 7, 3) := dk_154 0 7 (dk_at dksX2_learns_3 11 rfl rfl)
theorem dX2_learns_82 : decode cX2_learns 82 = .ok (.iconst 1, 1) := dk_4 (dk_at dksX2_learns_3 14 rfl rfl)
theorem dX2_learns_83 : decode cX2_learns 83 = .ok (.goto 4, 3) := dk_167 0 4 (dk_at dksX2_learns_3 15 rfl rfl)
theorem dX2_learns_86 : decode cX2_learns 86 = .ok (.iconst 0, 1) := dk_3 (dk_at dksX2_learns_3 18 rfl rfl)
theorem dX2_learns_87 : decode cX2_learns 87 = .ok (.bipush 11, 2) := dk_16 11 (dk_at dksX2_learns_3 19 rfl rfl)
theorem dX2_learns_89 : decode cX2_learns 89 = .ok (.iload_n 2, 1) := dk_28 (dk_at dksX2_learns_3 21 rfl rfl)
theorem dX2_learns_90 : decode cX2_learns 90 = .ok (.invokestatic 103, 3) := dk_184 0 103 (dk_at dksX2_learns_4 0 rfl rfl)
theorem dX2_learns_93 : decode cX2_learns 93 = .ok (.aload 5, 2) := dk_25 5 (dk_at dksX2_learns_4 3 rfl rfl)
theorem dX2_learns_95 : decode cX2_learns 95 = .ok (.invokevirtual 250, 3) := dk_182 0 250 (dk_at dksX2_learns_4 5 rfl rfl)
theorem dX2_learns_98 : decode cX2_learns 98 = .ok (.getstatic 275, 3) := dk_178 1 19 (dk_at dksX2_learns_4 8 rfl rfl)
theorem dX2_learns_101 : decode cX2_learns 101 = .ok (.if_acmp .ne 7, 3) := dk_166 0 7 (dk_at dksX2_learns_4 11 rfl rfl)
theorem dX2_learns_104 : decode cX2_learns 104 = .ok (.iconst 1, 1) := dk_4 (dk_at dksX2_learns_4 14 rfl rfl)
theorem dX2_learns_105 : decode cX2_learns 105 = .ok (.goto 4, 3) := dk_167 0 4 (dk_at dksX2_learns_4 15 rfl rfl)
theorem dX2_learns_108 : decode cX2_learns 108 = .ok (.iconst 0, 1) := dk_3 (dk_at dksX2_learns_4 18 rfl rfl)
theorem dX2_learns_109 : decode cX2_learns 109 = .ok (.istore 6, 2) := dk_54 6 (dk_at dksX2_learns_4 19 rfl rfl)
theorem dX2_learns_111 : decode cX2_learns 111 = .ok (.iload 6, 2) := dk_21 6 (dk_at dksX2_learns_4 21 rfl rfl)
theorem dX2_learns_113 : decode cX2_learns 113 = .ok (.ifCond .ne 14, 3) := dk_154 0 14 (dk_at dksX2_learns_5 0 rfl rfl)
theorem dX2_learns_116 : decode cX2_learns 116 = .ok (.aload 5, 2) := dk_25 5 (dk_at dksX2_learns_5 3 rfl rfl)
theorem dX2_learns_118 : decode cX2_learns 118 = .ok (.invokevirtual 250, 3) := dk_182 0 250 (dk_at dksX2_learns_5 5 rfl rfl)
theorem dX2_learns_121 : decode cX2_learns 121 = .ok (.invokevirtual 293, 3) := dk_182 1 37 (dk_at dksX2_learns_5 8 rfl rfl)
theorem dX2_learns_124 : decode cX2_learns 124 = .ok (.ifCond .eq 7, 3) := dk_153 0 7 (dk_at dksX2_learns_5 11 rfl rfl)
theorem dX2_learns_127 : decode cX2_learns 127 = .ok (.iconst 1, 1) := dk_4 (dk_at dksX2_learns_5 14 rfl rfl)
theorem dX2_learns_128 : decode cX2_learns 128 = .ok (.goto 4, 3) := dk_167 0 4 (dk_at dksX2_learns_5 15 rfl rfl)
theorem dX2_learns_131 : decode cX2_learns 131 = .ok (.iconst 0, 1) := dk_3 (dk_at dksX2_learns_5 18 rfl rfl)
theorem dX2_learns_132 : decode cX2_learns 132 = .ok (.bipush 12, 2) := dk_16 12 (dk_at dksX2_learns_5 19 rfl rfl)
theorem dX2_learns_134 : decode cX2_learns 134 = .ok (.aload 5, 2) := dk_25 5 (dk_at dksX2_learns_5 21 rfl rfl)
theorem dX2_learns_136 : decode cX2_learns 136 = .ok (.invokevirtual 290, 3) := dk_182 1 34 (dk_at dksX2_learns_6 0 rfl rfl)
theorem dX2_learns_139 : decode cX2_learns 139 = .ok (.invokestatic 103, 3) := dk_184 0 103 (dk_at dksX2_learns_6 3 rfl rfl)
theorem dX2_learns_142 : decode cX2_learns 142 = .ok (.aload_n 0, 1) := dk_42 (dk_at dksX2_learns_6 6 rfl rfl)
theorem dX2_learns_143 : decode cX2_learns 143 = .ok (.iload_n 1, 1) := dk_27 (dk_at dksX2_learns_6 7 rfl rfl)
theorem dX2_learns_144 : decode cX2_learns 144 = .ok (.iload_n 3, 1) := dk_29 (dk_at dksX2_learns_6 8 rfl rfl)
theorem dX2_learns_145 : decode cX2_learns 145 = .ok (.iload 6, 2) := dk_21 6 (dk_at dksX2_learns_6 9 rfl rfl)
theorem dX2_learns_147 : decode cX2_learns 147 = .ok (.invokevirtual 296, 3) := dk_182 1 40 (dk_at dksX2_learns_6 11 rfl rfl)
theorem dX2_learns_150 : decode cX2_learns 150 = .ok (.aload 4, 2) := dk_25 4 (dk_at dksX2_learns_6 14 rfl rfl)
theorem dX2_learns_152 : decode cX2_learns 152 = .ok (.invokevirtual 290, 3) := dk_182 1 34 (dk_at dksX2_learns_6 16 rfl rfl)
theorem dX2_learns_155 : decode cX2_learns 155 = .ok (.ireturn, 1) := dk_172 (dk_at dksX2_learns_6 19 rfl rfl)
abbrev cX2_hears : ByteArray := prog_14_method_31_code
def dkwX2_hears_3 : List UInt8 := [178, 1, 28, 16, 6, 182, 1, 13, 177]
abbrev dktX2_hears_3 : List UInt8 := dkwX2_hears_3 ++ []
def dkwX2_hears_2 : List UInt8 := [182, 1, 22, 167, 0, 29, 29, 154, 0, 25, 25, 4, 182, 0, 250, 182, 1, 25, 153, 0, 14, 42, 27, 28]
abbrev dktX2_hears_2 : List UInt8 := dkwX2_hears_2 ++ dktX2_hears_3
def dkwX2_hears_1 : List UInt8 := [27, 28, 178, 1, 19, 8, 182, 1, 13, 42, 27, 182, 0, 86, 25, 4, 182, 0, 130, 25, 4, 182, 0, 157]
abbrev dktX2_hears_1 : List UInt8 := dkwX2_hears_1 ++ dktX2_hears_2
def dkwX2_hears_0 : List UInt8 := [42, 28, 182, 0, 119, 27, 182, 0, 126, 58, 4, 29, 153, 0, 42, 25, 4, 182, 0, 154, 153, 0, 34, 42]
abbrev dktX2_hears_0 : List UInt8 := dkwX2_hears_0 ++ dktX2_hears_1
theorem dksX2_hears_0 : cX2_hears.data.toList.drop 0 = dktX2_hears_0 := by decide +kernel
theorem dksX2_hears_1 : cX2_hears.data.toList.drop 24 = dktX2_hears_1 := dk_seg dksX2_hears_0 24 rfl rfl
theorem dksX2_hears_2 : cX2_hears.data.toList.drop 48 = dktX2_hears_2 := dk_seg dksX2_hears_1 24 rfl rfl
theorem dksX2_hears_3 : cX2_hears.data.toList.drop 72 = dktX2_hears_3 := dk_seg dksX2_hears_2 24 rfl rfl
theorem dX2_hears_0 : decode cX2_hears 0 = .ok (.aload_n 0, 1) := dk_42 (dk_at dksX2_hears_0 0 rfl rfl)
theorem dX2_hears_1 : decode cX2_hears 1 = .ok (.iload_n 2, 1) := dk_28 (dk_at dksX2_hears_0 1 rfl rfl)
theorem dX2_hears_2 : decode cX2_hears 2 = .ok (.invokevirtual 119, 3) := dk_182 0 119 (dk_at dksX2_hears_0 2 rfl rfl)
theorem dX2_hears_5 : decode cX2_hears 5 = .ok (.iload_n 1, 1) := dk_27 (dk_at dksX2_hears_0 5 rfl rfl)
theorem dX2_hears_6 : decode cX2_hears 6 = .ok (.invokevirtual 126, 3) := dk_182 0 126 (dk_at dksX2_hears_0 6 rfl rfl)
theorem dX2_hears_9 : decode cX2_hears 9 = .ok (.astore 4, 2) := dk_58 4 (dk_at dksX2_hears_0 9 rfl rfl)
theorem dX2_hears_11 : decode cX2_hears 11 = .ok (.iload_n 3, 1) := dk_29 (dk_at dksX2_hears_0 11 rfl rfl)
theorem dX2_hears_12 : decode cX2_hears 12 = .ok (.ifCond .eq 42, 3) := dk_153 0 42 (dk_at dksX2_hears_0 12 rfl rfl)
theorem dX2_hears_15 : decode cX2_hears 15 = .ok (.aload 4, 2) := dk_25 4 (dk_at dksX2_hears_0 15 rfl rfl)
theorem dX2_hears_17 : decode cX2_hears 17 = .ok (.invokevirtual 154, 3) := dk_182 0 154 (dk_at dksX2_hears_0 17 rfl rfl)
theorem dX2_hears_20 : decode cX2_hears 20 = .ok (.ifCond .eq 34, 3) := dk_153 0 34 (dk_at dksX2_hears_0 20 rfl rfl)
theorem dX2_hears_23 : decode cX2_hears 23 = .ok (.aload_n 0, 1) := dk_42 (dk_at dksX2_hears_0 23 rfl rfl)
theorem dX2_hears_24 : decode cX2_hears 24 = .ok (.iload_n 1, 1) := dk_27 (dk_at dksX2_hears_1 0 rfl rfl)
theorem dX2_hears_25 : decode cX2_hears 25 = .ok (.iload_n 2, 1) := dk_28 (dk_at dksX2_hears_1 1 rfl rfl)
theorem dX2_hears_26 : decode cX2_hears 26 = .ok (.getstatic 275, 3) := dk_178 1 19 (dk_at dksX2_hears_1 2 rfl rfl)
theorem dX2_hears_29 : decode cX2_hears 29 = .ok (.iconst 5, 1) := dk_8 (dk_at dksX2_hears_1 5 rfl rfl)
theorem dX2_hears_30 : decode cX2_hears 30 = .ok (.invokevirtual 269, 3) := dk_182 1 13 (dk_at dksX2_hears_1 6 rfl rfl)
theorem dX2_hears_33 : decode cX2_hears 33 = .ok (.aload_n 0, 1) := dk_42 (dk_at dksX2_hears_1 9 rfl rfl)
theorem dX2_hears_34 : decode cX2_hears 34 = .ok (.iload_n 1, 1) := dk_27 (dk_at dksX2_hears_1 10 rfl rfl)
theorem dX2_hears_35 : decode cX2_hears 35 = .ok (.invokevirtual 86, 3) := dk_182 0 86 (dk_at dksX2_hears_1 11 rfl rfl)
theorem dX2_hears_38 : decode cX2_hears 38 = .ok (.aload 4, 2) := dk_25 4 (dk_at dksX2_hears_1 14 rfl rfl)
theorem dX2_hears_40 : decode cX2_hears 40 = .ok (.invokevirtual 130, 3) := dk_182 0 130 (dk_at dksX2_hears_1 16 rfl rfl)
theorem dX2_hears_43 : decode cX2_hears 43 = .ok (.aload 4, 2) := dk_25 4 (dk_at dksX2_hears_1 19 rfl rfl)
theorem dX2_hears_45 : decode cX2_hears 45 = .ok (.invokevirtual 157, 3) := dk_182 0 157 (dk_at dksX2_hears_1 21 rfl rfl)
theorem dX2_hears_48 : decode cX2_hears 48 = .ok (.invokevirtual 278, 3) := dk_182 1 22 (dk_at dksX2_hears_2 0 rfl rfl)
theorem dX2_hears_51 : decode cX2_hears 51 = .ok (.goto 29, 3) := dk_167 0 29 (dk_at dksX2_hears_2 3 rfl rfl)
theorem dX2_hears_54 : decode cX2_hears 54 = .ok (.iload_n 3, 1) := dk_29 (dk_at dksX2_hears_2 6 rfl rfl)
theorem dX2_hears_55 : decode cX2_hears 55 = .ok (.ifCond .ne 25, 3) := dk_154 0 25 (dk_at dksX2_hears_2 7 rfl rfl)
theorem dX2_hears_58 : decode cX2_hears 58 = .ok (.aload 4, 2) := dk_25 4 (dk_at dksX2_hears_2 10 rfl rfl)
theorem dX2_hears_60 : decode cX2_hears 60 = .ok (.invokevirtual 250, 3) := dk_182 0 250 (dk_at dksX2_hears_2 12 rfl rfl)
theorem dX2_hears_63 : decode cX2_hears 63 = .ok (.invokevirtual 281, 3) := dk_182 1 25 (dk_at dksX2_hears_2 15 rfl rfl)
theorem dX2_hears_66 : decode cX2_hears 66 = .ok (.ifCond .eq 14, 3) := dk_153 0 14 (dk_at dksX2_hears_2 18 rfl rfl)
theorem dX2_hears_69 : decode cX2_hears 69 = .ok (.aload_n 0, 1) := dk_42 (dk_at dksX2_hears_2 21 rfl rfl)
theorem dX2_hears_70 : decode cX2_hears 70 = .ok (.iload_n 1, 1) := dk_27 (dk_at dksX2_hears_2 22 rfl rfl)
theorem dX2_hears_71 : decode cX2_hears 71 = .ok (.iload_n 2, 1) := dk_28 (dk_at dksX2_hears_2 23 rfl rfl)
theorem dX2_hears_72 : decode cX2_hears 72 = .ok (.getstatic 284, 3) := dk_178 1 28 (dk_at dksX2_hears_3 0 rfl rfl)
theorem dX2_hears_75 : decode cX2_hears 75 = .ok (.bipush 6, 2) := dk_16 6 (dk_at dksX2_hears_3 3 rfl rfl)
theorem dX2_hears_77 : decode cX2_hears 77 = .ok (.invokevirtual 269, 3) := dk_182 1 13 (dk_at dksX2_hears_3 5 rfl rfl)
theorem dX2_hears_80 : decode cX2_hears 80 = .ok (.return_, 1) := dk_177 (dk_at dksX2_hears_3 8 rfl rfl)
abbrev cX2_becomes : ByteArray := prog_14_method_29_code
def dkwX2_becomes_1 : List UInt8 := [28, 42, 180, 0, 75, 182, 0, 249, 177]
abbrev dktX2_becomes_1 : List UInt8 := dkwX2_becomes_1 ++ []
def dkwX2_becomes_0 : List UInt8 := [42, 28, 182, 0, 119, 27, 182, 0, 126, 45, 42, 180, 0, 75, 182, 0, 245, 42, 27, 182, 0, 86, 21, 4]
abbrev dktX2_becomes_0 : List UInt8 := dkwX2_becomes_0 ++ dktX2_becomes_1
theorem dksX2_becomes_0 : cX2_becomes.data.toList.drop 0 = dktX2_becomes_0 := by decide +kernel
theorem dksX2_becomes_1 : cX2_becomes.data.toList.drop 24 = dktX2_becomes_1 := dk_seg dksX2_becomes_0 24 rfl rfl
theorem dX2_becomes_0 : decode cX2_becomes 0 = .ok (.aload_n 0, 1) := dk_42 (dk_at dksX2_becomes_0 0 rfl rfl)
theorem dX2_becomes_1 : decode cX2_becomes 1 = .ok (.iload_n 2, 1) := dk_28 (dk_at dksX2_becomes_0 1 rfl rfl)
theorem dX2_becomes_2 : decode cX2_becomes 2 = .ok (.invokevirtual 119, 3) := dk_182 0 119 (dk_at dksX2_becomes_0 2 rfl rfl)
theorem dX2_becomes_5 : decode cX2_becomes 5 = .ok (.iload_n 1, 1) := dk_27 (dk_at dksX2_becomes_0 5 rfl rfl)
theorem dX2_becomes_6 : decode cX2_becomes 6 = .ok (.invokevirtual 126, 3) := dk_182 0 126 (dk_at dksX2_becomes_0 6 rfl rfl)
theorem dX2_becomes_9 : decode cX2_becomes 9 = .ok (.aload_n 3, 1) := dk_45 (dk_at dksX2_becomes_0 9 rfl rfl)
theorem dX2_becomes_10 : decode cX2_becomes 10 = .ok (.aload_n 0, 1) := dk_42 (dk_at dksX2_becomes_0 10 rfl rfl)
theorem dX2_becomes_11 : decode cX2_becomes 11 = .ok (.getfield 75, 3) := dk_180 0 75 (dk_at dksX2_becomes_0 11 rfl rfl)
theorem dX2_becomes_14 : decode cX2_becomes 14 = .ok (.invokevirtual 245, 3) := dk_182 0 245 (dk_at dksX2_becomes_0 14 rfl rfl)
theorem dX2_becomes_17 : decode cX2_becomes 17 = .ok (.aload_n 0, 1) := dk_42 (dk_at dksX2_becomes_0 17 rfl rfl)
theorem dX2_becomes_18 : decode cX2_becomes 18 = .ok (.iload_n 1, 1) := dk_27 (dk_at dksX2_becomes_0 18 rfl rfl)
theorem dX2_becomes_19 : decode cX2_becomes 19 = .ok (.invokevirtual 86, 3) := dk_182 0 86 (dk_at dksX2_becomes_0 19 rfl rfl)
theorem dX2_becomes_22 : decode cX2_becomes 22 = .ok (.iload 4, 2) := dk_21 4 (dk_at dksX2_becomes_0 22 rfl rfl)
theorem dX2_becomes_24 : decode cX2_becomes 24 = .ok (.iload_n 2, 1) := dk_28 (dk_at dksX2_becomes_1 0 rfl rfl)
theorem dX2_becomes_25 : decode cX2_becomes 25 = .ok (.aload_n 0, 1) := dk_42 (dk_at dksX2_becomes_1 1 rfl rfl)
theorem dX2_becomes_26 : decode cX2_becomes 26 = .ok (.getfield 75, 3) := dk_180 0 75 (dk_at dksX2_becomes_1 2 rfl rfl)
theorem dX2_becomes_29 : decode cX2_becomes 29 = .ok (.invokevirtual 249, 3) := dk_182 0 249 (dk_at dksX2_becomes_1 5 rfl rfl)
theorem dX2_becomes_32 : decode cX2_becomes 32 = .ok (.return_, 1) := dk_177 (dk_at dksX2_becomes_1 8 rfl rfl)
abbrev cX2_passes : ByteArray := prog_14_method_42_code
def dkwX2_passes_1 : List UInt8 := [182, 1, 103, 42, 182, 1, 106, 42, 182, 1, 109, 132, 3, 1, 167, 255, 226, 42, 182, 1, 100, 28, 100, 172]
abbrev dktX2_passes_1 : List UInt8 := dkwX2_passes_1 ++ []
def dkwX2_passes_0 : List UInt8 := [42, 182, 1, 100, 61, 3, 62, 29, 27, 162, 0, 31, 42, 89, 180, 0, 75, 4, 96, 181, 0, 75, 42]
abbrev dktX2_passes_0 : List UInt8 := dkwX2_passes_0 ++ dktX2_passes_1
theorem dksX2_passes_0 : cX2_passes.data.toList.drop 0 = dktX2_passes_0 := by decide +kernel
theorem dksX2_passes_1 : cX2_passes.data.toList.drop 23 = dktX2_passes_1 := dk_seg dksX2_passes_0 23 rfl rfl
theorem dX2_passes_0 : decode cX2_passes 0 = .ok (.aload_n 0, 1) := dk_42 (dk_at dksX2_passes_0 0 rfl rfl)
theorem dX2_passes_1 : decode cX2_passes 1 = .ok (.invokevirtual 356, 3) := dk_182 1 100 (dk_at dksX2_passes_0 1 rfl rfl)
theorem dX2_passes_4 : decode cX2_passes 4 = .ok (.istore_n 2, 1) := dk_61 (dk_at dksX2_passes_0 4 rfl rfl)
theorem dX2_passes_5 : decode cX2_passes 5 = .ok (.iconst 0, 1) := dk_3 (dk_at dksX2_passes_0 5 rfl rfl)
theorem dX2_passes_6 : decode cX2_passes 6 = .ok (.istore_n 3, 1) := dk_62 (dk_at dksX2_passes_0 6 rfl rfl)
theorem dX2_passes_7 : decode cX2_passes 7 = .ok (.iload_n 3, 1) := dk_29 (dk_at dksX2_passes_0 7 rfl rfl)
theorem dX2_passes_8 : decode cX2_passes 8 = .ok (.iload_n 1, 1) := dk_27 (dk_at dksX2_passes_0 8 rfl rfl)
theorem dX2_passes_9 : decode cX2_passes 9 = .ok (.if_icmp .ge 31, 3) := dk_162 0 31 (dk_at dksX2_passes_0 9 rfl rfl)
theorem dX2_passes_12 : decode cX2_passes 12 = .ok (.aload_n 0, 1) := dk_42 (dk_at dksX2_passes_0 12 rfl rfl)
theorem dX2_passes_13 : decode cX2_passes 13 = .ok (.dup, 1) := dk_89 (dk_at dksX2_passes_0 13 rfl rfl)
theorem dX2_passes_14 : decode cX2_passes 14 = .ok (.getfield 75, 3) := dk_180 0 75 (dk_at dksX2_passes_0 14 rfl rfl)
theorem dX2_passes_17 : decode cX2_passes 17 = .ok (.iconst 1, 1) := dk_4 (dk_at dksX2_passes_0 17 rfl rfl)
theorem dX2_passes_18 : decode cX2_passes 18 = .ok (.iadd, 1) := dk_96 (dk_at dksX2_passes_0 18 rfl rfl)
theorem dX2_passes_19 : decode cX2_passes 19 = .ok (.putfield 75, 3) := dk_181 0 75 (dk_at dksX2_passes_0 19 rfl rfl)
theorem dX2_passes_22 : decode cX2_passes 22 = .ok (.aload_n 0, 1) := dk_42 (dk_at dksX2_passes_0 22 rfl rfl)
theorem dX2_passes_23 : decode cX2_passes 23 = .ok (.invokevirtual 359, 3) := dk_182 1 103 (dk_at dksX2_passes_1 0 rfl rfl)
theorem dX2_passes_26 : decode cX2_passes 26 = .ok (.aload_n 0, 1) := dk_42 (dk_at dksX2_passes_1 3 rfl rfl)
theorem dX2_passes_27 : decode cX2_passes 27 = .ok (.invokevirtual 362, 3) := dk_182 1 106 (dk_at dksX2_passes_1 4 rfl rfl)
theorem dX2_passes_30 : decode cX2_passes 30 = .ok (.aload_n 0, 1) := dk_42 (dk_at dksX2_passes_1 7 rfl rfl)
theorem dX2_passes_31 : decode cX2_passes 31 = .ok (.invokevirtual 365, 3) := dk_182 1 109 (dk_at dksX2_passes_1 8 rfl rfl)
theorem dX2_passes_34 : decode cX2_passes 34 = .ok (.iinc 3 1, 3) := dk_132 3 1 (dk_at dksX2_passes_1 11 rfl rfl)
theorem dX2_passes_37 : decode cX2_passes 37 = .ok (.goto (-30), 3) := dk_167 255 226 (dk_at dksX2_passes_1 14 rfl rfl)
theorem dX2_passes_40 : decode cX2_passes 40 = .ok (.aload_n 0, 1) := dk_42 (dk_at dksX2_passes_1 17 rfl rfl)
theorem dX2_passes_41 : decode cX2_passes 41 = .ok (.invokevirtual 356, 3) := dk_182 1 100 (dk_at dksX2_passes_1 18 rfl rfl)
theorem dX2_passes_44 : decode cX2_passes 44 = .ok (.iload_n 2, 1) := dk_28 (dk_at dksX2_passes_1 21 rfl rfl)
theorem dX2_passes_45 : decode cX2_passes 45 = .ok (.isub, 1) := dk_100 (dk_at dksX2_passes_1 22 rfl rfl)
theorem dX2_passes_46 : decode cX2_passes 46 = .ok (.ireturn, 1) := dk_172 (dk_at dksX2_passes_1 23 rfl rfl)
abbrev cX2_decided : ByteArray := prog_14_method_41_code
def dkwX2_decided_0 : List UInt8 := [42, 5, 182, 1, 97, 42, 6, 182, 1, 97, 96, 172]
abbrev dktX2_decided_0 : List UInt8 := dkwX2_decided_0 ++ []
theorem dksX2_decided_0 : cX2_decided.data.toList.drop 0 = dktX2_decided_0 := by decide +kernel
theorem dX2_decided_0 : decode cX2_decided 0 = .ok (.aload_n 0, 1) := dk_42 (dk_at dksX2_decided_0 0 rfl rfl)
theorem dX2_decided_1 : decode cX2_decided 1 = .ok (.iconst 2, 1) := dk_5 (dk_at dksX2_decided_0 1 rfl rfl)
theorem dX2_decided_2 : decode cX2_decided 2 = .ok (.invokevirtual 353, 3) := dk_182 1 97 (dk_at dksX2_decided_0 2 rfl rfl)
theorem dX2_decided_5 : decode cX2_decided 5 = .ok (.aload_n 0, 1) := dk_42 (dk_at dksX2_decided_0 5 rfl rfl)
theorem dX2_decided_6 : decode cX2_decided 6 = .ok (.iconst 3, 1) := dk_6 (dk_at dksX2_decided_0 6 rfl rfl)
theorem dX2_decided_7 : decode cX2_decided 7 = .ok (.invokevirtual 353, 3) := dk_182 1 97 (dk_at dksX2_decided_0 7 rfl rfl)
theorem dX2_decided_10 : decode cX2_decided 10 = .ok (.iadd, 1) := dk_96 (dk_at dksX2_decided_0 10 rfl rfl)
theorem dX2_decided_11 : decode cX2_decided 11 = .ok (.ireturn, 1) := dk_172 (dk_at dksX2_decided_0 11 rfl rfl)
abbrev cX2_those : ByteArray := prog_14_method_44_code
def dkwX2_those_2 : List UInt8 := [3, 96, 61, 167, 255, 219, 28, 172]
abbrev dktX2_those_2 : List UInt8 := dkwX2_those_2 ++ []
def dkwX2_those_1 : List UInt8 := [185, 0, 48, 1, 0, 192, 0, 62, 58, 4, 28, 25, 4, 182, 0, 123, 27, 160, 0, 7, 4, 167, 0, 4]
abbrev dktX2_those_1 : List UInt8 := dkwX2_those_1 ++ dktX2_those_2
def dkwX2_those_0 : List UInt8 := [3, 61, 42, 180, 0, 18, 185, 0, 36, 1, 0, 78, 45, 185, 0, 42, 1, 0, 153, 0, 34, 45]
abbrev dktX2_those_0 : List UInt8 := dkwX2_those_0 ++ dktX2_those_1
theorem dksX2_those_0 : cX2_those.data.toList.drop 0 = dktX2_those_0 := by decide +kernel
theorem dksX2_those_1 : cX2_those.data.toList.drop 22 = dktX2_those_1 := dk_seg dksX2_those_0 22 rfl rfl
theorem dksX2_those_2 : cX2_those.data.toList.drop 46 = dktX2_those_2 := dk_seg dksX2_those_1 24 rfl rfl
theorem dX2_those_0 : decode cX2_those 0 = .ok (.iconst 0, 1) := dk_3 (dk_at dksX2_those_0 0 rfl rfl)
theorem dX2_those_1 : decode cX2_those 1 = .ok (.istore_n 2, 1) := dk_61 (dk_at dksX2_those_0 1 rfl rfl)
theorem dX2_those_2 : decode cX2_those 2 = .ok (.aload_n 0, 1) := dk_42 (dk_at dksX2_those_0 2 rfl rfl)
theorem dX2_those_3 : decode cX2_those 3 = .ok (.getfield 18, 3) := dk_180 0 18 (dk_at dksX2_those_0 3 rfl rfl)
theorem dX2_those_6 : decode cX2_those 6 = .ok (.invokeinterface 36 1, 5) := by decide +kernel
theorem dX2_those_11 : decode cX2_those 11 = .ok (.astore_n 3, 1) := dk_78 (dk_at dksX2_those_0 11 rfl rfl)
theorem dX2_those_12 : decode cX2_those 12 = .ok (.aload_n 3, 1) := dk_45 (dk_at dksX2_those_0 12 rfl rfl)
theorem dX2_those_13 : decode cX2_those 13 = .ok (.invokeinterface 42 1, 5) := by decide +kernel
theorem dX2_those_18 : decode cX2_those 18 = .ok (.ifCond .eq 34, 3) := dk_153 0 34 (dk_at dksX2_those_0 18 rfl rfl)
theorem dX2_those_21 : decode cX2_those 21 = .ok (.aload_n 3, 1) := dk_45 (dk_at dksX2_those_0 21 rfl rfl)
theorem dX2_those_22 : decode cX2_those 22 = .ok (.invokeinterface 48 1, 5) := by decide +kernel
theorem dX2_those_27 : decode cX2_those 27 = .ok (.checkcast 62, 3) := dk_192 0 62 (dk_at dksX2_those_1 5 rfl rfl)
theorem dX2_those_30 : decode cX2_those 30 = .ok (.astore 4, 2) := dk_58 4 (dk_at dksX2_those_1 8 rfl rfl)
theorem dX2_those_32 : decode cX2_those 32 = .ok (.iload_n 2, 1) := dk_28 (dk_at dksX2_those_1 10 rfl rfl)
theorem dX2_those_33 : decode cX2_those 33 = .ok (.aload 4, 2) := dk_25 4 (dk_at dksX2_those_1 11 rfl rfl)
theorem dX2_those_35 : decode cX2_those 35 = .ok (.invokevirtual 123, 3) := dk_182 0 123 (dk_at dksX2_those_1 13 rfl rfl)
theorem dX2_those_38 : decode cX2_those 38 = .ok (.iload_n 1, 1) := dk_27 (dk_at dksX2_those_1 16 rfl rfl)
theorem dX2_those_39 : decode cX2_those 39 = .ok (.if_icmp .ne 7, 3) := dk_160 0 7 (dk_at dksX2_those_1 17 rfl rfl)
theorem dX2_those_42 : decode cX2_those 42 = .ok (.iconst 1, 1) := dk_4 (dk_at dksX2_those_1 20 rfl rfl)
theorem dX2_those_43 : decode cX2_those 43 = .ok (.goto 4, 3) := dk_167 0 4 (dk_at dksX2_those_1 21 rfl rfl)
theorem dX2_those_46 : decode cX2_those 46 = .ok (.iconst 0, 1) := dk_3 (dk_at dksX2_those_2 0 rfl rfl)
theorem dX2_those_47 : decode cX2_those 47 = .ok (.iadd, 1) := dk_96 (dk_at dksX2_those_2 1 rfl rfl)
theorem dX2_those_48 : decode cX2_those 48 = .ok (.istore_n 2, 1) := dk_61 (dk_at dksX2_those_2 2 rfl rfl)
theorem dX2_those_49 : decode cX2_those 49 = .ok (.goto (-37), 3) := dk_167 255 219 (dk_at dksX2_those_2 3 rfl rfl)
theorem dX2_those_52 : decode cX2_those 52 = .ok (.iload_n 2, 1) := dk_28 (dk_at dksX2_those_2 6 rfl rfl)
theorem dX2_those_53 : decode cX2_those 53 = .ok (.ireturn, 1) := dk_172 (dk_at dksX2_those_2 7 rfl rfl)
abbrev cX2_allArrive : ByteArray := prog_14_method_37_code
def dkwX2_allArrive_5 : List UInt8 := [185, 0, 48, 1, 0, 192, 0, 91, 58, 4, 42, 25, 4, 182, 1, 84, 167, 255, 230, 177]
abbrev dktX2_allArrive_5 : List UInt8 := dkwX2_allArrive_5 ++ []
def dkwX2_allArrive_4 : List UInt8 := [182, 0, 71, 87, 43, 185, 0, 36, 1, 0, 78, 45, 185, 0, 42, 1, 0, 153, 0, 23, 45]
abbrev dktX2_allArrive_4 : List UInt8 := dkwX2_allArrive_4 ++ dktX2_allArrive_5
def dkwX2_allArrive_3 : List UInt8 := [44, 25, 4, 185, 0, 58, 2, 0, 87, 167, 255, 201, 42, 180, 0, 31, 182, 1, 81, 42, 180, 0, 31, 44]
abbrev dktX2_allArrive_3 : List UInt8 := dkwX2_allArrive_3 ++ dktX2_allArrive_4
def dkwX2_allArrive_2 : List UInt8 := [185, 0, 93, 1, 0, 42, 180, 0, 75, 160, 0, 15, 43, 25, 4, 185, 0, 58, 2, 0, 87, 167, 0, 12]
abbrev dktX2_allArrive_2 : List UInt8 := dkwX2_allArrive_2 ++ dktX2_allArrive_3
def dkwX2_allArrive_1 : List UInt8 := [45, 185, 0, 42, 1, 0, 153, 0, 52, 45, 185, 0, 48, 1, 0, 192, 0, 91, 58, 4, 25, 4]
abbrev dktX2_allArrive_1 : List UInt8 := dkwX2_allArrive_1 ++ dktX2_allArrive_2
def dkwX2_allArrive_0 : List UInt8 := [187, 0, 9, 89, 183, 0, 11, 76, 187, 0, 9, 89, 183, 0, 11, 77, 42, 180, 0, 31, 182, 0, 90, 78]
abbrev dktX2_allArrive_0 : List UInt8 := dkwX2_allArrive_0 ++ dktX2_allArrive_1
theorem dksX2_allArrive_0 : cX2_allArrive.data.toList.drop 0 = dktX2_allArrive_0 := by decide +kernel
theorem dksX2_allArrive_1 : cX2_allArrive.data.toList.drop 24 = dktX2_allArrive_1 := dk_seg dksX2_allArrive_0 24 rfl rfl
theorem dksX2_allArrive_2 : cX2_allArrive.data.toList.drop 46 = dktX2_allArrive_2 := dk_seg dksX2_allArrive_1 22 rfl rfl
theorem dksX2_allArrive_3 : cX2_allArrive.data.toList.drop 70 = dktX2_allArrive_3 := dk_seg dksX2_allArrive_2 24 rfl rfl
theorem dksX2_allArrive_4 : cX2_allArrive.data.toList.drop 94 = dktX2_allArrive_4 := dk_seg dksX2_allArrive_3 24 rfl rfl
theorem dksX2_allArrive_5 : cX2_allArrive.data.toList.drop 115 = dktX2_allArrive_5 := dk_seg dksX2_allArrive_4 21 rfl rfl
theorem dX2_allArrive_0 : decode cX2_allArrive 0 = .ok (.new 9, 3) := dk_187 0 9 (dk_at dksX2_allArrive_0 0 rfl rfl)
theorem dX2_allArrive_3 : decode cX2_allArrive 3 = .ok (.dup, 1) := dk_89 (dk_at dksX2_allArrive_0 3 rfl rfl)
theorem dX2_allArrive_4 : decode cX2_allArrive 4 = .ok (.invokespecial 11, 3) := dk_183 0 11 (dk_at dksX2_allArrive_0 4 rfl rfl)
theorem dX2_allArrive_7 : decode cX2_allArrive 7 = .ok (.astore_n 1, 1) := dk_76 (dk_at dksX2_allArrive_0 7 rfl rfl)
theorem dX2_allArrive_8 : decode cX2_allArrive 8 = .ok (.new 9, 3) := dk_187 0 9 (dk_at dksX2_allArrive_0 8 rfl rfl)
theorem dX2_allArrive_11 : decode cX2_allArrive 11 = .ok (.dup, 1) := dk_89 (dk_at dksX2_allArrive_0 11 rfl rfl)
theorem dX2_allArrive_12 : decode cX2_allArrive 12 = .ok (.invokespecial 11, 3) := dk_183 0 11 (dk_at dksX2_allArrive_0 12 rfl rfl)
theorem dX2_allArrive_15 : decode cX2_allArrive 15 = .ok (.astore_n 2, 1) := dk_77 (dk_at dksX2_allArrive_0 15 rfl rfl)
theorem dX2_allArrive_16 : decode cX2_allArrive 16 = .ok (.aload_n 0, 1) := dk_42 (dk_at dksX2_allArrive_0 16 rfl rfl)
theorem dX2_allArrive_17 : decode cX2_allArrive 17 = .ok (.getfield 31, 3) := dk_180 0 31 (dk_at dksX2_allArrive_0 17 rfl rfl)
theorem dX2_allArrive_20 : decode cX2_allArrive 20 = .ok (.invokevirtual 90, 3) := dk_182 0 90 (dk_at dksX2_allArrive_0 20 rfl rfl)
theorem dX2_allArrive_23 : decode cX2_allArrive 23 = .ok (.astore_n 3, 1) := dk_78 (dk_at dksX2_allArrive_0 23 rfl rfl)
theorem dX2_allArrive_24 : decode cX2_allArrive 24 = .ok (.aload_n 3, 1) := dk_45 (dk_at dksX2_allArrive_1 0 rfl rfl)
theorem dX2_allArrive_25 : decode cX2_allArrive 25 = .ok (.invokeinterface 42 1, 5) := by decide +kernel
theorem dX2_allArrive_30 : decode cX2_allArrive 30 = .ok (.ifCond .eq 52, 3) := dk_153 0 52 (dk_at dksX2_allArrive_1 6 rfl rfl)
theorem dX2_allArrive_33 : decode cX2_allArrive 33 = .ok (.aload_n 3, 1) := dk_45 (dk_at dksX2_allArrive_1 9 rfl rfl)
theorem dX2_allArrive_34 : decode cX2_allArrive 34 = .ok (.invokeinterface 48 1, 5) := by decide +kernel
theorem dX2_allArrive_39 : decode cX2_allArrive 39 = .ok (.checkcast 91, 3) := dk_192 0 91 (dk_at dksX2_allArrive_1 15 rfl rfl)
theorem dX2_allArrive_42 : decode cX2_allArrive 42 = .ok (.astore 4, 2) := dk_58 4 (dk_at dksX2_allArrive_1 18 rfl rfl)
theorem dX2_allArrive_44 : decode cX2_allArrive 44 = .ok (.aload 4, 2) := dk_25 4 (dk_at dksX2_allArrive_1 20 rfl rfl)
theorem dX2_allArrive_46 : decode cX2_allArrive 46 = .ok (.invokeinterface 93 1, 5) := by decide +kernel
theorem dX2_allArrive_51 : decode cX2_allArrive 51 = .ok (.aload_n 0, 1) := dk_42 (dk_at dksX2_allArrive_2 5 rfl rfl)
theorem dX2_allArrive_52 : decode cX2_allArrive 52 = .ok (.getfield 75, 3) := dk_180 0 75 (dk_at dksX2_allArrive_2 6 rfl rfl)
theorem dX2_allArrive_55 : decode cX2_allArrive 55 = .ok (.if_icmp .ne 15, 3) := dk_160 0 15 (dk_at dksX2_allArrive_2 9 rfl rfl)
theorem dX2_allArrive_58 : decode cX2_allArrive 58 = .ok (.aload_n 1, 1) := dk_43 (dk_at dksX2_allArrive_2 12 rfl rfl)
theorem dX2_allArrive_59 : decode cX2_allArrive 59 = .ok (.aload 4, 2) := dk_25 4 (dk_at dksX2_allArrive_2 13 rfl rfl)
theorem dX2_allArrive_61 : decode cX2_allArrive 61 = .ok (.invokeinterface 58 2, 5) := by decide +kernel
theorem dX2_allArrive_66 : decode cX2_allArrive 66 = .ok (.pop, 1) := dk_87 (dk_at dksX2_allArrive_2 20 rfl rfl)
theorem dX2_allArrive_67 : decode cX2_allArrive 67 = .ok (.goto 12, 3) := dk_167 0 12 (dk_at dksX2_allArrive_2 21 rfl rfl)
theorem dX2_allArrive_70 : decode cX2_allArrive 70 = .ok (.aload_n 2, 1) := dk_44 (dk_at dksX2_allArrive_3 0 rfl rfl)
theorem dX2_allArrive_71 : decode cX2_allArrive 71 = .ok (.aload 4, 2) := dk_25 4 (dk_at dksX2_allArrive_3 1 rfl rfl)
theorem dX2_allArrive_73 : decode cX2_allArrive 73 = .ok (.invokeinterface 58 2, 5) := by decide +kernel
theorem dX2_allArrive_78 : decode cX2_allArrive 78 = .ok (.pop, 1) := dk_87 (dk_at dksX2_allArrive_3 8 rfl rfl)
theorem dX2_allArrive_79 : decode cX2_allArrive 79 = .ok (.goto (-55), 3) := dk_167 255 201 (dk_at dksX2_allArrive_3 9 rfl rfl)
theorem dX2_allArrive_82 : decode cX2_allArrive 82 = .ok (.aload_n 0, 1) := dk_42 (dk_at dksX2_allArrive_3 12 rfl rfl)
theorem dX2_allArrive_83 : decode cX2_allArrive 83 = .ok (.getfield 31, 3) := dk_180 0 31 (dk_at dksX2_allArrive_3 13 rfl rfl)
theorem dX2_allArrive_86 : decode cX2_allArrive 86 = .ok (.invokevirtual 337, 3) := dk_182 1 81 (dk_at dksX2_allArrive_3 16 rfl rfl)
theorem dX2_allArrive_89 : decode cX2_allArrive 89 = .ok (.aload_n 0, 1) := dk_42 (dk_at dksX2_allArrive_3 19 rfl rfl)
theorem dX2_allArrive_90 : decode cX2_allArrive 90 = .ok (.getfield 31, 3) := dk_180 0 31 (dk_at dksX2_allArrive_3 20 rfl rfl)
theorem dX2_allArrive_93 : decode cX2_allArrive 93 = .ok (.aload_n 2, 1) := dk_44 (dk_at dksX2_allArrive_3 23 rfl rfl)
theorem dX2_allArrive_94 : decode cX2_allArrive 94 = .ok (.invokevirtual 71, 3) := dk_182 0 71 (dk_at dksX2_allArrive_4 0 rfl rfl)
theorem dX2_allArrive_97 : decode cX2_allArrive 97 = .ok (.pop, 1) := dk_87 (dk_at dksX2_allArrive_4 3 rfl rfl)
theorem dX2_allArrive_98 : decode cX2_allArrive 98 = .ok (.aload_n 1, 1) := dk_43 (dk_at dksX2_allArrive_4 4 rfl rfl)
theorem dX2_allArrive_99 : decode cX2_allArrive 99 = .ok (.invokeinterface 36 1, 5) := by decide +kernel
theorem dX2_allArrive_104 : decode cX2_allArrive 104 = .ok (.astore_n 3, 1) := dk_78 (dk_at dksX2_allArrive_4 10 rfl rfl)
theorem dX2_allArrive_105 : decode cX2_allArrive 105 = .ok (.aload_n 3, 1) := dk_45 (dk_at dksX2_allArrive_4 11 rfl rfl)
theorem dX2_allArrive_106 : decode cX2_allArrive 106 = .ok (.invokeinterface 42 1, 5) := by decide +kernel
theorem dX2_allArrive_111 : decode cX2_allArrive 111 = .ok (.ifCond .eq 23, 3) := dk_153 0 23 (dk_at dksX2_allArrive_4 17 rfl rfl)
theorem dX2_allArrive_114 : decode cX2_allArrive 114 = .ok (.aload_n 3, 1) := dk_45 (dk_at dksX2_allArrive_4 20 rfl rfl)
theorem dX2_allArrive_115 : decode cX2_allArrive 115 = .ok (.invokeinterface 48 1, 5) := by decide +kernel
theorem dX2_allArrive_120 : decode cX2_allArrive 120 = .ok (.checkcast 91, 3) := dk_192 0 91 (dk_at dksX2_allArrive_5 5 rfl rfl)
theorem dX2_allArrive_123 : decode cX2_allArrive 123 = .ok (.astore 4, 2) := dk_58 4 (dk_at dksX2_allArrive_5 8 rfl rfl)
theorem dX2_allArrive_125 : decode cX2_allArrive 125 = .ok (.aload_n 0, 1) := dk_42 (dk_at dksX2_allArrive_5 10 rfl rfl)
theorem dX2_allArrive_126 : decode cX2_allArrive 126 = .ok (.aload 4, 2) := dk_25 4 (dk_at dksX2_allArrive_5 11 rfl rfl)
theorem dX2_allArrive_128 : decode cX2_allArrive 128 = .ok (.invokevirtual 340, 3) := dk_182 1 84 (dk_at dksX2_allArrive_5 13 rfl rfl)
theorem dX2_allArrive_131 : decode cX2_allArrive 131 = .ok (.goto (-26), 3) := dk_167 255 230 (dk_at dksX2_allArrive_5 16 rfl rfl)
theorem dX2_allArrive_134 : decode cX2_allArrive 134 = .ok (.return_, 1) := dk_177 (dk_at dksX2_allArrive_5 19 rfl rfl)
abbrev cX2_arrives : ByteArray := prog_14_method_36_code
def dkwX2_arrives_5 : List UInt8 := [185, 1, 63, 1, 0, 43, 185, 1, 77, 1, 0, 182, 1, 78, 177]
abbrev dktX2_arrives_5 : List UInt8 := dkwX2_arrives_5 ++ []
def dkwX2_arrives_4 : List UInt8 := [182, 1, 72, 25, 4, 182, 1, 73, 25, 4, 182, 1, 74, 182, 1, 40, 167, 0, 19, 42, 43]
abbrev dktX2_arrives_4 : List UInt8 := dkwX2_arrives_4 ++ dktX2_arrives_5
def dkwX2_arrives_3 : List UInt8 := [42, 45, 182, 1, 68, 167, 0, 54, 43, 193, 0, 201, 153, 0, 31, 43, 192, 0, 201, 58, 4, 42, 25, 4]
abbrev dktX2_arrives_3 : List UInt8 := dkwX2_arrives_3 ++ dktX2_arrives_4
def dkwX2_arrives_2 : List UInt8 := [192, 1, 16, 77, 42, 44, 182, 1, 64, 167, 0, 74, 43, 193, 0, 233, 153, 0, 16, 43, 192, 0, 233, 78]
abbrev dktX2_arrives_2 : List UInt8 := dkwX2_arrives_2 ++ dktX2_arrives_3
def dkwX2_arrives_1 : List UInt8 := [153, 0, 14, 42, 89, 180, 0, 79, 4, 96, 181, 0, 79, 177, 43, 193, 1, 16, 153, 0, 16, 43]
abbrev dktX2_arrives_1 : List UInt8 := dkwX2_arrives_1 ++ dktX2_arrives_2
def dkwX2_arrives_0 : List UInt8 := [42, 43, 184, 1, 59, 153, 0, 7, 2, 167, 0, 9, 43, 185, 1, 63, 1, 0, 182, 0, 219, 182, 0, 223]
abbrev dktX2_arrives_0 : List UInt8 := dkwX2_arrives_0 ++ dktX2_arrives_1
theorem dksX2_arrives_0 : cX2_arrives.data.toList.drop 0 = dktX2_arrives_0 := by decide +kernel
theorem dksX2_arrives_1 : cX2_arrives.data.toList.drop 24 = dktX2_arrives_1 := dk_seg dksX2_arrives_0 24 rfl rfl
theorem dksX2_arrives_2 : cX2_arrives.data.toList.drop 46 = dktX2_arrives_2 := dk_seg dksX2_arrives_1 22 rfl rfl
theorem dksX2_arrives_3 : cX2_arrives.data.toList.drop 70 = dktX2_arrives_3 := dk_seg dksX2_arrives_2 24 rfl rfl
theorem dksX2_arrives_4 : cX2_arrives.data.toList.drop 94 = dktX2_arrives_4 := dk_seg dksX2_arrives_3 24 rfl rfl
theorem dksX2_arrives_5 : cX2_arrives.data.toList.drop 115 = dktX2_arrives_5 := dk_seg dksX2_arrives_4 21 rfl rfl
theorem dX2_arrives_0 : decode cX2_arrives 0 = .ok (.aload_n 0, 1) := dk_42 (dk_at dksX2_arrives_0 0 rfl rfl)
theorem dX2_arrives_1 : decode cX2_arrives 1 = .ok (.aload_n 1, 1) := dk_43 (dk_at dksX2_arrives_0 1 rfl rfl)
theorem dX2_arrives_2 : decode cX2_arrives 2 = .ok (.invokestatic 315, 3) := dk_184 1 59 (dk_at dksX2_arrives_0 2 rfl rfl)
theorem dX2_arrives_5 : decode cX2_arrives 5 = .ok (.ifCond .eq 7, 3) := dk_153 0 7 (dk_at dksX2_arrives_0 5 rfl rfl)
theorem dX2_arrives_8 : decode cX2_arrives 8 = .ok (.iconst (-1), 1) := dk_2 (dk_at dksX2_arrives_0 8 rfl rfl)
theorem dX2_arrives_9 : decode cX2_arrives 9 = .ok (.goto 9, 3) := dk_167 0 9 (dk_at dksX2_arrives_0 9 rfl rfl)
theorem dX2_arrives_12 : decode cX2_arrives 12 = .ok (.aload_n 1, 1) := dk_43 (dk_at dksX2_arrives_0 12 rfl rfl)
theorem dX2_arrives_13 : decode cX2_arrives 13 = .ok (.invokeinterface 319 1, 5) := by decide +kernel
theorem dX2_arrives_18 : decode cX2_arrives 18 = .ok (.invokevirtual 219, 3) := dk_182 0 219 (dk_at dksX2_arrives_0 18 rfl rfl)
theorem dX2_arrives_21 : decode cX2_arrives 21 = .ok (.invokevirtual 223, 3) := dk_182 0 223 (dk_at dksX2_arrives_0 21 rfl rfl)
theorem dX2_arrives_24 : decode cX2_arrives 24 = .ok (.ifCond .eq 14, 3) := dk_153 0 14 (dk_at dksX2_arrives_1 0 rfl rfl)
theorem dX2_arrives_27 : decode cX2_arrives 27 = .ok (.aload_n 0, 1) := dk_42 (dk_at dksX2_arrives_1 3 rfl rfl)
theorem dX2_arrives_28 : decode cX2_arrives 28 = .ok (.dup, 1) := dk_89 (dk_at dksX2_arrives_1 4 rfl rfl)
theorem dX2_arrives_29 : decode cX2_arrives 29 = .ok (.getfield 79, 3) := dk_180 0 79 (dk_at dksX2_arrives_1 5 rfl rfl)
theorem dX2_arrives_32 : decode cX2_arrives 32 = .ok (.iconst 1, 1) := dk_4 (dk_at dksX2_arrives_1 8 rfl rfl)
theorem dX2_arrives_33 : decode cX2_arrives 33 = .ok (.iadd, 1) := dk_96 (dk_at dksX2_arrives_1 9 rfl rfl)
theorem dX2_arrives_34 : decode cX2_arrives 34 = .ok (.putfield 79, 3) := dk_181 0 79 (dk_at dksX2_arrives_1 10 rfl rfl)
theorem dX2_arrives_37 : decode cX2_arrives 37 = .ok (.return_, 1) := dk_177 (dk_at dksX2_arrives_1 13 rfl rfl)
theorem dX2_arrives_38 : decode cX2_arrives 38 = .ok (.aload_n 1, 1) := dk_43 (dk_at dksX2_arrives_1 14 rfl rfl)
theorem dX2_arrives_39 : decode cX2_arrives 39 = .ok (.instanceof 272, 3) := dk_193 1 16 (dk_at dksX2_arrives_1 15 rfl rfl)
theorem dX2_arrives_42 : decode cX2_arrives 42 = .ok (.ifCond .eq 16, 3) := dk_153 0 16 (dk_at dksX2_arrives_1 18 rfl rfl)
theorem dX2_arrives_45 : decode cX2_arrives 45 = .ok (.aload_n 1, 1) := dk_43 (dk_at dksX2_arrives_1 21 rfl rfl)
theorem dX2_arrives_46 : decode cX2_arrives 46 = .ok (.checkcast 272, 3) := dk_192 1 16 (dk_at dksX2_arrives_2 0 rfl rfl)
theorem dX2_arrives_49 : decode cX2_arrives 49 = .ok (.astore_n 2, 1) := dk_77 (dk_at dksX2_arrives_2 3 rfl rfl)
theorem dX2_arrives_50 : decode cX2_arrives 50 = .ok (.aload_n 0, 1) := dk_42 (dk_at dksX2_arrives_2 4 rfl rfl)
theorem dX2_arrives_51 : decode cX2_arrives 51 = .ok (.aload_n 2, 1) := dk_44 (dk_at dksX2_arrives_2 5 rfl rfl)
theorem dX2_arrives_52 : decode cX2_arrives 52 = .ok (.invokevirtual 320, 3) := dk_182 1 64 (dk_at dksX2_arrives_2 6 rfl rfl)
theorem dX2_arrives_55 : decode cX2_arrives 55 = .ok (.goto 74, 3) := dk_167 0 74 (dk_at dksX2_arrives_2 9 rfl rfl)
theorem dX2_arrives_58 : decode cX2_arrives 58 = .ok (.aload_n 1, 1) := dk_43 (dk_at dksX2_arrives_2 12 rfl rfl)
theorem dX2_arrives_59 : decode cX2_arrives 59 = .ok (.instanceof 233, 3) := dk_193 0 233 (dk_at dksX2_arrives_2 13 rfl rfl)
theorem dX2_arrives_62 : decode cX2_arrives 62 = .ok (.ifCond .eq 16, 3) := dk_153 0 16 (dk_at dksX2_arrives_2 16 rfl rfl)
theorem dX2_arrives_65 : decode cX2_arrives 65 = .ok (.aload_n 1, 1) := dk_43 (dk_at dksX2_arrives_2 19 rfl rfl)
theorem dX2_arrives_66 : decode cX2_arrives 66 = .ok (.checkcast 233, 3) := dk_192 0 233 (dk_at dksX2_arrives_2 20 rfl rfl)
theorem dX2_arrives_69 : decode cX2_arrives 69 = .ok (.astore_n 3, 1) := dk_78 (dk_at dksX2_arrives_2 23 rfl rfl)
theorem dX2_arrives_70 : decode cX2_arrives 70 = .ok (.aload_n 0, 1) := dk_42 (dk_at dksX2_arrives_3 0 rfl rfl)
theorem dX2_arrives_71 : decode cX2_arrives 71 = .ok (.aload_n 3, 1) := dk_45 (dk_at dksX2_arrives_3 1 rfl rfl)
theorem dX2_arrives_72 : decode cX2_arrives 72 = .ok (.invokevirtual 324, 3) := dk_182 1 68 (dk_at dksX2_arrives_3 2 rfl rfl)
theorem dX2_arrives_75 : decode cX2_arrives 75 = .ok (.goto 54, 3) := dk_167 0 54 (dk_at dksX2_arrives_3 5 rfl rfl)
theorem dX2_arrives_78 : decode cX2_arrives 78 = .ok (.aload_n 1, 1) := dk_43 (dk_at dksX2_arrives_3 8 rfl rfl)
theorem dX2_arrives_79 : decode cX2_arrives 79 = .ok (.instanceof 201, 3) := dk_193 0 201 (dk_at dksX2_arrives_3 9 rfl rfl)
theorem dX2_arrives_82 : decode cX2_arrives 82 = .ok (.ifCond .eq 31, 3) := dk_153 0 31 (dk_at dksX2_arrives_3 12 rfl rfl)
theorem dX2_arrives_85 : decode cX2_arrives 85 = .ok (.aload_n 1, 1) := dk_43 (dk_at dksX2_arrives_3 15 rfl rfl)
theorem dX2_arrives_86 : decode cX2_arrives 86 = .ok (.checkcast 201, 3) := dk_192 0 201 (dk_at dksX2_arrives_3 16 rfl rfl)
theorem dX2_arrives_89 : decode cX2_arrives 89 = .ok (.astore 4, 2) := dk_58 4 (dk_at dksX2_arrives_3 19 rfl rfl)
theorem dX2_arrives_91 : decode cX2_arrives 91 = .ok (.aload_n 0, 1) := dk_42 (dk_at dksX2_arrives_3 21 rfl rfl)
theorem dX2_arrives_92 : decode cX2_arrives 92 = .ok (.aload 4, 2) := dk_25 4 (dk_at dksX2_arrives_3 22 rfl rfl)
theorem dX2_arrives_94 : decode cX2_arrives 94 = .ok (.invokevirtual 328, 3) := dk_182 1 72 (dk_at dksX2_arrives_4 0 rfl rfl)
theorem dX2_arrives_97 : decode cX2_arrives 97 = .ok (.aload 4, 2) := dk_25 4 (dk_at dksX2_arrives_4 3 rfl rfl)
theorem dX2_arrives_99 : decode cX2_arrives 99 = .ok (.invokevirtual 329, 3) := dk_182 1 73 (dk_at dksX2_arrives_4 5 rfl rfl)
theorem dX2_arrives_102 : decode cX2_arrives 102 = .ok (.aload 4, 2) := dk_25 4 (dk_at dksX2_arrives_4 8 rfl rfl)
theorem dX2_arrives_104 : decode cX2_arrives 104 = .ok (.invokevirtual 330, 3) := dk_182 1 74 (dk_at dksX2_arrives_4 10 rfl rfl)
theorem dX2_arrives_107 : decode cX2_arrives 107 = .ok (.invokevirtual 296, 3) := dk_182 1 40 (dk_at dksX2_arrives_4 13 rfl rfl)
theorem dX2_arrives_110 : decode cX2_arrives 110 = .ok (.goto 19, 3) := dk_167 0 19 (dk_at dksX2_arrives_4 16 rfl rfl)
theorem dX2_arrives_113 : decode cX2_arrives 113 = .ok (.aload_n 0, 1) := dk_42 (dk_at dksX2_arrives_4 19 rfl rfl)
theorem dX2_arrives_114 : decode cX2_arrives 114 = .ok (.aload_n 1, 1) := dk_43 (dk_at dksX2_arrives_4 20 rfl rfl)
theorem dX2_arrives_115 : decode cX2_arrives 115 = .ok (.invokeinterface 319 1, 5) := by decide +kernel
theorem dX2_arrives_120 : decode cX2_arrives 120 = .ok (.aload_n 1, 1) := dk_43 (dk_at dksX2_arrives_5 5 rfl rfl)
theorem dX2_arrives_121 : decode cX2_arrives 121 = .ok (.invokeinterface 333 1, 5) := by decide +kernel
theorem dX2_arrives_126 : decode cX2_arrives 126 = .ok (.invokevirtual 334, 3) := dk_182 1 78 (dk_at dksX2_arrives_5 11 rfl rfl)
theorem dX2_arrives_129 : decode cX2_arrives 129 = .ok (.return_, 1) := dk_177 (dk_at dksX2_arrives_5 14 rfl rfl)
abbrev cX2_counts : ByteArray := prog_14_method_34_code
def dkwX2_counts_3 : List UInt8 := [182, 1, 44, 5, 182, 0, 212, 42, 43, 182, 1, 44, 182, 0, 215, 87, 177]
abbrev dktX2_counts_3 : List UInt8 := dkwX2_counts_3 ++ []
def dkwX2_counts_2 : List UInt8 := [182, 1, 49, 182, 1, 51, 44, 182, 1, 54, 44, 182, 0, 135, 182, 0, 153, 160, 0, 21, 42, 43]
abbrev dktX2_counts_2 : List UInt8 := dkwX2_counts_2 ++ dktX2_counts_3
def dkwX2_counts_1 : List UInt8 := [154, 0, 22, 42, 43, 182, 1, 44, 6, 182, 0, 212, 42, 43, 182, 1, 44, 182, 0, 215, 87, 177, 44, 43]
abbrev dktX2_counts_1 : List UInt8 := dkwX2_counts_1 ++ dktX2_counts_2
def dkwX2_counts_0 : List UInt8 := [42, 43, 182, 1, 44, 182, 0, 119, 77, 44, 182, 0, 123, 4, 159, 0, 4, 177, 43, 182, 1, 46]
abbrev dktX2_counts_0 : List UInt8 := dkwX2_counts_0 ++ dktX2_counts_1
theorem dksX2_counts_0 : cX2_counts.data.toList.drop 0 = dktX2_counts_0 := by decide +kernel
theorem dksX2_counts_1 : cX2_counts.data.toList.drop 22 = dktX2_counts_1 := dk_seg dksX2_counts_0 22 rfl rfl
theorem dksX2_counts_2 : cX2_counts.data.toList.drop 46 = dktX2_counts_2 := dk_seg dksX2_counts_1 24 rfl rfl
theorem dksX2_counts_3 : cX2_counts.data.toList.drop 68 = dktX2_counts_3 := dk_seg dksX2_counts_2 22 rfl rfl
theorem dX2_counts_0 : decode cX2_counts 0 = .ok (.aload_n 0, 1) := dk_42 (dk_at dksX2_counts_0 0 rfl rfl)
theorem dX2_counts_1 : decode cX2_counts 1 = .ok (.aload_n 1, 1) := dk_43 (dk_at dksX2_counts_0 1 rfl rfl)
theorem dX2_counts_2 : decode cX2_counts 2 = .ok (.invokevirtual 300, 3) := dk_182 1 44 (dk_at dksX2_counts_0 2 rfl rfl)
theorem dX2_counts_5 : decode cX2_counts 5 = .ok (.invokevirtual 119, 3) := dk_182 0 119 (dk_at dksX2_counts_0 5 rfl rfl)
theorem dX2_counts_8 : decode cX2_counts 8 = .ok (.astore_n 2, 1) := dk_77 (dk_at dksX2_counts_0 8 rfl rfl)
theorem dX2_counts_9 : decode cX2_counts 9 = .ok (.aload_n 2, 1) := dk_44 (dk_at dksX2_counts_0 9 rfl rfl)
theorem dX2_counts_10 : decode cX2_counts 10 = .ok (.invokevirtual 123, 3) := dk_182 0 123 (dk_at dksX2_counts_0 10 rfl rfl)
theorem dX2_counts_13 : decode cX2_counts 13 = .ok (.iconst 1, 1) := dk_4 (dk_at dksX2_counts_0 13 rfl rfl)
theorem dX2_counts_14 : decode cX2_counts 14 = .ok (.if_icmp .eq 4, 3) := dk_159 0 4 (dk_at dksX2_counts_0 14 rfl rfl)
theorem dX2_counts_17 : decode cX2_counts 17 = .ok (.return_, 1) := dk_177 (dk_at dksX2_counts_0 17 rfl rfl)
theorem dX2_counts_18 : decode cX2_counts 18 = .ok (.aload_n 1, 1) := dk_43 (dk_at dksX2_counts_0 18 rfl rfl)
theorem dX2_counts_19 : decode cX2_counts 19 = .ok (.invokevirtual 302, 3) := dk_182 1 46 (dk_at dksX2_counts_0 19 rfl rfl)
theorem dX2_counts_22 : decode cX2_counts 22 = .ok (.ifCond .ne 22, 3) := dk_154 0 22 (dk_at dksX2_counts_1 0 rfl rfl)
theorem dX2_counts_25 : decode cX2_counts 25 = .ok (.aload_n 0, 1) := dk_42 (dk_at dksX2_counts_1 3 rfl rfl)
theorem dX2_counts_26 : decode cX2_counts 26 = .ok (.aload_n 1, 1) := dk_43 (dk_at dksX2_counts_1 4 rfl rfl)
theorem dX2_counts_27 : decode cX2_counts 27 = .ok (.invokevirtual 300, 3) := dk_182 1 44 (dk_at dksX2_counts_1 5 rfl rfl)
theorem dX2_counts_30 : decode cX2_counts 30 = .ok (.iconst 3, 1) := dk_6 (dk_at dksX2_counts_1 8 rfl rfl)
theorem dX2_counts_31 : decode cX2_counts 31 = .ok (.invokevirtual 212, 3) := dk_182 0 212 (dk_at dksX2_counts_1 9 rfl rfl)
theorem dX2_counts_34 : decode cX2_counts 34 = .ok (.aload_n 0, 1) := dk_42 (dk_at dksX2_counts_1 12 rfl rfl)
theorem dX2_counts_35 : decode cX2_counts 35 = .ok (.aload_n 1, 1) := dk_43 (dk_at dksX2_counts_1 13 rfl rfl)
theorem dX2_counts_36 : decode cX2_counts 36 = .ok (.invokevirtual 300, 3) := dk_182 1 44 (dk_at dksX2_counts_1 14 rfl rfl)
theorem dX2_counts_39 : decode cX2_counts 39 = .ok (.invokevirtual 215, 3) := dk_182 0 215 (dk_at dksX2_counts_1 17 rfl rfl)
theorem dX2_counts_42 : decode cX2_counts 42 = .ok (.pop, 1) := dk_87 (dk_at dksX2_counts_1 20 rfl rfl)
theorem dX2_counts_43 : decode cX2_counts 43 = .ok (.return_, 1) := dk_177 (dk_at dksX2_counts_1 21 rfl rfl)
theorem dX2_counts_44 : decode cX2_counts 44 = .ok (.aload_n 2, 1) := dk_44 (dk_at dksX2_counts_1 22 rfl rfl)
theorem dX2_counts_45 : decode cX2_counts 45 = .ok (.aload_n 1, 1) := dk_43 (dk_at dksX2_counts_1 23 rfl rfl)
theorem dX2_counts_46 : decode cX2_counts 46 = .ok (.invokevirtual 305, 3) := dk_182 1 49 (dk_at dksX2_counts_2 0 rfl rfl)
theorem dX2_counts_49 : decode cX2_counts 49 = .ok (.invokevirtual 307, 3) := dk_182 1 51 (dk_at dksX2_counts_2 3 rfl rfl)
theorem dX2_counts_52 : decode cX2_counts 52 = .ok (.aload_n 2, 1) := dk_44 (dk_at dksX2_counts_2 6 rfl rfl)
theorem dX2_counts_53 : decode cX2_counts 53 = .ok (.invokevirtual 310, 3) := dk_182 1 54 (dk_at dksX2_counts_2 7 rfl rfl)
theorem dX2_counts_56 : decode cX2_counts 56 = .ok (.aload_n 2, 1) := dk_44 (dk_at dksX2_counts_2 10 rfl rfl)
theorem dX2_counts_57 : decode cX2_counts 57 = .ok (.invokevirtual 135, 3) := dk_182 0 135 (dk_at dksX2_counts_2 11 rfl rfl)
theorem dX2_counts_60 : decode cX2_counts 60 = .ok (.invokevirtual 153, 3) := dk_182 0 153 (dk_at dksX2_counts_2 14 rfl rfl)
theorem dX2_counts_63 : decode cX2_counts 63 = .ok (.if_icmp .ne 21, 3) := dk_160 0 21 (dk_at dksX2_counts_2 17 rfl rfl)
theorem dX2_counts_66 : decode cX2_counts 66 = .ok (.aload_n 0, 1) := dk_42 (dk_at dksX2_counts_2 20 rfl rfl)
theorem dX2_counts_67 : decode cX2_counts 67 = .ok (.aload_n 1, 1) := dk_43 (dk_at dksX2_counts_2 21 rfl rfl)
theorem dX2_counts_68 : decode cX2_counts 68 = .ok (.invokevirtual 300, 3) := dk_182 1 44 (dk_at dksX2_counts_3 0 rfl rfl)
theorem dX2_counts_71 : decode cX2_counts 71 = .ok (.iconst 2, 1) := dk_5 (dk_at dksX2_counts_3 3 rfl rfl)
theorem dX2_counts_72 : decode cX2_counts 72 = .ok (.invokevirtual 212, 3) := dk_182 0 212 (dk_at dksX2_counts_3 4 rfl rfl)
theorem dX2_counts_75 : decode cX2_counts 75 = .ok (.aload_n 0, 1) := dk_42 (dk_at dksX2_counts_3 7 rfl rfl)
theorem dX2_counts_76 : decode cX2_counts 76 = .ok (.aload_n 1, 1) := dk_43 (dk_at dksX2_counts_3 8 rfl rfl)
theorem dX2_counts_77 : decode cX2_counts 77 = .ok (.invokevirtual 300, 3) := dk_182 1 44 (dk_at dksX2_counts_3 9 rfl rfl)
theorem dX2_counts_80 : decode cX2_counts 80 = .ok (.invokevirtual 215, 3) := dk_182 0 215 (dk_at dksX2_counts_3 12 rfl rfl)
theorem dX2_counts_83 : decode cX2_counts 83 = .ok (.pop, 1) := dk_87 (dk_at dksX2_counts_3 15 rfl rfl)
theorem dX2_counts_84 : decode cX2_counts 84 = .ok (.return_, 1) := dk_177 (dk_at dksX2_counts_3 16 rfl rfl)
abbrev cX2_answers : ByteArray := prog_14_method_35_code
def dkwX2_answers_2 : List UInt8 := [4, 167, 0, 4, 3, 183, 0, 203, 182, 0, 200, 87, 177]
abbrev dktX2_answers_2 : List UInt8 := dkwX2_answers_2 ++ []
def dkwX2_answers_1 : List UInt8 := [43, 182, 1, 58, 43, 182, 1, 57, 42, 43, 182, 1, 58, 182, 0, 195, 44, 182, 0, 123, 5, 160, 0, 7]
abbrev dktX2_answers_1 : List UInt8 := dkwX2_answers_1 ++ dktX2_answers_2
def dkwX2_answers_0 : List UInt8 := [42, 43, 182, 1, 57, 182, 0, 119, 77, 44, 182, 0, 209, 153, 0, 47, 42, 180, 0, 31, 187, 0, 201, 89]
abbrev dktX2_answers_0 : List UInt8 := dkwX2_answers_0 ++ dktX2_answers_1
theorem dksX2_answers_0 : cX2_answers.data.toList.drop 0 = dktX2_answers_0 := by decide +kernel
theorem dksX2_answers_1 : cX2_answers.data.toList.drop 24 = dktX2_answers_1 := dk_seg dksX2_answers_0 24 rfl rfl
theorem dksX2_answers_2 : cX2_answers.data.toList.drop 48 = dktX2_answers_2 := dk_seg dksX2_answers_1 24 rfl rfl
theorem dX2_answers_0 : decode cX2_answers 0 = .ok (.aload_n 0, 1) := dk_42 (dk_at dksX2_answers_0 0 rfl rfl)
theorem dX2_answers_1 : decode cX2_answers 1 = .ok (.aload_n 1, 1) := dk_43 (dk_at dksX2_answers_0 1 rfl rfl)
theorem dX2_answers_2 : decode cX2_answers 2 = .ok (.invokevirtual 313, 3) := dk_182 1 57 (dk_at dksX2_answers_0 2 rfl rfl)
theorem dX2_answers_5 : decode cX2_answers 5 = .ok (.invokevirtual 119, 3) := dk_182 0 119 (dk_at dksX2_answers_0 5 rfl rfl)
theorem dX2_answers_8 : decode cX2_answers 8 = .ok (.astore_n 2, 1) := dk_77 (dk_at dksX2_answers_0 8 rfl rfl)
theorem dX2_answers_9 : decode cX2_answers 9 = .ok (.aload_n 2, 1) := dk_44 (dk_at dksX2_answers_0 9 rfl rfl)
theorem dX2_answers_10 : decode cX2_answers 10 = .ok (.invokevirtual 209, 3) := dk_182 0 209 (dk_at dksX2_answers_0 10 rfl rfl)
theorem dX2_answers_13 : decode cX2_answers 13 = .ok (.ifCond .eq 47, 3) := dk_153 0 47 (dk_at dksX2_answers_0 13 rfl rfl)
theorem dX2_answers_16 : decode cX2_answers 16 = .ok (.aload_n 0, 1) := dk_42 (dk_at dksX2_answers_0 16 rfl rfl)
theorem dX2_answers_17 : decode cX2_answers 17 = .ok (.getfield 31, 3) := dk_180 0 31 (dk_at dksX2_answers_0 17 rfl rfl)
theorem dX2_answers_20 : decode cX2_answers 20 = .ok (.new 201, 3) := dk_187 0 201 (dk_at dksX2_answers_0 20 rfl rfl)
theorem dX2_answers_23 : decode cX2_answers 23 = .ok (.dup, 1) := dk_89 (dk_at dksX2_answers_0 23 rfl rfl)
theorem dX2_answers_24 : decode cX2_answers 24 = .ok (.aload_n 1, 1) := dk_43 (dk_at dksX2_answers_1 0 rfl rfl)
theorem dX2_answers_25 : decode cX2_answers 25 = .ok (.invokevirtual 314, 3) := dk_182 1 58 (dk_at dksX2_answers_1 1 rfl rfl)
theorem dX2_answers_28 : decode cX2_answers 28 = .ok (.aload_n 1, 1) := dk_43 (dk_at dksX2_answers_1 4 rfl rfl)
theorem dX2_answers_29 : decode cX2_answers 29 = .ok (.invokevirtual 313, 3) := dk_182 1 57 (dk_at dksX2_answers_1 5 rfl rfl)
theorem dX2_answers_32 : decode cX2_answers 32 = .ok (.aload_n 0, 1) := dk_42 (dk_at dksX2_answers_1 8 rfl rfl)
theorem dX2_answers_33 : decode cX2_answers 33 = .ok (.aload_n 1, 1) := dk_43 (dk_at dksX2_answers_1 9 rfl rfl)
theorem dX2_answers_34 : decode cX2_answers 34 = .ok (.invokevirtual 314, 3) := dk_182 1 58 (dk_at dksX2_answers_1 10 rfl rfl)
theorem dX2_answers_37 : decode cX2_answers 37 = .ok (.invokevirtual 195, 3) := dk_182 0 195 (dk_at dksX2_answers_1 13 rfl rfl)
theorem dX2_answers_40 : decode cX2_answers 40 = .ok (.aload_n 2, 1) := dk_44 (dk_at dksX2_answers_1 16 rfl rfl)
theorem dX2_answers_41 : decode cX2_answers 41 = .ok (.invokevirtual 123, 3) := dk_182 0 123 (dk_at dksX2_answers_1 17 rfl rfl)
theorem dX2_answers_44 : decode cX2_answers 44 = .ok (.iconst 2, 1) := dk_5 (dk_at dksX2_answers_1 20 rfl rfl)
theorem dX2_answers_45 : decode cX2_answers 45 = .ok (.if_icmp .ne 7, 3) := dk_160 0 7 (dk_at dksX2_answers_1 21 rfl rfl)
theorem dX2_answers_48 : decode cX2_answers 48 = .ok (.iconst 1, 1) := dk_4 (dk_at dksX2_answers_2 0 rfl rfl)
theorem dX2_answers_49 : decode cX2_answers 49 = .ok (.goto 4, 3) := dk_167 0 4 (dk_at dksX2_answers_2 1 rfl rfl)
theorem dX2_answers_52 : decode cX2_answers 52 = .ok (.iconst 0, 1) := dk_3 (dk_at dksX2_answers_2 4 rfl rfl)
theorem dX2_answers_53 : decode cX2_answers 53 = .ok (.invokespecial 203, 3) := dk_183 0 203 (dk_at dksX2_answers_2 5 rfl rfl)
theorem dX2_answers_56 : decode cX2_answers 56 = .ok (.invokevirtual 200, 3) := dk_182 0 200 (dk_at dksX2_answers_2 8 rfl rfl)
theorem dX2_answers_59 : decode cX2_answers 59 = .ok (.pop, 1) := dk_87 (dk_at dksX2_answers_2 11 rfl rfl)
theorem dX2_answers_60 : decode cX2_answers 60 = .ok (.return_, 1) := dk_177 (dk_at dksX2_answers_2 12 rfl rfl)
abbrev cX2_isInvited : ByteArray := prog_14_method_30_code
def dkwX2_isInvited_4 : List UInt8 := [182, 0, 200, 87, 177]
abbrev dktX2_isInvited_4 : List UInt8 := dkwX2_isInvited_4 ++ []
def dkwX2_isInvited_3 : List UInt8 := [182, 1, 13, 42, 180, 0, 31, 187, 1, 16, 89, 27, 28, 42, 27, 182, 0, 195, 21, 4, 183, 1, 18]
abbrev dktX2_isInvited_3 : List UInt8 := dkwX2_isInvited_3 ++ dktX2_isInvited_4
def dkwX2_isInvited_2 : List UInt8 := [21, 4, 153, 0, 9, 178, 1, 7, 167, 0, 6, 178, 1, 10, 21, 4, 153, 0, 7, 6, 167, 0, 4, 7]
abbrev dktX2_isInvited_2 : List UInt8 := dkwX2_isInvited_2 ++ dktX2_isInvited_3
def dkwX2_isInvited_1 : List UInt8 := [182, 0, 130, 182, 1, 4, 45, 182, 0, 157, 161, 0, 7, 4, 167, 0, 4, 3, 54, 4, 42, 27, 28]
abbrev dktX2_isInvited_1 : List UInt8 := dkwX2_isInvited_1 ++ dktX2_isInvited_2
def dkwX2_isInvited_0 : List UInt8 := [42, 28, 182, 0, 119, 27, 182, 0, 126, 78, 45, 182, 0, 250, 178, 0, 254, 165, 0, 4, 177, 42, 27, 45]
abbrev dktX2_isInvited_0 : List UInt8 := dkwX2_isInvited_0 ++ dktX2_isInvited_1
theorem dksX2_isInvited_0 : cX2_isInvited.data.toList.drop 0 = dktX2_isInvited_0 := by decide +kernel
theorem dksX2_isInvited_1 : cX2_isInvited.data.toList.drop 24 = dktX2_isInvited_1 := dk_seg dksX2_isInvited_0 24 rfl rfl
theorem dksX2_isInvited_2 : cX2_isInvited.data.toList.drop 47 = dktX2_isInvited_2 := dk_seg dksX2_isInvited_1 23 rfl rfl
theorem dksX2_isInvited_3 : cX2_isInvited.data.toList.drop 71 = dktX2_isInvited_3 := dk_seg dksX2_isInvited_2 24 rfl rfl
theorem dksX2_isInvited_4 : cX2_isInvited.data.toList.drop 94 = dktX2_isInvited_4 := dk_seg dksX2_isInvited_3 23 rfl rfl
theorem dX2_isInvited_0 : decode cX2_isInvited 0 = .ok (.aload_n 0, 1) := dk_42 (dk_at dksX2_isInvited_0 0 rfl rfl)
theorem dX2_isInvited_1 : decode cX2_isInvited 1 = .ok (.iload_n 2, 1) := dk_28 (dk_at dksX2_isInvited_0 1 rfl rfl)
theorem dX2_isInvited_2 : decode cX2_isInvited 2 = .ok (.invokevirtual 119, 3) := dk_182 0 119 (dk_at dksX2_isInvited_0 2 rfl rfl)
theorem dX2_isInvited_5 : decode cX2_isInvited 5 = .ok (.iload_n 1, 1) := dk_27 (dk_at dksX2_isInvited_0 5 rfl rfl)
theorem dX2_isInvited_6 : decode cX2_isInvited 6 = .ok (.invokevirtual 126, 3) := dk_182 0 126 (dk_at dksX2_isInvited_0 6 rfl rfl)
theorem dX2_isInvited_9 : decode cX2_isInvited 9 = .ok (.astore_n 3, 1) := dk_78 (dk_at dksX2_isInvited_0 9 rfl rfl)
theorem dX2_isInvited_10 : decode cX2_isInvited 10 = .ok (.aload_n 3, 1) := dk_45 (dk_at dksX2_isInvited_0 10 rfl rfl)
theorem dX2_isInvited_11 : decode cX2_isInvited 11 = .ok (.invokevirtual 250, 3) := dk_182 0 250 (dk_at dksX2_isInvited_0 11 rfl rfl)
theorem dX2_isInvited_14 : decode cX2_isInvited 14 = .ok (.getstatic 254, 3) := dk_178 0 254 (dk_at dksX2_isInvited_0 14 rfl rfl)
theorem dX2_isInvited_17 : decode cX2_isInvited 17 = .ok (.if_acmp .eq 4, 3) := dk_165 0 4 (dk_at dksX2_isInvited_0 17 rfl rfl)
theorem dX2_isInvited_20 : decode cX2_isInvited 20 = .ok (.return_, 1) := dk_177 (dk_at dksX2_isInvited_0 20 rfl rfl)
theorem dX2_isInvited_21 : decode cX2_isInvited 21 = .ok (.aload_n 0, 1) := dk_42 (dk_at dksX2_isInvited_0 21 rfl rfl)
theorem dX2_isInvited_22 : decode cX2_isInvited 22 = .ok (.iload_n 1, 1) := dk_27 (dk_at dksX2_isInvited_0 22 rfl rfl)
theorem dX2_isInvited_23 : decode cX2_isInvited 23 = .ok (.aload_n 3, 1) := dk_45 (dk_at dksX2_isInvited_0 23 rfl rfl)
theorem dX2_isInvited_24 : decode cX2_isInvited 24 = .ok (.invokevirtual 130, 3) := dk_182 0 130 (dk_at dksX2_isInvited_1 0 rfl rfl)
theorem dX2_isInvited_27 : decode cX2_isInvited 27 = .ok (.invokevirtual 260, 3) := dk_182 1 4 (dk_at dksX2_isInvited_1 3 rfl rfl)
theorem dX2_isInvited_30 : decode cX2_isInvited 30 = .ok (.aload_n 3, 1) := dk_45 (dk_at dksX2_isInvited_1 6 rfl rfl)
theorem dX2_isInvited_31 : decode cX2_isInvited 31 = .ok (.invokevirtual 157, 3) := dk_182 0 157 (dk_at dksX2_isInvited_1 7 rfl rfl)
theorem dX2_isInvited_34 : decode cX2_isInvited 34 = .ok (.if_icmp .lt 7, 3) := dk_161 0 7 (dk_at dksX2_isInvited_1 10 rfl rfl)
theorem dX2_isInvited_37 : decode cX2_isInvited 37 = .ok (.iconst 1, 1) := dk_4 (dk_at dksX2_isInvited_1 13 rfl rfl)
theorem dX2_isInvited_38 : decode cX2_isInvited 38 = .ok (.goto 4, 3) := dk_167 0 4 (dk_at dksX2_isInvited_1 14 rfl rfl)
theorem dX2_isInvited_41 : decode cX2_isInvited 41 = .ok (.iconst 0, 1) := dk_3 (dk_at dksX2_isInvited_1 17 rfl rfl)
theorem dX2_isInvited_42 : decode cX2_isInvited 42 = .ok (.istore 4, 2) := dk_54 4 (dk_at dksX2_isInvited_1 18 rfl rfl)
theorem dX2_isInvited_44 : decode cX2_isInvited 44 = .ok (.aload_n 0, 1) := dk_42 (dk_at dksX2_isInvited_1 20 rfl rfl)
theorem dX2_isInvited_45 : decode cX2_isInvited 45 = .ok (.iload_n 1, 1) := dk_27 (dk_at dksX2_isInvited_1 21 rfl rfl)
theorem dX2_isInvited_46 : decode cX2_isInvited 46 = .ok (.iload_n 2, 1) := dk_28 (dk_at dksX2_isInvited_1 22 rfl rfl)
theorem dX2_isInvited_47 : decode cX2_isInvited 47 = .ok (.iload 4, 2) := dk_21 4 (dk_at dksX2_isInvited_2 0 rfl rfl)
theorem dX2_isInvited_49 : decode cX2_isInvited 49 = .ok (.ifCond .eq 9, 3) := dk_153 0 9 (dk_at dksX2_isInvited_2 2 rfl rfl)
theorem dX2_isInvited_52 : decode cX2_isInvited 52 = .ok (.getstatic 263, 3) := dk_178 1 7 (dk_at dksX2_isInvited_2 5 rfl rfl)
theorem dX2_isInvited_55 : decode cX2_isInvited 55 = .ok (.goto 6, 3) := dk_167 0 6 (dk_at dksX2_isInvited_2 8 rfl rfl)
theorem dX2_isInvited_58 : decode cX2_isInvited 58 = .ok (.getstatic 266, 3) := dk_178 1 10 (dk_at dksX2_isInvited_2 11 rfl rfl)
theorem dX2_isInvited_61 : decode cX2_isInvited 61 = .ok (.iload 4, 2) := dk_21 4 (dk_at dksX2_isInvited_2 14 rfl rfl)
theorem dX2_isInvited_63 : decode cX2_isInvited 63 = .ok (.ifCond .eq 7, 3) := dk_153 0 7 (dk_at dksX2_isInvited_2 16 rfl rfl)
theorem dX2_isInvited_66 : decode cX2_isInvited 66 = .ok (.iconst 3, 1) := dk_6 (dk_at dksX2_isInvited_2 19 rfl rfl)
theorem dX2_isInvited_67 : decode cX2_isInvited 67 = .ok (.goto 4, 3) := dk_167 0 4 (dk_at dksX2_isInvited_2 20 rfl rfl)
theorem dX2_isInvited_70 : decode cX2_isInvited 70 = .ok (.iconst 4, 1) := dk_7 (dk_at dksX2_isInvited_2 23 rfl rfl)
theorem dX2_isInvited_71 : decode cX2_isInvited 71 = .ok (.invokevirtual 269, 3) := dk_182 1 13 (dk_at dksX2_isInvited_3 0 rfl rfl)
theorem dX2_isInvited_74 : decode cX2_isInvited 74 = .ok (.aload_n 0, 1) := dk_42 (dk_at dksX2_isInvited_3 3 rfl rfl)
theorem dX2_isInvited_75 : decode cX2_isInvited 75 = .ok (.getfield 31, 3) := dk_180 0 31 (dk_at dksX2_isInvited_3 4 rfl rfl)
theorem dX2_isInvited_78 : decode cX2_isInvited 78 = .ok (.new 272, 3) := dk_187 1 16 (dk_at dksX2_isInvited_3 7 rfl rfl)
theorem dX2_isInvited_81 : decode cX2_isInvited 81 = .ok (.dup, 1) := dk_89 (dk_at dksX2_isInvited_3 10 rfl rfl)
theorem dX2_isInvited_82 : decode cX2_isInvited 82 = .ok (.iload_n 1, 1) := dk_27 (dk_at dksX2_isInvited_3 11 rfl rfl)
theorem dX2_isInvited_83 : decode cX2_isInvited 83 = .ok (.iload_n 2, 1) := dk_28 (dk_at dksX2_isInvited_3 12 rfl rfl)
theorem dX2_isInvited_84 : decode cX2_isInvited 84 = .ok (.aload_n 0, 1) := dk_42 (dk_at dksX2_isInvited_3 13 rfl rfl)
theorem dX2_isInvited_85 : decode cX2_isInvited 85 = .ok (.iload_n 1, 1) := dk_27 (dk_at dksX2_isInvited_3 14 rfl rfl)
theorem dX2_isInvited_86 : decode cX2_isInvited 86 = .ok (.invokevirtual 195, 3) := dk_182 0 195 (dk_at dksX2_isInvited_3 15 rfl rfl)
theorem dX2_isInvited_89 : decode cX2_isInvited 89 = .ok (.iload 4, 2) := dk_21 4 (dk_at dksX2_isInvited_3 18 rfl rfl)
theorem dX2_isInvited_91 : decode cX2_isInvited 91 = .ok (.invokespecial 274, 3) := dk_183 1 18 (dk_at dksX2_isInvited_3 20 rfl rfl)
theorem dX2_isInvited_94 : decode cX2_isInvited 94 = .ok (.invokevirtual 200, 3) := dk_182 0 200 (dk_at dksX2_isInvited_4 0 rfl rfl)
theorem dX2_isInvited_97 : decode cX2_isInvited 97 = .ok (.pop, 1) := dk_87 (dk_at dksX2_isInvited_4 3 rfl rfl)
theorem dX2_isInvited_98 : decode cX2_isInvited 98 = .ok (.return_, 1) := dk_177 (dk_at dksX2_isInvited_4 4 rfl rfl)
abbrev cX2_losesPatience : ByteArray := prog_14_method_38_code
def dkwX2_losesPatience_3 : List UInt8 := [167, 255, 190, 177]
abbrev dktX2_losesPatience_3 : List UInt8 := dkwX2_losesPatience_3 ++ []
def dkwX2_losesPatience_2 : List UInt8 := [182, 1, 87, 100, 16, 12, 161, 0, 15, 42, 27, 6, 182, 0, 212, 42, 27, 182, 0, 215, 87, 132, 1, 1]
abbrev dktX2_losesPatience_2 : List UInt8 := dkwX2_losesPatience_2 ++ dktX2_losesPatience_3
def dkwX2_losesPatience_1 : List UInt8 := [154, 0, 49, 42, 27, 182, 0, 119, 77, 44, 182, 0, 123, 4, 160, 0, 29, 42, 180, 0, 75, 44]
abbrev dktX2_losesPatience_1 : List UInt8 := dkwX2_losesPatience_1 ++ dktX2_losesPatience_2
def dkwX2_losesPatience_0 : List UInt8 := [3, 60, 27, 42, 180, 0, 18, 185, 0, 100, 1, 0, 162, 0, 59, 42, 180, 0, 24, 182, 0, 170]
abbrev dktX2_losesPatience_0 : List UInt8 := dkwX2_losesPatience_0 ++ dktX2_losesPatience_1
theorem dksX2_losesPatience_0 : cX2_losesPatience.data.toList.drop 0 = dktX2_losesPatience_0 := by decide +kernel
theorem dksX2_losesPatience_1 : cX2_losesPatience.data.toList.drop 22 = dktX2_losesPatience_1 := dk_seg dksX2_losesPatience_0 22 rfl rfl
theorem dksX2_losesPatience_2 : cX2_losesPatience.data.toList.drop 44 = dktX2_losesPatience_2 := dk_seg dksX2_losesPatience_1 22 rfl rfl
theorem dksX2_losesPatience_3 : cX2_losesPatience.data.toList.drop 68 = dktX2_losesPatience_3 := dk_seg dksX2_losesPatience_2 24 rfl rfl
theorem dX2_losesPatience_0 : decode cX2_losesPatience 0 = .ok (.iconst 0, 1) := dk_3 (dk_at dksX2_losesPatience_0 0 rfl rfl)
theorem dX2_losesPatience_1 : decode cX2_losesPatience 1 = .ok (.istore_n 1, 1) := dk_60 (dk_at dksX2_losesPatience_0 1 rfl rfl)
theorem dX2_losesPatience_2 : decode cX2_losesPatience 2 = .ok (.iload_n 1, 1) := dk_27 (dk_at dksX2_losesPatience_0 2 rfl rfl)
theorem dX2_losesPatience_3 : decode cX2_losesPatience 3 = .ok (.aload_n 0, 1) := dk_42 (dk_at dksX2_losesPatience_0 3 rfl rfl)
theorem dX2_losesPatience_4 : decode cX2_losesPatience 4 = .ok (.getfield 18, 3) := dk_180 0 18 (dk_at dksX2_losesPatience_0 4 rfl rfl)
theorem dX2_losesPatience_7 : decode cX2_losesPatience 7 = .ok (.invokeinterface 100 1, 5) := by decide +kernel
theorem dX2_losesPatience_12 : decode cX2_losesPatience 12 = .ok (.if_icmp .ge 59, 3) := dk_162 0 59 (dk_at dksX2_losesPatience_0 12 rfl rfl)
theorem dX2_losesPatience_15 : decode cX2_losesPatience 15 = .ok (.aload_n 0, 1) := dk_42 (dk_at dksX2_losesPatience_0 15 rfl rfl)
theorem dX2_losesPatience_16 : decode cX2_losesPatience 16 = .ok (.getfield 24, 3) := dk_180 0 24 (dk_at dksX2_losesPatience_0 16 rfl rfl)
theorem dX2_losesPatience_19 : decode cX2_losesPatience 19 = .ok (.invokevirtual 170, 3) := dk_182 0 170 (dk_at dksX2_losesPatience_0 19 rfl rfl)
theorem dX2_losesPatience_22 : decode cX2_losesPatience 22 = .ok (.ifCond .ne 49, 3) := dk_154 0 49 (dk_at dksX2_losesPatience_1 0 rfl rfl)
theorem dX2_losesPatience_25 : decode cX2_losesPatience 25 = .ok (.aload_n 0, 1) := dk_42 (dk_at dksX2_losesPatience_1 3 rfl rfl)
theorem dX2_losesPatience_26 : decode cX2_losesPatience 26 = .ok (.iload_n 1, 1) := dk_27 (dk_at dksX2_losesPatience_1 4 rfl rfl)
theorem dX2_losesPatience_27 : decode cX2_losesPatience 27 = .ok (.invokevirtual 119, 3) := dk_182 0 119 (dk_at dksX2_losesPatience_1 5 rfl rfl)
theorem dX2_losesPatience_30 : decode cX2_losesPatience 30 = .ok (.astore_n 2, 1) := dk_77 (dk_at dksX2_losesPatience_1 8 rfl rfl)
theorem dX2_losesPatience_31 : decode cX2_losesPatience 31 = .ok (.aload_n 2, 1) := dk_44 (dk_at dksX2_losesPatience_1 9 rfl rfl)
theorem dX2_losesPatience_32 : decode cX2_losesPatience 32 = .ok (.invokevirtual 123, 3) := dk_182 0 123 (dk_at dksX2_losesPatience_1 10 rfl rfl)
theorem dX2_losesPatience_35 : decode cX2_losesPatience 35 = .ok (.iconst 1, 1) := dk_4 (dk_at dksX2_losesPatience_1 13 rfl rfl)
theorem dX2_losesPatience_36 : decode cX2_losesPatience 36 = .ok (.if_icmp .ne 29, 3) := dk_160 0 29 (dk_at dksX2_losesPatience_1 14 rfl rfl)
theorem dX2_losesPatience_39 : decode cX2_losesPatience 39 = .ok (.aload_n 0, 1) := dk_42 (dk_at dksX2_losesPatience_1 17 rfl rfl)
theorem dX2_losesPatience_40 : decode cX2_losesPatience 40 = .ok (.getfield 75, 3) := dk_180 0 75 (dk_at dksX2_losesPatience_1 18 rfl rfl)
theorem dX2_losesPatience_43 : decode cX2_losesPatience 43 = .ok (.aload_n 2, 1) := dk_44 (dk_at dksX2_losesPatience_1 21 rfl rfl)
theorem dX2_losesPatience_44 : decode cX2_losesPatience 44 = .ok (.invokevirtual 343, 3) := dk_182 1 87 (dk_at dksX2_losesPatience_2 0 rfl rfl)
theorem dX2_losesPatience_47 : decode cX2_losesPatience 47 = .ok (.isub, 1) := dk_100 (dk_at dksX2_losesPatience_2 3 rfl rfl)
theorem dX2_losesPatience_48 : decode cX2_losesPatience 48 = .ok (.bipush 12, 2) := dk_16 12 (dk_at dksX2_losesPatience_2 4 rfl rfl)
theorem dX2_losesPatience_50 : decode cX2_losesPatience 50 = .ok (.if_icmp .lt 15, 3) := dk_161 0 15 (dk_at dksX2_losesPatience_2 6 rfl rfl)
theorem dX2_losesPatience_53 : decode cX2_losesPatience 53 = .ok (.aload_n 0, 1) := dk_42 (dk_at dksX2_losesPatience_2 9 rfl rfl)
theorem dX2_losesPatience_54 : decode cX2_losesPatience 54 = .ok (.iload_n 1, 1) := dk_27 (dk_at dksX2_losesPatience_2 10 rfl rfl)
theorem dX2_losesPatience_55 : decode cX2_losesPatience 55 = .ok (.iconst 3, 1) := dk_6 (dk_at dksX2_losesPatience_2 11 rfl rfl)
theorem dX2_losesPatience_56 : decode cX2_losesPatience 56 = .ok (.invokevirtual 212, 3) := dk_182 0 212 (dk_at dksX2_losesPatience_2 12 rfl rfl)
theorem dX2_losesPatience_59 : decode cX2_losesPatience 59 = .ok (.aload_n 0, 1) := dk_42 (dk_at dksX2_losesPatience_2 15 rfl rfl)
theorem dX2_losesPatience_60 : decode cX2_losesPatience 60 = .ok (.iload_n 1, 1) := dk_27 (dk_at dksX2_losesPatience_2 16 rfl rfl)
theorem dX2_losesPatience_61 : decode cX2_losesPatience 61 = .ok (.invokevirtual 215, 3) := dk_182 0 215 (dk_at dksX2_losesPatience_2 17 rfl rfl)
theorem dX2_losesPatience_64 : decode cX2_losesPatience 64 = .ok (.pop, 1) := dk_87 (dk_at dksX2_losesPatience_2 20 rfl rfl)
theorem dX2_losesPatience_65 : decode cX2_losesPatience 65 = .ok (.iinc 1 1, 3) := dk_132 1 1 (dk_at dksX2_losesPatience_2 21 rfl rfl)
theorem dX2_losesPatience_68 : decode cX2_losesPatience 68 = .ok (.goto (-66), 3) := dk_167 255 190 (dk_at dksX2_losesPatience_3 0 rfl rfl)
theorem dX2_losesPatience_71 : decode cX2_losesPatience 71 = .ok (.return_, 1) := dk_177 (dk_at dksX2_losesPatience_3 3 rfl rfl)
abbrev cX2_allAsk : ByteArray := prog_14_method_40_code
def dkwX2_allAsk_3 : List UInt8 := [167, 255, 207, 132, 1, 1, 167, 255, 186, 177]
abbrev dktX2_allAsk_3 : List UInt8 := dkwX2_allAsk_3 ++ []
def dkwX2_allAsk_2 : List UInt8 := [182, 0, 119, 27, 182, 0, 126, 182, 1, 93, 153, 0, 9, 42, 27, 28, 182, 0, 236, 132, 2, 1]
abbrev dktX2_allAsk_2 : List UInt8 := dkwX2_allAsk_2 ++ dktX2_allAsk_3
def dkwX2_allAsk_1 : List UInt8 := [185, 0, 100, 1, 0, 162, 0, 42, 42, 27, 182, 0, 86, 182, 0, 218, 154, 0, 31, 42, 42, 28]
abbrev dktX2_allAsk_1 : List UInt8 := dkwX2_allAsk_1 ++ dktX2_allAsk_2
def dkwX2_allAsk_0 : List UInt8 := [3, 60, 27, 42, 180, 0, 12, 185, 0, 100, 1, 0, 162, 0, 63, 3, 61, 28, 42, 180, 0, 18]
abbrev dktX2_allAsk_0 : List UInt8 := dkwX2_allAsk_0 ++ dktX2_allAsk_1
theorem dksX2_allAsk_0 : cX2_allAsk.data.toList.drop 0 = dktX2_allAsk_0 := by decide +kernel
theorem dksX2_allAsk_1 : cX2_allAsk.data.toList.drop 22 = dktX2_allAsk_1 := dk_seg dksX2_allAsk_0 22 rfl rfl
theorem dksX2_allAsk_2 : cX2_allAsk.data.toList.drop 44 = dktX2_allAsk_2 := dk_seg dksX2_allAsk_1 22 rfl rfl
theorem dksX2_allAsk_3 : cX2_allAsk.data.toList.drop 66 = dktX2_allAsk_3 := dk_seg dksX2_allAsk_2 22 rfl rfl
theorem dX2_allAsk_0 : decode cX2_allAsk 0 = .ok (.iconst 0, 1) := dk_3 (dk_at dksX2_allAsk_0 0 rfl rfl)
theorem dX2_allAsk_1 : decode cX2_allAsk 1 = .ok (.istore_n 1, 1) := dk_60 (dk_at dksX2_allAsk_0 1 rfl rfl)
theorem dX2_allAsk_2 : decode cX2_allAsk 2 = .ok (.iload_n 1, 1) := dk_27 (dk_at dksX2_allAsk_0 2 rfl rfl)
theorem dX2_allAsk_3 : decode cX2_allAsk 3 = .ok (.aload_n 0, 1) := dk_42 (dk_at dksX2_allAsk_0 3 rfl rfl)
theorem dX2_allAsk_4 : decode cX2_allAsk 4 = .ok (.getfield 12, 3) := dk_180 0 12 (dk_at dksX2_allAsk_0 4 rfl rfl)
theorem dX2_allAsk_7 : decode cX2_allAsk 7 = .ok (.invokeinterface 100 1, 5) := by decide +kernel
theorem dX2_allAsk_12 : decode cX2_allAsk 12 = .ok (.if_icmp .ge 63, 3) := dk_162 0 63 (dk_at dksX2_allAsk_0 12 rfl rfl)
theorem dX2_allAsk_15 : decode cX2_allAsk 15 = .ok (.iconst 0, 1) := dk_3 (dk_at dksX2_allAsk_0 15 rfl rfl)
theorem dX2_allAsk_16 : decode cX2_allAsk 16 = .ok (.istore_n 2, 1) := dk_61 (dk_at dksX2_allAsk_0 16 rfl rfl)
theorem dX2_allAsk_17 : decode cX2_allAsk 17 = .ok (.iload_n 2, 1) := dk_28 (dk_at dksX2_allAsk_0 17 rfl rfl)
theorem dX2_allAsk_18 : decode cX2_allAsk 18 = .ok (.aload_n 0, 1) := dk_42 (dk_at dksX2_allAsk_0 18 rfl rfl)
theorem dX2_allAsk_19 : decode cX2_allAsk 19 = .ok (.getfield 18, 3) := dk_180 0 18 (dk_at dksX2_allAsk_0 19 rfl rfl)
theorem dX2_allAsk_22 : decode cX2_allAsk 22 = .ok (.invokeinterface 100 1, 5) := by decide +kernel
theorem dX2_allAsk_27 : decode cX2_allAsk 27 = .ok (.if_icmp .ge 42, 3) := dk_162 0 42 (dk_at dksX2_allAsk_1 5 rfl rfl)
theorem dX2_allAsk_30 : decode cX2_allAsk 30 = .ok (.aload_n 0, 1) := dk_42 (dk_at dksX2_allAsk_1 8 rfl rfl)
theorem dX2_allAsk_31 : decode cX2_allAsk 31 = .ok (.iload_n 1, 1) := dk_27 (dk_at dksX2_allAsk_1 9 rfl rfl)
theorem dX2_allAsk_32 : decode cX2_allAsk 32 = .ok (.invokevirtual 86, 3) := dk_182 0 86 (dk_at dksX2_allAsk_1 10 rfl rfl)
theorem dX2_allAsk_35 : decode cX2_allAsk 35 = .ok (.invokevirtual 218, 3) := dk_182 0 218 (dk_at dksX2_allAsk_1 13 rfl rfl)
theorem dX2_allAsk_38 : decode cX2_allAsk 38 = .ok (.ifCond .ne 31, 3) := dk_154 0 31 (dk_at dksX2_allAsk_1 16 rfl rfl)
theorem dX2_allAsk_41 : decode cX2_allAsk 41 = .ok (.aload_n 0, 1) := dk_42 (dk_at dksX2_allAsk_1 19 rfl rfl)
theorem dX2_allAsk_42 : decode cX2_allAsk 42 = .ok (.aload_n 0, 1) := dk_42 (dk_at dksX2_allAsk_1 20 rfl rfl)
theorem dX2_allAsk_43 : decode cX2_allAsk 43 = .ok (.iload_n 2, 1) := dk_28 (dk_at dksX2_allAsk_1 21 rfl rfl)
theorem dX2_allAsk_44 : decode cX2_allAsk 44 = .ok (.invokevirtual 119, 3) := dk_182 0 119 (dk_at dksX2_allAsk_2 0 rfl rfl)
theorem dX2_allAsk_47 : decode cX2_allAsk 47 = .ok (.iload_n 1, 1) := dk_27 (dk_at dksX2_allAsk_2 3 rfl rfl)
theorem dX2_allAsk_48 : decode cX2_allAsk 48 = .ok (.invokevirtual 126, 3) := dk_182 0 126 (dk_at dksX2_allAsk_2 4 rfl rfl)
theorem dX2_allAsk_51 : decode cX2_allAsk 51 = .ok (.invokevirtual 349, 3) := dk_182 1 93 (dk_at dksX2_allAsk_2 7 rfl rfl)
theorem dX2_allAsk_54 : decode cX2_allAsk 54 = .ok (.ifCond .eq 9, 3) := dk_153 0 9 (dk_at dksX2_allAsk_2 10 rfl rfl)
theorem dX2_allAsk_57 : decode cX2_allAsk 57 = .ok (.aload_n 0, 1) := dk_42 (dk_at dksX2_allAsk_2 13 rfl rfl)
theorem dX2_allAsk_58 : decode cX2_allAsk 58 = .ok (.iload_n 1, 1) := dk_27 (dk_at dksX2_allAsk_2 14 rfl rfl)
theorem dX2_allAsk_59 : decode cX2_allAsk 59 = .ok (.iload_n 2, 1) := dk_28 (dk_at dksX2_allAsk_2 15 rfl rfl)
theorem dX2_allAsk_60 : decode cX2_allAsk 60 = .ok (.invokevirtual 236, 3) := dk_182 0 236 (dk_at dksX2_allAsk_2 16 rfl rfl)
theorem dX2_allAsk_63 : decode cX2_allAsk 63 = .ok (.iinc 2 1, 3) := dk_132 2 1 (dk_at dksX2_allAsk_2 19 rfl rfl)
theorem dX2_allAsk_66 : decode cX2_allAsk 66 = .ok (.goto (-49), 3) := dk_167 255 207 (dk_at dksX2_allAsk_3 0 rfl rfl)
theorem dX2_allAsk_69 : decode cX2_allAsk 69 = .ok (.iinc 1 1, 3) := dk_132 1 1 (dk_at dksX2_allAsk_3 3 rfl rfl)
theorem dX2_allAsk_72 : decode cX2_allAsk 72 = .ok (.goto (-70), 3) := dk_167 255 186 (dk_at dksX2_allAsk_3 6 rfl rfl)
theorem dX2_allAsk_75 : decode cX2_allAsk 75 = .ok (.return_, 1) := dk_177 (dk_at dksX2_allAsk_3 9 rfl rfl)
abbrev cX2_isLongInDoubt : ByteArray := prog_14_method_39_code
def dkwX2_isLongInDoubt_1 : List UInt8 := [180, 0, 75, 43, 182, 1, 90, 100, 16, 8, 112, 154, 0, 7, 4, 167, 0, 4, 3, 172]
abbrev dktX2_isLongInDoubt_1 : List UInt8 := dkwX2_isLongInDoubt_1 ++ []
def dkwX2_isLongInDoubt_0 : List UInt8 := [43, 198, 0, 40, 43, 182, 0, 154, 153, 0, 33, 42, 180, 0, 75, 43, 182, 1, 90, 164, 0, 22, 42]
abbrev dktX2_isLongInDoubt_0 : List UInt8 := dkwX2_isLongInDoubt_0 ++ dktX2_isLongInDoubt_1
theorem dksX2_isLongInDoubt_0 : cX2_isLongInDoubt.data.toList.drop 0 = dktX2_isLongInDoubt_0 := by decide +kernel
theorem dksX2_isLongInDoubt_1 : cX2_isLongInDoubt.data.toList.drop 23 = dktX2_isLongInDoubt_1 := dk_seg dksX2_isLongInDoubt_0 23 rfl rfl
theorem dX2_isLongInDoubt_0 : decode cX2_isLongInDoubt 0 = .ok (.aload_n 1, 1) := dk_43 (dk_at dksX2_isLongInDoubt_0 0 rfl rfl)
theorem dX2_isLongInDoubt_1 : decode cX2_isLongInDoubt 1 = .ok (.ifnull 40, 3) := dk_198 0 40 (dk_at dksX2_isLongInDoubt_0 1 rfl rfl)
theorem dX2_isLongInDoubt_4 : decode cX2_isLongInDoubt 4 = .ok (.aload_n 1, 1) := dk_43 (dk_at dksX2_isLongInDoubt_0 4 rfl rfl)
theorem dX2_isLongInDoubt_5 : decode cX2_isLongInDoubt 5 = .ok (.invokevirtual 154, 3) := dk_182 0 154 (dk_at dksX2_isLongInDoubt_0 5 rfl rfl)
theorem dX2_isLongInDoubt_8 : decode cX2_isLongInDoubt 8 = .ok (.ifCond .eq 33, 3) := dk_153 0 33 (dk_at dksX2_isLongInDoubt_0 8 rfl rfl)
theorem dX2_isLongInDoubt_11 : decode cX2_isLongInDoubt 11 = .ok (.aload_n 0, 1) := dk_42 (dk_at dksX2_isLongInDoubt_0 11 rfl rfl)
theorem dX2_isLongInDoubt_12 : decode cX2_isLongInDoubt 12 = .ok (.getfield 75, 3) := dk_180 0 75 (dk_at dksX2_isLongInDoubt_0 12 rfl rfl)
theorem dX2_isLongInDoubt_15 : decode cX2_isLongInDoubt 15 = .ok (.aload_n 1, 1) := dk_43 (dk_at dksX2_isLongInDoubt_0 15 rfl rfl)
theorem dX2_isLongInDoubt_16 : decode cX2_isLongInDoubt 16 = .ok (.invokevirtual 346, 3) := dk_182 1 90 (dk_at dksX2_isLongInDoubt_0 16 rfl rfl)
theorem dX2_isLongInDoubt_19 : decode cX2_isLongInDoubt 19 = .ok (.if_icmp .le 22, 3) := dk_164 0 22 (dk_at dksX2_isLongInDoubt_0 19 rfl rfl)
theorem dX2_isLongInDoubt_22 : decode cX2_isLongInDoubt 22 = .ok (.aload_n 0, 1) := dk_42 (dk_at dksX2_isLongInDoubt_0 22 rfl rfl)
theorem dX2_isLongInDoubt_23 : decode cX2_isLongInDoubt 23 = .ok (.getfield 75, 3) := dk_180 0 75 (dk_at dksX2_isLongInDoubt_1 0 rfl rfl)
theorem dX2_isLongInDoubt_26 : decode cX2_isLongInDoubt 26 = .ok (.aload_n 1, 1) := dk_43 (dk_at dksX2_isLongInDoubt_1 3 rfl rfl)
theorem dX2_isLongInDoubt_27 : decode cX2_isLongInDoubt 27 = .ok (.invokevirtual 346, 3) := dk_182 1 90 (dk_at dksX2_isLongInDoubt_1 4 rfl rfl)
theorem dX2_isLongInDoubt_30 : decode cX2_isLongInDoubt 30 = .ok (.isub, 1) := dk_100 (dk_at dksX2_isLongInDoubt_1 7 rfl rfl)
theorem dX2_isLongInDoubt_31 : decode cX2_isLongInDoubt 31 = .ok (.bipush 8, 2) := dk_16 8 (dk_at dksX2_isLongInDoubt_1 8 rfl rfl)
theorem dX2_isLongInDoubt_33 : decode cX2_isLongInDoubt 33 = .ok (.irem, 1) := dk_112 (dk_at dksX2_isLongInDoubt_1 10 rfl rfl)
theorem dX2_isLongInDoubt_34 : decode cX2_isLongInDoubt 34 = .ok (.ifCond .ne 7, 3) := dk_154 0 7 (dk_at dksX2_isLongInDoubt_1 11 rfl rfl)
theorem dX2_isLongInDoubt_37 : decode cX2_isLongInDoubt 37 = .ok (.iconst 1, 1) := dk_4 (dk_at dksX2_isLongInDoubt_1 14 rfl rfl)
theorem dX2_isLongInDoubt_38 : decode cX2_isLongInDoubt 38 = .ok (.goto 4, 3) := dk_167 0 4 (dk_at dksX2_isLongInDoubt_1 15 rfl rfl)
theorem dX2_isLongInDoubt_41 : decode cX2_isLongInDoubt 41 = .ok (.iconst 0, 1) := dk_3 (dk_at dksX2_isLongInDoubt_1 18 rfl rfl)
theorem dX2_isLongInDoubt_42 : decode cX2_isLongInDoubt 42 = .ok (.ireturn, 1) := dk_172 (dk_at dksX2_isLongInDoubt_1 19 rfl rfl)
abbrev cX2_clearIn : ByteArray := prog_14_method_43_code
def dkwX2_clearIn_2 : List UInt8 := [182, 1, 115, 158, 0, 7, 2, 167, 0, 4, 29, 172]
abbrev dktX2_clearIn_2 : List UInt8 := dkwX2_clearIn_2 ++ []
def dkwX2_clearIn_1 : List UInt8 := [158, 0, 15, 44, 4, 182, 1, 118, 87, 132, 3, 1, 167, 255, 227, 44, 27, 182, 0, 119, 178, 1, 7]
abbrev dktX2_clearIn_1 : List UInt8 := dkwX2_clearIn_1 ++ dktX2_clearIn_2
def dkwX2_clearIn_0 : List UInt8 := [42, 182, 1, 112, 77, 3, 62, 29, 16, 60, 162, 0, 29, 44, 27, 182, 0, 119, 178, 1, 7, 182, 1, 115]
abbrev dktX2_clearIn_0 : List UInt8 := dkwX2_clearIn_0 ++ dktX2_clearIn_1
theorem dksX2_clearIn_0 : cX2_clearIn.data.toList.drop 0 = dktX2_clearIn_0 := by decide +kernel
theorem dksX2_clearIn_1 : cX2_clearIn.data.toList.drop 24 = dktX2_clearIn_1 := dk_seg dksX2_clearIn_0 24 rfl rfl
theorem dksX2_clearIn_2 : cX2_clearIn.data.toList.drop 47 = dktX2_clearIn_2 := dk_seg dksX2_clearIn_1 23 rfl rfl
theorem dX2_clearIn_0 : decode cX2_clearIn 0 = .ok (.aload_n 0, 1) := dk_42 (dk_at dksX2_clearIn_0 0 rfl rfl)
theorem dX2_clearIn_1 : decode cX2_clearIn 1 = .ok (.invokevirtual 368, 3) := dk_182 1 112 (dk_at dksX2_clearIn_0 1 rfl rfl)
theorem dX2_clearIn_4 : decode cX2_clearIn 4 = .ok (.astore_n 2, 1) := dk_77 (dk_at dksX2_clearIn_0 4 rfl rfl)
theorem dX2_clearIn_5 : decode cX2_clearIn 5 = .ok (.iconst 0, 1) := dk_3 (dk_at dksX2_clearIn_0 5 rfl rfl)
theorem dX2_clearIn_6 : decode cX2_clearIn 6 = .ok (.istore_n 3, 1) := dk_62 (dk_at dksX2_clearIn_0 6 rfl rfl)
theorem dX2_clearIn_7 : decode cX2_clearIn 7 = .ok (.iload_n 3, 1) := dk_29 (dk_at dksX2_clearIn_0 7 rfl rfl)
theorem dX2_clearIn_8 : decode cX2_clearIn 8 = .ok (.bipush 60, 2) := dk_16 60 (dk_at dksX2_clearIn_0 8 rfl rfl)
theorem dX2_clearIn_10 : decode cX2_clearIn 10 = .ok (.if_icmp .ge 29, 3) := dk_162 0 29 (dk_at dksX2_clearIn_0 10 rfl rfl)
theorem dX2_clearIn_13 : decode cX2_clearIn 13 = .ok (.aload_n 2, 1) := dk_44 (dk_at dksX2_clearIn_0 13 rfl rfl)
theorem dX2_clearIn_14 : decode cX2_clearIn 14 = .ok (.iload_n 1, 1) := dk_27 (dk_at dksX2_clearIn_0 14 rfl rfl)
theorem dX2_clearIn_15 : decode cX2_clearIn 15 = .ok (.invokevirtual 119, 3) := dk_182 0 119 (dk_at dksX2_clearIn_0 15 rfl rfl)
theorem dX2_clearIn_18 : decode cX2_clearIn 18 = .ok (.getstatic 263, 3) := dk_178 1 7 (dk_at dksX2_clearIn_0 18 rfl rfl)
theorem dX2_clearIn_21 : decode cX2_clearIn 21 = .ok (.invokevirtual 371, 3) := dk_182 1 115 (dk_at dksX2_clearIn_0 21 rfl rfl)
theorem dX2_clearIn_24 : decode cX2_clearIn 24 = .ok (.ifCond .le 15, 3) := dk_158 0 15 (dk_at dksX2_clearIn_1 0 rfl rfl)
theorem dX2_clearIn_27 : decode cX2_clearIn 27 = .ok (.aload_n 2, 1) := dk_44 (dk_at dksX2_clearIn_1 3 rfl rfl)
theorem dX2_clearIn_28 : decode cX2_clearIn 28 = .ok (.iconst 1, 1) := dk_4 (dk_at dksX2_clearIn_1 4 rfl rfl)
theorem dX2_clearIn_29 : decode cX2_clearIn 29 = .ok (.invokevirtual 374, 3) := dk_182 1 118 (dk_at dksX2_clearIn_1 5 rfl rfl)
theorem dX2_clearIn_32 : decode cX2_clearIn 32 = .ok (.pop, 1) := dk_87 (dk_at dksX2_clearIn_1 8 rfl rfl)
theorem dX2_clearIn_33 : decode cX2_clearIn 33 = .ok (.iinc 3 1, 3) := dk_132 3 1 (dk_at dksX2_clearIn_1 9 rfl rfl)
theorem dX2_clearIn_36 : decode cX2_clearIn 36 = .ok (.goto (-29), 3) := dk_167 255 227 (dk_at dksX2_clearIn_1 12 rfl rfl)
theorem dX2_clearIn_39 : decode cX2_clearIn 39 = .ok (.aload_n 2, 1) := dk_44 (dk_at dksX2_clearIn_1 15 rfl rfl)
theorem dX2_clearIn_40 : decode cX2_clearIn 40 = .ok (.iload_n 1, 1) := dk_27 (dk_at dksX2_clearIn_1 16 rfl rfl)
theorem dX2_clearIn_41 : decode cX2_clearIn 41 = .ok (.invokevirtual 119, 3) := dk_182 0 119 (dk_at dksX2_clearIn_1 17 rfl rfl)
theorem dX2_clearIn_44 : decode cX2_clearIn 44 = .ok (.getstatic 263, 3) := dk_178 1 7 (dk_at dksX2_clearIn_1 20 rfl rfl)
theorem dX2_clearIn_47 : decode cX2_clearIn 47 = .ok (.invokevirtual 371, 3) := dk_182 1 115 (dk_at dksX2_clearIn_2 0 rfl rfl)
theorem dX2_clearIn_50 : decode cX2_clearIn 50 = .ok (.ifCond .le 7, 3) := dk_158 0 7 (dk_at dksX2_clearIn_2 3 rfl rfl)
theorem dX2_clearIn_53 : decode cX2_clearIn 53 = .ok (.iconst (-1), 1) := dk_2 (dk_at dksX2_clearIn_2 6 rfl rfl)
theorem dX2_clearIn_54 : decode cX2_clearIn 54 = .ok (.goto 4, 3) := dk_167 0 4 (dk_at dksX2_clearIn_2 7 rfl rfl)
theorem dX2_clearIn_57 : decode cX2_clearIn 57 = .ok (.iload_n 3, 1) := dk_29 (dk_at dksX2_clearIn_2 10 rfl rfl)
theorem dX2_clearIn_58 : decode cX2_clearIn 58 = .ok (.ireturn, 1) := dk_172 (dk_at dksX2_clearIn_2 11 rfl rfl)
abbrev cX2_onWay : ByteArray := prog_14_method_10_code
def dkwX2_onWay_4 : List UInt8 := [167, 255, 208, 43, 21, 4, 45, 182, 0, 97, 167, 255, 170, 43, 176]
abbrev dktX2_onWay_4 : List UInt8 := dkwX2_onWay_4 ++ []
def dkwX2_onWay_3 : List UInt8 := [185, 0, 93, 1, 0, 45, 185, 0, 93, 1, 0, 163, 0, 7, 4, 167, 0, 4, 3, 96, 54, 4]
abbrev dktX2_onWay_3 : List UInt8 := dkwX2_onWay_3 ++ dktX2_onWay_4
def dkwX2_onWay_2 : List UInt8 := [185, 0, 42, 1, 0, 153, 0, 44, 25, 5, 185, 0, 48, 1, 0, 192, 0, 91, 58, 6, 21, 4, 25, 6]
abbrev dktX2_onWay_2 : List UInt8 := dkwX2_onWay_2 ++ dktX2_onWay_3
def dkwX2_onWay_1 : List UInt8 := [153, 0, 83, 44, 185, 0, 48, 1, 0, 192, 0, 91, 78, 3, 54, 4, 43, 182, 0, 90, 58, 5, 25, 5]
abbrev dktX2_onWay_1 : List UInt8 := dkwX2_onWay_1 ++ dktX2_onWay_2
def dkwX2_onWay_0 : List UInt8 := [187, 0, 28, 89, 183, 0, 30, 76, 42, 180, 0, 31, 182, 0, 90, 77, 44, 185, 0, 42, 1, 0]
abbrev dktX2_onWay_0 : List UInt8 := dkwX2_onWay_0 ++ dktX2_onWay_1
theorem dksX2_onWay_0 : cX2_onWay.data.toList.drop 0 = dktX2_onWay_0 := by decide +kernel
theorem dksX2_onWay_1 : cX2_onWay.data.toList.drop 22 = dktX2_onWay_1 := dk_seg dksX2_onWay_0 22 rfl rfl
theorem dksX2_onWay_2 : cX2_onWay.data.toList.drop 46 = dktX2_onWay_2 := dk_seg dksX2_onWay_1 24 rfl rfl
theorem dksX2_onWay_3 : cX2_onWay.data.toList.drop 70 = dktX2_onWay_3 := dk_seg dksX2_onWay_2 24 rfl rfl
theorem dksX2_onWay_4 : cX2_onWay.data.toList.drop 92 = dktX2_onWay_4 := dk_seg dksX2_onWay_3 22 rfl rfl
theorem dX2_onWay_0 : decode cX2_onWay 0 = .ok (.new 28, 3) := dk_187 0 28 (dk_at dksX2_onWay_0 0 rfl rfl)
theorem dX2_onWay_3 : decode cX2_onWay 3 = .ok (.dup, 1) := dk_89 (dk_at dksX2_onWay_0 3 rfl rfl)
theorem dX2_onWay_4 : decode cX2_onWay 4 = .ok (.invokespecial 30, 3) := dk_183 0 30 (dk_at dksX2_onWay_0 4 rfl rfl)
theorem dX2_onWay_7 : decode cX2_onWay 7 = .ok (.astore_n 1, 1) := dk_76 (dk_at dksX2_onWay_0 7 rfl rfl)
theorem dX2_onWay_8 : decode cX2_onWay 8 = .ok (.aload_n 0, 1) := dk_42 (dk_at dksX2_onWay_0 8 rfl rfl)
theorem dX2_onWay_9 : decode cX2_onWay 9 = .ok (.getfield 31, 3) := dk_180 0 31 (dk_at dksX2_onWay_0 9 rfl rfl)
theorem dX2_onWay_12 : decode cX2_onWay 12 = .ok (.invokevirtual 90, 3) := dk_182 0 90 (dk_at dksX2_onWay_0 12 rfl rfl)
theorem dX2_onWay_15 : decode cX2_onWay 15 = .ok (.astore_n 2, 1) := dk_77 (dk_at dksX2_onWay_0 15 rfl rfl)
theorem dX2_onWay_16 : decode cX2_onWay 16 = .ok (.aload_n 2, 1) := dk_44 (dk_at dksX2_onWay_0 16 rfl rfl)
theorem dX2_onWay_17 : decode cX2_onWay 17 = .ok (.invokeinterface 42 1, 5) := by decide +kernel
theorem dX2_onWay_22 : decode cX2_onWay 22 = .ok (.ifCond .eq 83, 3) := dk_153 0 83 (dk_at dksX2_onWay_1 0 rfl rfl)
theorem dX2_onWay_25 : decode cX2_onWay 25 = .ok (.aload_n 2, 1) := dk_44 (dk_at dksX2_onWay_1 3 rfl rfl)
theorem dX2_onWay_26 : decode cX2_onWay 26 = .ok (.invokeinterface 48 1, 5) := by decide +kernel
theorem dX2_onWay_31 : decode cX2_onWay 31 = .ok (.checkcast 91, 3) := dk_192 0 91 (dk_at dksX2_onWay_1 9 rfl rfl)
theorem dX2_onWay_34 : decode cX2_onWay 34 = .ok (.astore_n 3, 1) := dk_78 (dk_at dksX2_onWay_1 12 rfl rfl)
theorem dX2_onWay_35 : decode cX2_onWay 35 = .ok (.iconst 0, 1) := dk_3 (dk_at dksX2_onWay_1 13 rfl rfl)
theorem dX2_onWay_36 : decode cX2_onWay 36 = .ok (.istore 4, 2) := dk_54 4 (dk_at dksX2_onWay_1 14 rfl rfl)
theorem dX2_onWay_38 : decode cX2_onWay 38 = .ok (.aload_n 1, 1) := dk_43 (dk_at dksX2_onWay_1 16 rfl rfl)
theorem dX2_onWay_39 : decode cX2_onWay 39 = .ok (.invokevirtual 90, 3) := dk_182 0 90 (dk_at dksX2_onWay_1 17 rfl rfl)
theorem dX2_onWay_42 : decode cX2_onWay 42 = .ok (.astore 5, 2) := dk_58 5 (dk_at dksX2_onWay_1 20 rfl rfl)
theorem dX2_onWay_44 : decode cX2_onWay 44 = .ok (.aload 5, 2) := dk_25 5 (dk_at dksX2_onWay_1 22 rfl rfl)
theorem dX2_onWay_46 : decode cX2_onWay 46 = .ok (.invokeinterface 42 1, 5) := by decide +kernel
theorem dX2_onWay_51 : decode cX2_onWay 51 = .ok (.ifCond .eq 44, 3) := dk_153 0 44 (dk_at dksX2_onWay_2 5 rfl rfl)
theorem dX2_onWay_54 : decode cX2_onWay 54 = .ok (.aload 5, 2) := dk_25 5 (dk_at dksX2_onWay_2 8 rfl rfl)
theorem dX2_onWay_56 : decode cX2_onWay 56 = .ok (.invokeinterface 48 1, 5) := by decide +kernel
theorem dX2_onWay_61 : decode cX2_onWay 61 = .ok (.checkcast 91, 3) := dk_192 0 91 (dk_at dksX2_onWay_2 15 rfl rfl)
theorem dX2_onWay_64 : decode cX2_onWay 64 = .ok (.astore 6, 2) := dk_58 6 (dk_at dksX2_onWay_2 18 rfl rfl)
theorem dX2_onWay_66 : decode cX2_onWay 66 = .ok (.iload 4, 2) := dk_21 4 (dk_at dksX2_onWay_2 20 rfl rfl)
theorem dX2_onWay_68 : decode cX2_onWay 68 = .ok (.aload 6, 2) := dk_25 6 (dk_at dksX2_onWay_2 22 rfl rfl)
theorem dX2_onWay_70 : decode cX2_onWay 70 = .ok (.invokeinterface 93 1, 5) := by decide +kernel
theorem dX2_onWay_75 : decode cX2_onWay 75 = .ok (.aload_n 3, 1) := dk_45 (dk_at dksX2_onWay_3 5 rfl rfl)
theorem dX2_onWay_76 : decode cX2_onWay 76 = .ok (.invokeinterface 93 1, 5) := by decide +kernel
theorem dX2_onWay_81 : decode cX2_onWay 81 = .ok (.if_icmp .gt 7, 3) := dk_163 0 7 (dk_at dksX2_onWay_3 11 rfl rfl)
theorem dX2_onWay_84 : decode cX2_onWay 84 = .ok (.iconst 1, 1) := dk_4 (dk_at dksX2_onWay_3 14 rfl rfl)
theorem dX2_onWay_85 : decode cX2_onWay 85 = .ok (.goto 4, 3) := dk_167 0 4 (dk_at dksX2_onWay_3 15 rfl rfl)
theorem dX2_onWay_88 : decode cX2_onWay 88 = .ok (.iconst 0, 1) := dk_3 (dk_at dksX2_onWay_3 18 rfl rfl)
theorem dX2_onWay_89 : decode cX2_onWay 89 = .ok (.iadd, 1) := dk_96 (dk_at dksX2_onWay_3 19 rfl rfl)
theorem dX2_onWay_90 : decode cX2_onWay 90 = .ok (.istore 4, 2) := dk_54 4 (dk_at dksX2_onWay_3 20 rfl rfl)
theorem dX2_onWay_92 : decode cX2_onWay 92 = .ok (.goto (-48), 3) := dk_167 255 208 (dk_at dksX2_onWay_4 0 rfl rfl)
theorem dX2_onWay_95 : decode cX2_onWay 95 = .ok (.aload_n 1, 1) := dk_43 (dk_at dksX2_onWay_4 3 rfl rfl)
theorem dX2_onWay_96 : decode cX2_onWay 96 = .ok (.iload 4, 2) := dk_21 4 (dk_at dksX2_onWay_4 4 rfl rfl)
theorem dX2_onWay_98 : decode cX2_onWay 98 = .ok (.aload_n 3, 1) := dk_45 (dk_at dksX2_onWay_4 6 rfl rfl)
theorem dX2_onWay_99 : decode cX2_onWay 99 = .ok (.invokevirtual 97, 3) := dk_182 0 97 (dk_at dksX2_onWay_4 7 rfl rfl)
theorem dX2_onWay_102 : decode cX2_onWay 102 = .ok (.goto (-86), 3) := dk_167 255 170 (dk_at dksX2_onWay_4 10 rfl rfl)
theorem dX2_onWay_105 : decode cX2_onWay 105 = .ok (.aload_n 1, 1) := dk_43 (dk_at dksX2_onWay_4 13 rfl rfl)
theorem dX2_onWay_106 : decode cX2_onWay 106 = .ok (.areturn, 1) := dk_176 (dk_at dksX2_onWay_4 14 rfl rfl)
abbrev cX2_ranked : ByteArray := prog_14_method_51_code
def dkwX2_ranked_3 : List UInt8 := [96, 62, 167, 255, 213, 43, 29, 28, 184, 0, 139, 182, 0, 97, 132, 2, 1, 167, 255, 177, 43, 176]
abbrev dktX2_ranked_3 : List UInt8 := dkwX2_ranked_3 ++ []
def dkwX2_ranked_2 : List UInt8 := [192, 0, 140, 182, 0, 190, 54, 5, 29, 42, 21, 5, 28, 182, 1, 127, 153, 0, 7, 4, 167, 0, 4, 3]
abbrev dktX2_ranked_2 : List UInt8 := dkwX2_ranked_2 ++ dktX2_ranked_3
def dkwX2_ranked_1 : List UInt8 := [62, 43, 182, 0, 90, 58, 4, 25, 4, 185, 0, 42, 1, 0, 153, 0, 39, 25, 4, 185, 0, 48, 1, 0]
abbrev dktX2_ranked_1 : List UInt8 := dkwX2_ranked_1 ++ dktX2_ranked_2
def dkwX2_ranked_0 : List UInt8 := [187, 0, 28, 89, 183, 0, 30, 76, 3, 61, 28, 42, 180, 0, 12, 185, 0, 100, 1, 0, 162, 0, 72, 3]
abbrev dktX2_ranked_0 : List UInt8 := dkwX2_ranked_0 ++ dktX2_ranked_1
theorem dksX2_ranked_0 : cX2_ranked.data.toList.drop 0 = dktX2_ranked_0 := by decide +kernel
theorem dksX2_ranked_1 : cX2_ranked.data.toList.drop 24 = dktX2_ranked_1 := dk_seg dksX2_ranked_0 24 rfl rfl
theorem dksX2_ranked_2 : cX2_ranked.data.toList.drop 48 = dktX2_ranked_2 := dk_seg dksX2_ranked_1 24 rfl rfl
theorem dksX2_ranked_3 : cX2_ranked.data.toList.drop 72 = dktX2_ranked_3 := dk_seg dksX2_ranked_2 24 rfl rfl
theorem dX2_ranked_0 : decode cX2_ranked 0 = .ok (.new 28, 3) := dk_187 0 28 (dk_at dksX2_ranked_0 0 rfl rfl)
theorem dX2_ranked_3 : decode cX2_ranked 3 = .ok (.dup, 1) := dk_89 (dk_at dksX2_ranked_0 3 rfl rfl)
theorem dX2_ranked_4 : decode cX2_ranked 4 = .ok (.invokespecial 30, 3) := dk_183 0 30 (dk_at dksX2_ranked_0 4 rfl rfl)
theorem dX2_ranked_7 : decode cX2_ranked 7 = .ok (.astore_n 1, 1) := dk_76 (dk_at dksX2_ranked_0 7 rfl rfl)
theorem dX2_ranked_8 : decode cX2_ranked 8 = .ok (.iconst 0, 1) := dk_3 (dk_at dksX2_ranked_0 8 rfl rfl)
theorem dX2_ranked_9 : decode cX2_ranked 9 = .ok (.istore_n 2, 1) := dk_61 (dk_at dksX2_ranked_0 9 rfl rfl)
theorem dX2_ranked_10 : decode cX2_ranked 10 = .ok (.iload_n 2, 1) := dk_28 (dk_at dksX2_ranked_0 10 rfl rfl)
theorem dX2_ranked_11 : decode cX2_ranked 11 = .ok (.aload_n 0, 1) := dk_42 (dk_at dksX2_ranked_0 11 rfl rfl)
theorem dX2_ranked_12 : decode cX2_ranked 12 = .ok (.getfield 12, 3) := dk_180 0 12 (dk_at dksX2_ranked_0 12 rfl rfl)
theorem dX2_ranked_15 : decode cX2_ranked 15 = .ok (.invokeinterface 100 1, 5) := by decide +kernel
theorem dX2_ranked_20 : decode cX2_ranked 20 = .ok (.if_icmp .ge 72, 3) := dk_162 0 72 (dk_at dksX2_ranked_0 20 rfl rfl)
theorem dX2_ranked_23 : decode cX2_ranked 23 = .ok (.iconst 0, 1) := dk_3 (dk_at dksX2_ranked_0 23 rfl rfl)
theorem dX2_ranked_24 : decode cX2_ranked 24 = .ok (.istore_n 3, 1) := dk_62 (dk_at dksX2_ranked_1 0 rfl rfl)
theorem dX2_ranked_25 : decode cX2_ranked 25 = .ok (.aload_n 1, 1) := dk_43 (dk_at dksX2_ranked_1 1 rfl rfl)
theorem dX2_ranked_26 : decode cX2_ranked 26 = .ok (.invokevirtual 90, 3) := dk_182 0 90 (dk_at dksX2_ranked_1 2 rfl rfl)
theorem dX2_ranked_29 : decode cX2_ranked 29 = .ok (.astore 4, 2) := dk_58 4 (dk_at dksX2_ranked_1 5 rfl rfl)
theorem dX2_ranked_31 : decode cX2_ranked 31 = .ok (.aload 4, 2) := dk_25 4 (dk_at dksX2_ranked_1 7 rfl rfl)
theorem dX2_ranked_33 : decode cX2_ranked 33 = .ok (.invokeinterface 42 1, 5) := by decide +kernel
theorem dX2_ranked_38 : decode cX2_ranked 38 = .ok (.ifCond .eq 39, 3) := dk_153 0 39 (dk_at dksX2_ranked_1 14 rfl rfl)
theorem dX2_ranked_41 : decode cX2_ranked 41 = .ok (.aload 4, 2) := dk_25 4 (dk_at dksX2_ranked_1 17 rfl rfl)
theorem dX2_ranked_43 : decode cX2_ranked 43 = .ok (.invokeinterface 48 1, 5) := by decide +kernel
theorem dX2_ranked_48 : decode cX2_ranked 48 = .ok (.checkcast 140, 3) := dk_192 0 140 (dk_at dksX2_ranked_2 0 rfl rfl)
theorem dX2_ranked_51 : decode cX2_ranked 51 = .ok (.invokevirtual 190, 3) := dk_182 0 190 (dk_at dksX2_ranked_2 3 rfl rfl)
theorem dX2_ranked_54 : decode cX2_ranked 54 = .ok (.istore 5, 2) := dk_54 5 (dk_at dksX2_ranked_2 6 rfl rfl)
theorem dX2_ranked_56 : decode cX2_ranked 56 = .ok (.iload_n 3, 1) := dk_29 (dk_at dksX2_ranked_2 8 rfl rfl)
theorem dX2_ranked_57 : decode cX2_ranked 57 = .ok (.aload_n 0, 1) := dk_42 (dk_at dksX2_ranked_2 9 rfl rfl)
theorem dX2_ranked_58 : decode cX2_ranked 58 = .ok (.iload 5, 2) := dk_21 5 (dk_at dksX2_ranked_2 10 rfl rfl)
theorem dX2_ranked_60 : decode cX2_ranked 60 = .ok (.iload_n 2, 1) := dk_28 (dk_at dksX2_ranked_2 12 rfl rfl)
theorem dX2_ranked_61 : decode cX2_ranked 61 = .ok (.invokevirtual 383, 3) := dk_182 1 127 (dk_at dksX2_ranked_2 13 rfl rfl)
theorem dX2_ranked_64 : decode cX2_ranked 64 = .ok (.ifCond .eq 7, 3) := dk_153 0 7 (dk_at dksX2_ranked_2 16 rfl rfl)
theorem dX2_ranked_67 : decode cX2_ranked 67 = .ok (.iconst 1, 1) := dk_4 (dk_at dksX2_ranked_2 19 rfl rfl)
theorem dX2_ranked_68 : decode cX2_ranked 68 = .ok (.goto 4, 3) := dk_167 0 4 (dk_at dksX2_ranked_2 20 rfl rfl)
theorem dX2_ranked_71 : decode cX2_ranked 71 = .ok (.iconst 0, 1) := dk_3 (dk_at dksX2_ranked_2 23 rfl rfl)
theorem dX2_ranked_72 : decode cX2_ranked 72 = .ok (.iadd, 1) := dk_96 (dk_at dksX2_ranked_3 0 rfl rfl)
theorem dX2_ranked_73 : decode cX2_ranked 73 = .ok (.istore_n 3, 1) := dk_62 (dk_at dksX2_ranked_3 1 rfl rfl)
theorem dX2_ranked_74 : decode cX2_ranked 74 = .ok (.goto (-43), 3) := dk_167 255 213 (dk_at dksX2_ranked_3 2 rfl rfl)
theorem dX2_ranked_77 : decode cX2_ranked 77 = .ok (.aload_n 1, 1) := dk_43 (dk_at dksX2_ranked_3 5 rfl rfl)
theorem dX2_ranked_78 : decode cX2_ranked 78 = .ok (.iload_n 3, 1) := dk_29 (dk_at dksX2_ranked_3 6 rfl rfl)
theorem dX2_ranked_79 : decode cX2_ranked 79 = .ok (.iload_n 2, 1) := dk_28 (dk_at dksX2_ranked_3 7 rfl rfl)
theorem dX2_ranked_80 : decode cX2_ranked 80 = .ok (.invokestatic 139, 3) := dk_184 0 139 (dk_at dksX2_ranked_3 8 rfl rfl)
theorem dX2_ranked_83 : decode cX2_ranked 83 = .ok (.invokevirtual 97, 3) := dk_182 0 97 (dk_at dksX2_ranked_3 11 rfl rfl)
theorem dX2_ranked_86 : decode cX2_ranked 86 = .ok (.iinc 2 1, 3) := dk_132 2 1 (dk_at dksX2_ranked_3 14 rfl rfl)
theorem dX2_ranked_89 : decode cX2_ranked 89 = .ok (.goto (-79), 3) := dk_167 255 177 (dk_at dksX2_ranked_3 17 rfl rfl)
theorem dX2_ranked_92 : decode cX2_ranked 92 = .ok (.aload_n 1, 1) := dk_43 (dk_at dksX2_ranked_3 20 rfl rfl)
theorem dX2_ranked_93 : decode cX2_ranked 93 = .ok (.areturn, 1) := dk_176 (dk_at dksX2_ranked_3 21 rfl rfl)
abbrev cX2_isAhead : ByteArray := prog_14_method_50_code
def dkwX2_isAhead_2 : List UInt8 := [29, 154, 0, 12, 27, 28, 162, 0, 7, 4, 167, 0, 4, 3, 172]
abbrev dktX2_isAhead_2 : List UInt8 := dkwX2_isAhead_2 ++ []
def dkwX2_isAhead_1 : List UInt8 := [182, 0, 86, 182, 0, 167, 42, 27, 182, 0, 86, 182, 0, 167, 100, 167, 0, 4, 29, 62, 29, 157, 0, 12]
abbrev dktX2_isAhead_1 : List UInt8 := dkwX2_isAhead_1 ++ dktX2_isAhead_2
def dkwX2_isAhead_0 : List UInt8 := [42, 27, 182, 0, 86, 182, 1, 121, 42, 28, 182, 0, 86, 182, 1, 121, 100, 62, 29, 154, 0, 23, 42, 28]
abbrev dktX2_isAhead_0 : List UInt8 := dkwX2_isAhead_0 ++ dktX2_isAhead_1
theorem dksX2_isAhead_0 : cX2_isAhead.data.toList.drop 0 = dktX2_isAhead_0 := by decide +kernel
theorem dksX2_isAhead_1 : cX2_isAhead.data.toList.drop 24 = dktX2_isAhead_1 := dk_seg dksX2_isAhead_0 24 rfl rfl
theorem dksX2_isAhead_2 : cX2_isAhead.data.toList.drop 48 = dktX2_isAhead_2 := dk_seg dksX2_isAhead_1 24 rfl rfl
theorem dX2_isAhead_0 : decode cX2_isAhead 0 = .ok (.aload_n 0, 1) := dk_42 (dk_at dksX2_isAhead_0 0 rfl rfl)
theorem dX2_isAhead_1 : decode cX2_isAhead 1 = .ok (.iload_n 1, 1) := dk_27 (dk_at dksX2_isAhead_0 1 rfl rfl)
theorem dX2_isAhead_2 : decode cX2_isAhead 2 = .ok (.invokevirtual 86, 3) := dk_182 0 86 (dk_at dksX2_isAhead_0 2 rfl rfl)
theorem dX2_isAhead_5 : decode cX2_isAhead 5 = .ok (.invokevirtual 377, 3) := dk_182 1 121 (dk_at dksX2_isAhead_0 5 rfl rfl)
theorem dX2_isAhead_8 : decode cX2_isAhead 8 = .ok (.aload_n 0, 1) := dk_42 (dk_at dksX2_isAhead_0 8 rfl rfl)
theorem dX2_isAhead_9 : decode cX2_isAhead 9 = .ok (.iload_n 2, 1) := dk_28 (dk_at dksX2_isAhead_0 9 rfl rfl)
theorem dX2_isAhead_10 : decode cX2_isAhead 10 = .ok (.invokevirtual 86, 3) := dk_182 0 86 (dk_at dksX2_isAhead_0 10 rfl rfl)
theorem dX2_isAhead_13 : decode cX2_isAhead 13 = .ok (.invokevirtual 377, 3) := dk_182 1 121 (dk_at dksX2_isAhead_0 13 rfl rfl)
theorem dX2_isAhead_16 : decode cX2_isAhead 16 = .ok (.isub, 1) := dk_100 (dk_at dksX2_isAhead_0 16 rfl rfl)
theorem dX2_isAhead_17 : decode cX2_isAhead 17 = .ok (.istore_n 3, 1) := dk_62 (dk_at dksX2_isAhead_0 17 rfl rfl)
theorem dX2_isAhead_18 : decode cX2_isAhead 18 = .ok (.iload_n 3, 1) := dk_29 (dk_at dksX2_isAhead_0 18 rfl rfl)
theorem dX2_isAhead_19 : decode cX2_isAhead 19 = .ok (.ifCond .ne 23, 3) := dk_154 0 23 (dk_at dksX2_isAhead_0 19 rfl rfl)
theorem dX2_isAhead_22 : decode cX2_isAhead 22 = .ok (.aload_n 0, 1) := dk_42 (dk_at dksX2_isAhead_0 22 rfl rfl)
theorem dX2_isAhead_23 : decode cX2_isAhead 23 = .ok (.iload_n 2, 1) := dk_28 (dk_at dksX2_isAhead_0 23 rfl rfl)
theorem dX2_isAhead_24 : decode cX2_isAhead 24 = .ok (.invokevirtual 86, 3) := dk_182 0 86 (dk_at dksX2_isAhead_1 0 rfl rfl)
theorem dX2_isAhead_27 : decode cX2_isAhead 27 = .ok (.invokevirtual 167, 3) := dk_182 0 167 (dk_at dksX2_isAhead_1 3 rfl rfl)
theorem dX2_isAhead_30 : decode cX2_isAhead 30 = .ok (.aload_n 0, 1) := dk_42 (dk_at dksX2_isAhead_1 6 rfl rfl)
theorem dX2_isAhead_31 : decode cX2_isAhead 31 = .ok (.iload_n 1, 1) := dk_27 (dk_at dksX2_isAhead_1 7 rfl rfl)
theorem dX2_isAhead_32 : decode cX2_isAhead 32 = .ok (.invokevirtual 86, 3) := dk_182 0 86 (dk_at dksX2_isAhead_1 8 rfl rfl)
theorem dX2_isAhead_35 : decode cX2_isAhead 35 = .ok (.invokevirtual 167, 3) := dk_182 0 167 (dk_at dksX2_isAhead_1 11 rfl rfl)
theorem dX2_isAhead_38 : decode cX2_isAhead 38 = .ok (.isub, 1) := dk_100 (dk_at dksX2_isAhead_1 14 rfl rfl)
theorem dX2_isAhead_39 : decode cX2_isAhead 39 = .ok (.goto 4, 3) := dk_167 0 4 (dk_at dksX2_isAhead_1 15 rfl rfl)
theorem dX2_isAhead_42 : decode cX2_isAhead 42 = .ok (.iload_n 3, 1) := dk_29 (dk_at dksX2_isAhead_1 18 rfl rfl)
theorem dX2_isAhead_43 : decode cX2_isAhead 43 = .ok (.istore_n 3, 1) := dk_62 (dk_at dksX2_isAhead_1 19 rfl rfl)
theorem dX2_isAhead_44 : decode cX2_isAhead 44 = .ok (.iload_n 3, 1) := dk_29 (dk_at dksX2_isAhead_1 20 rfl rfl)
theorem dX2_isAhead_45 : decode cX2_isAhead 45 = .ok (.ifCond .gt 12, 3) := dk_157 0 12 (dk_at dksX2_isAhead_1 21 rfl rfl)
theorem dX2_isAhead_48 : decode cX2_isAhead 48 = .ok (.iload_n 3, 1) := dk_29 (dk_at dksX2_isAhead_2 0 rfl rfl)
theorem dX2_isAhead_49 : decode cX2_isAhead 49 = .ok (.ifCond .ne 12, 3) := dk_154 0 12 (dk_at dksX2_isAhead_2 1 rfl rfl)
theorem dX2_isAhead_52 : decode cX2_isAhead 52 = .ok (.iload_n 1, 1) := dk_27 (dk_at dksX2_isAhead_2 4 rfl rfl)
theorem dX2_isAhead_53 : decode cX2_isAhead 53 = .ok (.iload_n 2, 1) := dk_28 (dk_at dksX2_isAhead_2 5 rfl rfl)
theorem dX2_isAhead_54 : decode cX2_isAhead 54 = .ok (.if_icmp .ge 7, 3) := dk_162 0 7 (dk_at dksX2_isAhead_2 6 rfl rfl)
theorem dX2_isAhead_57 : decode cX2_isAhead 57 = .ok (.iconst 1, 1) := dk_4 (dk_at dksX2_isAhead_2 9 rfl rfl)
theorem dX2_isAhead_58 : decode cX2_isAhead 58 = .ok (.goto 4, 3) := dk_167 0 4 (dk_at dksX2_isAhead_2 10 rfl rfl)
theorem dX2_isAhead_61 : decode cX2_isAhead 61 = .ok (.iconst 0, 1) := dk_3 (dk_at dksX2_isAhead_2 13 rfl rfl)
theorem dX2_isAhead_62 : decode cX2_isAhead 62 = .ok (.ireturn, 1) := dk_172 (dk_at dksX2_isAhead_2 14 rfl rfl)
abbrev cX6_serves : ByteArray := prog_3_method_7_code
def dkwX6_serves_0 : List UInt8 := [42, 180, 0, 9, 27, 92, 46, 28, 100, 79, 42, 180, 0, 18, 27, 92, 46, 28, 96, 79, 177]
abbrev dktX6_serves_0 : List UInt8 := dkwX6_serves_0 ++ []
theorem dksX6_serves_0 : cX6_serves.data.toList.drop 0 = dktX6_serves_0 := by decide +kernel
theorem dX6_serves_0 : decode cX6_serves 0 = .ok (.aload_n 0, 1) := dk_42 (dk_at dksX6_serves_0 0 rfl rfl)
theorem dX6_serves_1 : decode cX6_serves 1 = .ok (.getfield 9, 3) := dk_180 0 9 (dk_at dksX6_serves_0 1 rfl rfl)
theorem dX6_serves_4 : decode cX6_serves 4 = .ok (.iload_n 1, 1) := dk_27 (dk_at dksX6_serves_0 4 rfl rfl)
theorem dX6_serves_5 : decode cX6_serves 5 = .ok (.dup2, 1) := dk_92 (dk_at dksX6_serves_0 5 rfl rfl)
theorem dX6_serves_6 : decode cX6_serves 6 = .ok (.iaload, 1) := dk_46 (dk_at dksX6_serves_0 6 rfl rfl)
theorem dX6_serves_7 : decode cX6_serves 7 = .ok (.iload_n 2, 1) := dk_28 (dk_at dksX6_serves_0 7 rfl rfl)
theorem dX6_serves_8 : decode cX6_serves 8 = .ok (.isub, 1) := dk_100 (dk_at dksX6_serves_0 8 rfl rfl)
theorem dX6_serves_9 : decode cX6_serves 9 = .ok (.iastore, 1) := dk_79 (dk_at dksX6_serves_0 9 rfl rfl)
theorem dX6_serves_10 : decode cX6_serves 10 = .ok (.aload_n 0, 1) := dk_42 (dk_at dksX6_serves_0 10 rfl rfl)
theorem dX6_serves_11 : decode cX6_serves 11 = .ok (.getfield 18, 3) := dk_180 0 18 (dk_at dksX6_serves_0 11 rfl rfl)
theorem dX6_serves_14 : decode cX6_serves 14 = .ok (.iload_n 1, 1) := dk_27 (dk_at dksX6_serves_0 14 rfl rfl)
theorem dX6_serves_15 : decode cX6_serves 15 = .ok (.dup2, 1) := dk_92 (dk_at dksX6_serves_0 15 rfl rfl)
theorem dX6_serves_16 : decode cX6_serves 16 = .ok (.iaload, 1) := dk_46 (dk_at dksX6_serves_0 16 rfl rfl)
theorem dX6_serves_17 : decode cX6_serves 17 = .ok (.iload_n 2, 1) := dk_28 (dk_at dksX6_serves_0 17 rfl rfl)
theorem dX6_serves_18 : decode cX6_serves 18 = .ok (.iadd, 1) := dk_96 (dk_at dksX6_serves_0 18 rfl rfl)
theorem dX6_serves_19 : decode cX6_serves 19 = .ok (.iastore, 1) := dk_79 (dk_at dksX6_serves_0 19 rfl rfl)
theorem dX6_serves_20 : decode cX6_serves 20 = .ok (.return_, 1) := dk_177 (dk_at dksX6_serves_0 20 rfl rfl)
abbrev cX9_canBeCancelled : ByteArray := prog_7_method_5_code
theorem dX9_canBeCancelled_0 : decode cX9_canBeCancelled 0 = .ok (.iconst 0, 1) := by decide +kernel
theorem dX9_canBeCancelled_1 : decode cX9_canBeCancelled 1 = .ok (.ireturn, 1) := by decide +kernel
abbrev cX13_arrives : ByteArray := prog_13_method_8_code
theorem dX13_arrives_0 : decode cX13_arrives 0 = .ok (.aload_n 0, 1) := by decide +kernel
theorem dX13_arrives_1 : decode cX13_arrives 1 = .ok (.getfield 16, 3) := by decide +kernel
theorem dX13_arrives_4 : decode cX13_arrives 4 = .ok (.ireturn, 1) := by decide +kernel
abbrev cX13_cook : ByteArray := prog_13_method_6_code
theorem dX13_cook_0 : decode cX13_cook 0 = .ok (.aload_n 0, 1) := by decide +kernel
theorem dX13_cook_1 : decode cX13_cook 1 = .ok (.getfield 7, 3) := by decide +kernel
theorem dX13_cook_4 : decode cX13_cook 4 = .ok (.ireturn, 1) := by decide +kernel
abbrev cX13_course : ByteArray := prog_13_method_7_code
theorem dX13_course_0 : decode cX13_course 0 = .ok (.aload_n 0, 1) := by decide +kernel
theorem dX13_course_1 : decode cX13_course 1 = .ok (.getfield 13, 3) := by decide +kernel
theorem dX13_course_4 : decode cX13_course 4 = .ok (.ireturn, 1) := by decide +kernel
abbrev cX13_number : ByteArray := prog_13_method_2_code
theorem dX13_number_0 : decode cX13_number 0 = .ok (.iconst 0, 1) := by decide +kernel
theorem dX13_number_1 : decode cX13_number 1 = .ok (.ireturn, 1) := by decide +kernel
abbrev cX15_arrives : ByteArray := prog_17_method_8_code
theorem dX15_arrives_0 : decode cX15_arrives 0 = .ok (.aload_n 0, 1) := by decide +kernel
theorem dX15_arrives_1 : decode cX15_arrives 1 = .ok (.getfield 16, 3) := by decide +kernel
theorem dX15_arrives_4 : decode cX15_arrives 4 = .ok (.ireturn, 1) := by decide +kernel
abbrev cX15_cook : ByteArray := prog_17_method_6_code
theorem dX15_cook_0 : decode cX15_cook 0 = .ok (.aload_n 0, 1) := by decide +kernel
theorem dX15_cook_1 : decode cX15_cook 1 = .ok (.getfield 7, 3) := by decide +kernel
theorem dX15_cook_4 : decode cX15_cook 4 = .ok (.ireturn, 1) := by decide +kernel
abbrev cX15_course : ByteArray := prog_17_method_7_code
theorem dX15_course_0 : decode cX15_course 0 = .ok (.aload_n 0, 1) := by decide +kernel
theorem dX15_course_1 : decode cX15_course 1 = .ok (.getfield 13, 3) := by decide +kernel
theorem dX15_course_4 : decode cX15_course 4 = .ok (.ireturn, 1) := by decide +kernel
abbrev cX15_number : ByteArray := prog_17_method_2_code
theorem dX15_number_0 : decode cX15_number 0 = .ok (.iconst 5, 1) := by decide +kernel
theorem dX15_number_1 : decode cX15_number 1 = .ok (.ireturn, 1) := by decide +kernel
abbrev cX14_arrives : ByteArray := prog_22_method_8_code
theorem dX14_arrives_0 : decode cX14_arrives 0 = .ok (.aload_n 0, 1) := by decide +kernel
theorem dX14_arrives_1 : decode cX14_arrives 1 = .ok (.getfield 16, 3) := by decide +kernel
theorem dX14_arrives_4 : decode cX14_arrives 4 = .ok (.ireturn, 1) := by decide +kernel
abbrev cX14_cook : ByteArray := prog_22_method_6_code
theorem dX14_cook_0 : decode cX14_cook 0 = .ok (.aload_n 0, 1) := by decide +kernel
theorem dX14_cook_1 : decode cX14_cook 1 = .ok (.getfield 7, 3) := by decide +kernel
theorem dX14_cook_4 : decode cX14_cook 4 = .ok (.ireturn, 1) := by decide +kernel
abbrev cX14_course : ByteArray := prog_22_method_7_code
theorem dX14_course_0 : decode cX14_course 0 = .ok (.aload_n 0, 1) := by decide +kernel
theorem dX14_course_1 : decode cX14_course 1 = .ok (.getfield 13, 3) := by decide +kernel
theorem dX14_course_4 : decode cX14_course 4 = .ok (.ireturn, 1) := by decide +kernel
abbrev cX14_isServing : ByteArray := prog_22_method_9_code
theorem dX14_isServing_0 : decode cX14_isServing 0 = .ok (.aload_n 0, 1) := by decide +kernel
theorem dX14_isServing_1 : decode cX14_isServing 1 = .ok (.getfield 19, 3) := by decide +kernel
theorem dX14_isServing_4 : decode cX14_isServing 4 = .ok (.ireturn, 1) := by decide +kernel
abbrev cX14_number : ByteArray := prog_22_method_2_code
def dkwX14_number_0 : List UInt8 := [42, 180, 0, 19, 153, 0, 7, 6, 167, 0, 4, 7, 172]
abbrev dktX14_number_0 : List UInt8 := dkwX14_number_0 ++ []
theorem dksX14_number_0 : cX14_number.data.toList.drop 0 = dktX14_number_0 := by decide +kernel
theorem dX14_number_0 : decode cX14_number 0 = .ok (.aload_n 0, 1) := dk_42 (dk_at dksX14_number_0 0 rfl rfl)
theorem dX14_number_1 : decode cX14_number 1 = .ok (.getfield 19, 3) := dk_180 0 19 (dk_at dksX14_number_0 1 rfl rfl)
theorem dX14_number_4 : decode cX14_number 4 = .ok (.ifCond .eq 7, 3) := dk_153 0 7 (dk_at dksX14_number_0 4 rfl rfl)
theorem dX14_number_7 : decode cX14_number 7 = .ok (.iconst 3, 1) := dk_6 (dk_at dksX14_number_0 7 rfl rfl)
theorem dX14_number_8 : decode cX14_number 8 = .ok (.goto 4, 3) := dk_167 0 4 (dk_at dksX14_number_0 8 rfl rfl)
theorem dX14_number_11 : decode cX14_number 11 = .ok (.iconst 4, 1) := dk_7 (dk_at dksX14_number_0 11 rfl rfl)
theorem dX14_number_12 : decode cX14_number 12 = .ok (.ireturn, 1) := dk_172 (dk_at dksX14_number_0 12 rfl rfl)
abbrev cX16_arrives : ByteArray := prog_23_method_8_code
theorem dX16_arrives_0 : decode cX16_arrives 0 = .ok (.aload_n 0, 1) := by decide +kernel
theorem dX16_arrives_1 : decode cX16_arrives 1 = .ok (.getfield 16, 3) := by decide +kernel
theorem dX16_arrives_4 : decode cX16_arrives 4 = .ok (.ireturn, 1) := by decide +kernel
abbrev cX16_cook : ByteArray := prog_23_method_6_code
theorem dX16_cook_0 : decode cX16_cook 0 = .ok (.aload_n 0, 1) := by decide +kernel
theorem dX16_cook_1 : decode cX16_cook 1 = .ok (.getfield 7, 3) := by decide +kernel
theorem dX16_cook_4 : decode cX16_cook 4 = .ok (.ireturn, 1) := by decide +kernel
abbrev cX16_course : ByteArray := prog_23_method_7_code
theorem dX16_course_0 : decode cX16_course 0 = .ok (.aload_n 0, 1) := by decide +kernel
theorem dX16_course_1 : decode cX16_course 1 = .ok (.getfield 13, 3) := by decide +kernel
theorem dX16_course_4 : decode cX16_course 4 = .ok (.ireturn, 1) := by decide +kernel
abbrev cX16_isYes : ByteArray := prog_23_method_9_code
theorem dX16_isYes_0 : decode cX16_isYes 0 = .ok (.aload_n 0, 1) := by decide +kernel
theorem dX16_isYes_1 : decode cX16_isYes 1 = .ok (.getfield 19, 3) := by decide +kernel
theorem dX16_isYes_4 : decode cX16_isYes 4 = .ok (.ireturn, 1) := by decide +kernel
abbrev cX16_init : ByteArray := prog_23_method_1_code
def dkwX16_init_1 : List UInt8 := [181, 0, 19, 177]
abbrev dktX16_init_1 : List UInt8 := dkwX16_init_1 ++ []
def dkwX16_init_0 : List UInt8 := [42, 183, 0, 1, 42, 27, 181, 0, 7, 42, 28, 181, 0, 13, 42, 29, 181, 0, 16, 42, 21, 4]
abbrev dktX16_init_0 : List UInt8 := dkwX16_init_0 ++ dktX16_init_1
theorem dksX16_init_0 : cX16_init.data.toList.drop 0 = dktX16_init_0 := by decide +kernel
theorem dksX16_init_1 : cX16_init.data.toList.drop 22 = dktX16_init_1 := dk_seg dksX16_init_0 22 rfl rfl
theorem dX16_init_0 : decode cX16_init 0 = .ok (.aload_n 0, 1) := dk_42 (dk_at dksX16_init_0 0 rfl rfl)
theorem dX16_init_1 : decode cX16_init 1 = .ok (.invokespecial 1, 3) := dk_183 0 1 (dk_at dksX16_init_0 1 rfl rfl)
theorem dX16_init_4 : decode cX16_init 4 = .ok (.aload_n 0, 1) := dk_42 (dk_at dksX16_init_0 4 rfl rfl)
theorem dX16_init_5 : decode cX16_init 5 = .ok (.iload_n 1, 1) := dk_27 (dk_at dksX16_init_0 5 rfl rfl)
theorem dX16_init_6 : decode cX16_init 6 = .ok (.putfield 7, 3) := dk_181 0 7 (dk_at dksX16_init_0 6 rfl rfl)
theorem dX16_init_9 : decode cX16_init 9 = .ok (.aload_n 0, 1) := dk_42 (dk_at dksX16_init_0 9 rfl rfl)
theorem dX16_init_10 : decode cX16_init 10 = .ok (.iload_n 2, 1) := dk_28 (dk_at dksX16_init_0 10 rfl rfl)
theorem dX16_init_11 : decode cX16_init 11 = .ok (.putfield 13, 3) := dk_181 0 13 (dk_at dksX16_init_0 11 rfl rfl)
theorem dX16_init_14 : decode cX16_init 14 = .ok (.aload_n 0, 1) := dk_42 (dk_at dksX16_init_0 14 rfl rfl)
theorem dX16_init_15 : decode cX16_init 15 = .ok (.iload_n 3, 1) := dk_29 (dk_at dksX16_init_0 15 rfl rfl)
theorem dX16_init_16 : decode cX16_init 16 = .ok (.putfield 16, 3) := dk_181 0 16 (dk_at dksX16_init_0 16 rfl rfl)
theorem dX16_init_19 : decode cX16_init 19 = .ok (.aload_n 0, 1) := dk_42 (dk_at dksX16_init_0 19 rfl rfl)
theorem dX16_init_20 : decode cX16_init 20 = .ok (.iload 4, 2) := dk_21 4 (dk_at dksX16_init_0 20 rfl rfl)
theorem dX16_init_22 : decode cX16_init 22 = .ok (.putfield 19, 3) := dk_181 0 19 (dk_at dksX16_init_1 0 rfl rfl)
theorem dX16_init_25 : decode cX16_init 25 = .ok (.return_, 1) := dk_177 (dk_at dksX16_init_1 3 rfl rfl)
abbrev cX16_number : ByteArray := prog_23_method_2_code
def dkwX16_number_0 : List UInt8 := [42, 180, 0, 19, 153, 0, 7, 4, 167, 0, 4, 5, 172]
abbrev dktX16_number_0 : List UInt8 := dkwX16_number_0 ++ []
theorem dksX16_number_0 : cX16_number.data.toList.drop 0 = dktX16_number_0 := by decide +kernel
theorem dX16_number_0 : decode cX16_number 0 = .ok (.aload_n 0, 1) := dk_42 (dk_at dksX16_number_0 0 rfl rfl)
theorem dX16_number_1 : decode cX16_number 1 = .ok (.getfield 19, 3) := dk_180 0 19 (dk_at dksX16_number_0 1 rfl rfl)
theorem dX16_number_4 : decode cX16_number 4 = .ok (.ifCond .eq 7, 3) := dk_153 0 7 (dk_at dksX16_number_0 4 rfl rfl)
theorem dX16_number_7 : decode cX16_number 7 = .ok (.iconst 1, 1) := dk_4 (dk_at dksX16_number_0 7 rfl rfl)
theorem dX16_number_8 : decode cX16_number 8 = .ok (.goto 4, 3) := dk_167 0 4 (dk_at dksX16_number_0 8 rfl rfl)
theorem dX16_number_11 : decode cX16_number 11 = .ok (.iconst 2, 1) := dk_5 (dk_at dksX16_number_0 11 rfl rfl)
theorem dX16_number_12 : decode cX16_number 12 = .ok (.ireturn, 1) := dk_172 (dk_at dksX16_number_0 12 rfl rfl)
abbrev cX1_ask : ByteArray := prog_1_method_25_code
def dkwX1_ask_0 : List UInt8 := [42, 27, 182, 0, 182, 42, 18, 252, 27, 3, 3, 182, 0, 254, 172]
abbrev dktX1_ask_0 : List UInt8 := dkwX1_ask_0 ++ []
theorem dksX1_ask_0 : cX1_ask.data.toList.drop 0 = dktX1_ask_0 := by decide +kernel
theorem dX1_ask_0 : decode cX1_ask 0 = .ok (.aload_n 0, 1) := dk_42 (dk_at dksX1_ask_0 0 rfl rfl)
theorem dX1_ask_1 : decode cX1_ask 1 = .ok (.iload_n 1, 1) := dk_27 (dk_at dksX1_ask_0 1 rfl rfl)
theorem dX1_ask_2 : decode cX1_ask 2 = .ok (.invokevirtual 182, 3) := dk_182 0 182 (dk_at dksX1_ask_0 2 rfl rfl)
theorem dX1_ask_5 : decode cX1_ask 5 = .ok (.aload_n 0, 1) := dk_42 (dk_at dksX1_ask_0 5 rfl rfl)
theorem dX1_ask_6 : decode cX1_ask 6 = .ok (.ldc 252, 2) := dk_18 252 (dk_at dksX1_ask_0 6 rfl rfl)
theorem dX1_ask_8 : decode cX1_ask 8 = .ok (.iload_n 1, 1) := dk_27 (dk_at dksX1_ask_0 8 rfl rfl)
theorem dX1_ask_9 : decode cX1_ask 9 = .ok (.iconst 0, 1) := dk_3 (dk_at dksX1_ask_0 9 rfl rfl)
theorem dX1_ask_10 : decode cX1_ask 10 = .ok (.iconst 0, 1) := dk_3 (dk_at dksX1_ask_0 10 rfl rfl)
theorem dX1_ask_11 : decode cX1_ask 11 = .ok (.invokevirtual 254, 3) := dk_182 0 254 (dk_at dksX1_ask_0 11 rfl rfl)
theorem dX1_ask_14 : decode cX1_ask 14 = .ok (.ireturn, 1) := dk_172 (dk_at dksX1_ask_0 14 rfl rfl)
abbrev cX1_changed : ByteArray := prog_1_method_15_code
def dkwX1_changed_1 : List UInt8 := [25, 5, 182, 0, 117, 182, 0, 121, 172, 58, 6, 42, 25, 6, 182, 0, 125, 191]
abbrev dktX1_changed_1 : List UInt8 := dkwX1_changed_1 ++ []
def dkwX1_changed_0 : List UInt8 := [42, 180, 0, 19, 182, 0, 108, 58, 5, 42, 25, 5, 187, 0, 112, 89, 43, 28, 29, 21, 4, 183, 0, 114]
abbrev dktX1_changed_0 : List UInt8 := dkwX1_changed_0 ++ dktX1_changed_1
theorem dksX1_changed_0 : cX1_changed.data.toList.drop 0 = dktX1_changed_0 := by decide +kernel
theorem dksX1_changed_1 : cX1_changed.data.toList.drop 24 = dktX1_changed_1 := dk_seg dksX1_changed_0 24 rfl rfl
theorem dX1_changed_0 : decode cX1_changed 0 = .ok (.aload_n 0, 1) := dk_42 (dk_at dksX1_changed_0 0 rfl rfl)
theorem dX1_changed_1 : decode cX1_changed 1 = .ok (.getfield 19, 3) := dk_180 0 19 (dk_at dksX1_changed_0 1 rfl rfl)
theorem dX1_changed_4 : decode cX1_changed 4 = .ok (.invokevirtual 108, 3) := dk_182 0 108 (dk_at dksX1_changed_0 4 rfl rfl)
theorem dX1_changed_7 : decode cX1_changed 7 = .ok (.astore 5, 2) := dk_58 5 (dk_at dksX1_changed_0 7 rfl rfl)
theorem dX1_changed_9 : decode cX1_changed 9 = .ok (.aload_n 0, 1) := dk_42 (dk_at dksX1_changed_0 9 rfl rfl)
theorem dX1_changed_10 : decode cX1_changed 10 = .ok (.aload 5, 2) := dk_25 5 (dk_at dksX1_changed_0 10 rfl rfl)
theorem dX1_changed_12 : decode cX1_changed 12 = .ok (.new 112, 3) := dk_187 0 112 (dk_at dksX1_changed_0 12 rfl rfl)
theorem dX1_changed_15 : decode cX1_changed 15 = .ok (.dup, 1) := dk_89 (dk_at dksX1_changed_0 15 rfl rfl)
theorem dX1_changed_16 : decode cX1_changed 16 = .ok (.aload_n 1, 1) := dk_43 (dk_at dksX1_changed_0 16 rfl rfl)
theorem dX1_changed_17 : decode cX1_changed 17 = .ok (.iload_n 2, 1) := dk_28 (dk_at dksX1_changed_0 17 rfl rfl)
theorem dX1_changed_18 : decode cX1_changed 18 = .ok (.iload_n 3, 1) := dk_29 (dk_at dksX1_changed_0 18 rfl rfl)
theorem dX1_changed_19 : decode cX1_changed 19 = .ok (.iload 4, 2) := dk_21 4 (dk_at dksX1_changed_0 19 rfl rfl)
theorem dX1_changed_21 : decode cX1_changed 21 = .ok (.invokespecial 114, 3) := dk_183 0 114 (dk_at dksX1_changed_0 21 rfl rfl)
theorem dX1_changed_24 : decode cX1_changed 24 = .ok (.aload 5, 2) := dk_25 5 (dk_at dksX1_changed_1 0 rfl rfl)
theorem dX1_changed_26 : decode cX1_changed 26 = .ok (.invokevirtual 117, 3) := dk_182 0 117 (dk_at dksX1_changed_1 2 rfl rfl)
theorem dX1_changed_29 : decode cX1_changed 29 = .ok (.invokevirtual 121, 3) := dk_182 0 121 (dk_at dksX1_changed_1 5 rfl rfl)
theorem dX1_changed_32 : decode cX1_changed 32 = .ok (.ireturn, 1) := dk_172 (dk_at dksX1_changed_1 8 rfl rfl)
theorem dX1_changed_33 : decode cX1_changed 33 = .ok (.astore 6, 2) := dk_58 6 (dk_at dksX1_changed_1 9 rfl rfl)
theorem dX1_changed_35 : decode cX1_changed 35 = .ok (.aload_n 0, 1) := dk_42 (dk_at dksX1_changed_1 11 rfl rfl)
theorem dX1_changed_36 : decode cX1_changed 36 = .ok (.aload 6, 2) := dk_25 6 (dk_at dksX1_changed_1 12 rfl rfl)
theorem dX1_changed_38 : decode cX1_changed 38 = .ok (.invokevirtual 125, 3) := dk_182 0 125 (dk_at dksX1_changed_1 14 rfl rfl)
theorem dX1_changed_41 : decode cX1_changed 41 = .ok (.athrow, 1) := dk_191 (dk_at dksX1_changed_1 17 rfl rfl)
abbrev cX1_goesToHost : ByteArray := prog_1_method_3_code
def dkwX1_goesToHost_0 : List UInt8 := [42, 193, 0, 7, 154, 0, 10, 42, 193, 0, 9, 153, 0, 7, 4, 167, 0, 4, 3, 172]
abbrev dktX1_goesToHost_0 : List UInt8 := dkwX1_goesToHost_0 ++ []
theorem dksX1_goesToHost_0 : cX1_goesToHost.data.toList.drop 0 = dktX1_goesToHost_0 := by decide +kernel
theorem dX1_goesToHost_0 : decode cX1_goesToHost 0 = .ok (.aload_n 0, 1) := dk_42 (dk_at dksX1_goesToHost_0 0 rfl rfl)
theorem dX1_goesToHost_1 : decode cX1_goesToHost 1 = .ok (.instanceof 7, 3) := dk_193 0 7 (dk_at dksX1_goesToHost_0 1 rfl rfl)
theorem dX1_goesToHost_4 : decode cX1_goesToHost 4 = .ok (.ifCond .ne 10, 3) := dk_154 0 10 (dk_at dksX1_goesToHost_0 4 rfl rfl)
theorem dX1_goesToHost_7 : decode cX1_goesToHost 7 = .ok (.aload_n 0, 1) := dk_42 (dk_at dksX1_goesToHost_0 7 rfl rfl)
theorem dX1_goesToHost_8 : decode cX1_goesToHost 8 = .ok (.instanceof 9, 3) := dk_193 0 9 (dk_at dksX1_goesToHost_0 8 rfl rfl)
theorem dX1_goesToHost_11 : decode cX1_goesToHost 11 = .ok (.ifCond .eq 7, 3) := dk_153 0 7 (dk_at dksX1_goesToHost_0 11 rfl rfl)
theorem dX1_goesToHost_14 : decode cX1_goesToHost 14 = .ok (.iconst 1, 1) := dk_4 (dk_at dksX1_goesToHost_0 14 rfl rfl)
theorem dX1_goesToHost_15 : decode cX1_goesToHost 15 = .ok (.goto 4, 3) := dk_167 0 4 (dk_at dksX1_goesToHost_0 15 rfl rfl)
theorem dX1_goesToHost_18 : decode cX1_goesToHost 18 = .ok (.iconst 0, 1) := dk_3 (dk_at dksX1_goesToHost_0 18 rfl rfl)
theorem dX1_goesToHost_19 : decode cX1_goesToHost 19 = .ok (.ireturn, 1) := dk_172 (dk_at dksX1_goesToHost_0 19 rfl rfl)
abbrev cX1_cancel : ByteArray := prog_1_method_26_code
def dkwX1_cancel_0 : List UInt8 := [42, 27, 182, 0, 182, 42, 19, 1, 2, 27, 3, 3, 182, 0, 254, 172]
abbrev dktX1_cancel_0 : List UInt8 := dkwX1_cancel_0 ++ []
theorem dksX1_cancel_0 : cX1_cancel.data.toList.drop 0 = dktX1_cancel_0 := by decide +kernel
theorem dX1_cancel_0 : decode cX1_cancel 0 = .ok (.aload_n 0, 1) := dk_42 (dk_at dksX1_cancel_0 0 rfl rfl)
theorem dX1_cancel_1 : decode cX1_cancel 1 = .ok (.iload_n 1, 1) := dk_27 (dk_at dksX1_cancel_0 1 rfl rfl)
theorem dX1_cancel_2 : decode cX1_cancel 2 = .ok (.invokevirtual 182, 3) := dk_182 0 182 (dk_at dksX1_cancel_0 2 rfl rfl)
theorem dX1_cancel_5 : decode cX1_cancel 5 = .ok (.aload_n 0, 1) := dk_42 (dk_at dksX1_cancel_0 5 rfl rfl)
theorem dX1_cancel_6 : decode cX1_cancel 6 = .ok (.ldc_w 258, 3) := dk_19 1 2 (dk_at dksX1_cancel_0 6 rfl rfl)
theorem dX1_cancel_9 : decode cX1_cancel 9 = .ok (.iload_n 1, 1) := dk_27 (dk_at dksX1_cancel_0 9 rfl rfl)
theorem dX1_cancel_10 : decode cX1_cancel 10 = .ok (.iconst 0, 1) := dk_3 (dk_at dksX1_cancel_0 10 rfl rfl)
theorem dX1_cancel_11 : decode cX1_cancel 11 = .ok (.iconst 0, 1) := dk_3 (dk_at dksX1_cancel_0 11 rfl rfl)
theorem dX1_cancel_12 : decode cX1_cancel 12 = .ok (.invokevirtual 254, 3) := dk_182 0 254 (dk_at dksX1_cancel_0 12 rfl rfl)
theorem dX1_cancel_15 : decode cX1_cancel 15 = .ok (.ireturn, 1) := dk_172 (dk_at dksX1_cancel_0 15 rfl rfl)
abbrev cX1_faint : ByteArray := prog_1_method_27_code
def dkwX1_faint_0 : List UInt8 := [42, 27, 182, 1, 4, 42, 19, 1, 7, 27, 3, 3, 182, 0, 254, 172]
abbrev dktX1_faint_0 : List UInt8 := dkwX1_faint_0 ++ []
theorem dksX1_faint_0 : cX1_faint.data.toList.drop 0 = dktX1_faint_0 := by decide +kernel
theorem dX1_faint_0 : decode cX1_faint 0 = .ok (.aload_n 0, 1) := dk_42 (dk_at dksX1_faint_0 0 rfl rfl)
theorem dX1_faint_1 : decode cX1_faint 1 = .ok (.iload_n 1, 1) := dk_27 (dk_at dksX1_faint_0 1 rfl rfl)
theorem dX1_faint_2 : decode cX1_faint 2 = .ok (.invokevirtual 260, 3) := dk_182 1 4 (dk_at dksX1_faint_0 2 rfl rfl)
theorem dX1_faint_5 : decode cX1_faint 5 = .ok (.aload_n 0, 1) := dk_42 (dk_at dksX1_faint_0 5 rfl rfl)
theorem dX1_faint_6 : decode cX1_faint 6 = .ok (.ldc_w 263, 3) := dk_19 1 7 (dk_at dksX1_faint_0 6 rfl rfl)
theorem dX1_faint_9 : decode cX1_faint 9 = .ok (.iload_n 1, 1) := dk_27 (dk_at dksX1_faint_0 9 rfl rfl)
theorem dX1_faint_10 : decode cX1_faint 10 = .ok (.iconst 0, 1) := dk_3 (dk_at dksX1_faint_0 10 rfl rfl)
theorem dX1_faint_11 : decode cX1_faint 11 = .ok (.iconst 0, 1) := dk_3 (dk_at dksX1_faint_0 11 rfl rfl)
theorem dX1_faint_12 : decode cX1_faint 12 = .ok (.invokevirtual 254, 3) := dk_182 0 254 (dk_at dksX1_faint_0 12 rfl rfl)
theorem dX1_faint_15 : decode cX1_faint 15 = .ok (.ireturn, 1) := dk_172 (dk_at dksX1_faint_0 15 rfl rfl)
abbrev cX1_requireWho : ByteArray := prog_1_method_10_code
def dkwX1_requireWho_0 : List UInt8 := [27, 2, 42, 180, 0, 19, 182, 0, 65, 185, 0, 69, 1, 0, 184, 0, 75, 177]
abbrev dktX1_requireWho_0 : List UInt8 := dkwX1_requireWho_0 ++ []
theorem dksX1_requireWho_0 : cX1_requireWho.data.toList.drop 0 = dktX1_requireWho_0 := by decide +kernel
theorem dX1_requireWho_0 : decode cX1_requireWho 0 = .ok (.iload_n 1, 1) := dk_27 (dk_at dksX1_requireWho_0 0 rfl rfl)
theorem dX1_requireWho_1 : decode cX1_requireWho 1 = .ok (.iconst (-1), 1) := dk_2 (dk_at dksX1_requireWho_0 1 rfl rfl)
theorem dX1_requireWho_2 : decode cX1_requireWho 2 = .ok (.aload_n 0, 1) := dk_42 (dk_at dksX1_requireWho_0 2 rfl rfl)
theorem dX1_requireWho_3 : decode cX1_requireWho 3 = .ok (.getfield 19, 3) := dk_180 0 19 (dk_at dksX1_requireWho_0 3 rfl rfl)
theorem dX1_requireWho_6 : decode cX1_requireWho 6 = .ok (.invokevirtual 65, 3) := dk_182 0 65 (dk_at dksX1_requireWho_0 6 rfl rfl)
theorem dX1_requireWho_9 : decode cX1_requireWho 9 = .ok (.invokeinterface 69 1, 5) := by decide +kernel
theorem dX1_requireWho_14 : decode cX1_requireWho 14 = .ok (.invokestatic 75, 3) := dk_184 0 75 (dk_at dksX1_requireWho_0 14 rfl rfl)
theorem dX1_requireWho_17 : decode cX1_requireWho 17 = .ok (.return_, 1) := dk_177 (dk_at dksX1_requireWho_0 17 rfl rfl)
abbrev cX1_wake : ByteArray := prog_1_method_28_code
def dkwX1_wake_0 : List UInt8 := [42, 27, 182, 1, 4, 42, 19, 1, 9, 27, 3, 3, 182, 0, 254, 172]
abbrev dktX1_wake_0 : List UInt8 := dkwX1_wake_0 ++ []
theorem dksX1_wake_0 : cX1_wake.data.toList.drop 0 = dktX1_wake_0 := by decide +kernel
theorem dX1_wake_0 : decode cX1_wake 0 = .ok (.aload_n 0, 1) := dk_42 (dk_at dksX1_wake_0 0 rfl rfl)
theorem dX1_wake_1 : decode cX1_wake 1 = .ok (.iload_n 1, 1) := dk_27 (dk_at dksX1_wake_0 1 rfl rfl)
theorem dX1_wake_2 : decode cX1_wake 2 = .ok (.invokevirtual 260, 3) := dk_182 1 4 (dk_at dksX1_wake_0 2 rfl rfl)
theorem dX1_wake_5 : decode cX1_wake 5 = .ok (.aload_n 0, 1) := dk_42 (dk_at dksX1_wake_0 5 rfl rfl)
theorem dX1_wake_6 : decode cX1_wake 6 = .ok (.ldc_w 265, 3) := dk_19 1 9 (dk_at dksX1_wake_0 6 rfl rfl)
theorem dX1_wake_9 : decode cX1_wake 9 = .ok (.iload_n 1, 1) := dk_27 (dk_at dksX1_wake_0 9 rfl rfl)
theorem dX1_wake_10 : decode cX1_wake 10 = .ok (.iconst 0, 1) := dk_3 (dk_at dksX1_wake_0 10 rfl rfl)
theorem dX1_wake_11 : decode cX1_wake 11 = .ok (.iconst 0, 1) := dk_3 (dk_at dksX1_wake_0 11 rfl rfl)
theorem dX1_wake_12 : decode cX1_wake 12 = .ok (.invokevirtual 254, 3) := dk_182 0 254 (dk_at dksX1_wake_0 12 rfl rfl)
theorem dX1_wake_15 : decode cX1_wake 15 = .ok (.ireturn, 1) := dk_172 (dk_at dksX1_wake_0 15 rfl rfl)
abbrev cX1_learn : ByteArray := prog_1_method_29_code
def dkwX1_learn_1 : List UInt8 := [3, 184, 0, 82, 42, 19, 1, 11, 27, 28, 29, 182, 0, 254, 172]
abbrev dktX1_learn_1 : List UInt8 := dkwX1_learn_1 ++ []
def dkwX1_learn_0 : List UInt8 := [42, 27, 182, 0, 133, 42, 28, 182, 0, 133, 42, 29, 182, 0, 182, 27, 28, 159, 0, 7, 4, 167, 0, 4]
abbrev dktX1_learn_0 : List UInt8 := dkwX1_learn_0 ++ dktX1_learn_1
theorem dksX1_learn_0 : cX1_learn.data.toList.drop 0 = dktX1_learn_0 := by decide +kernel
theorem dksX1_learn_1 : cX1_learn.data.toList.drop 24 = dktX1_learn_1 := dk_seg dksX1_learn_0 24 rfl rfl
theorem dX1_learn_0 : decode cX1_learn 0 = .ok (.aload_n 0, 1) := dk_42 (dk_at dksX1_learn_0 0 rfl rfl)
theorem dX1_learn_1 : decode cX1_learn 1 = .ok (.iload_n 1, 1) := dk_27 (dk_at dksX1_learn_0 1 rfl rfl)
theorem dX1_learn_2 : decode cX1_learn 2 = .ok (.invokevirtual 133, 3) := dk_182 0 133 (dk_at dksX1_learn_0 2 rfl rfl)
theorem dX1_learn_5 : decode cX1_learn 5 = .ok (.aload_n 0, 1) := dk_42 (dk_at dksX1_learn_0 5 rfl rfl)
theorem dX1_learn_6 : decode cX1_learn 6 = .ok (.iload_n 2, 1) := dk_28 (dk_at dksX1_learn_0 6 rfl rfl)
theorem dX1_learn_7 : decode cX1_learn 7 = .ok (.invokevirtual 133, 3) := dk_182 0 133 (dk_at dksX1_learn_0 7 rfl rfl)
theorem dX1_learn_10 : decode cX1_learn 10 = .ok (.aload_n 0, 1) := dk_42 (dk_at dksX1_learn_0 10 rfl rfl)
theorem dX1_learn_11 : decode cX1_learn 11 = .ok (.iload_n 3, 1) := dk_29 (dk_at dksX1_learn_0 11 rfl rfl)
theorem dX1_learn_12 : decode cX1_learn 12 = .ok (.invokevirtual 182, 3) := dk_182 0 182 (dk_at dksX1_learn_0 12 rfl rfl)
theorem dX1_learn_15 : decode cX1_learn 15 = .ok (.iload_n 1, 1) := dk_27 (dk_at dksX1_learn_0 15 rfl rfl)
theorem dX1_learn_16 : decode cX1_learn 16 = .ok (.iload_n 2, 1) := dk_28 (dk_at dksX1_learn_0 16 rfl rfl)
theorem dX1_learn_17 : decode cX1_learn 17 = .ok (.if_icmp .eq 7, 3) := dk_159 0 7 (dk_at dksX1_learn_0 17 rfl rfl)
theorem dX1_learn_20 : decode cX1_learn 20 = .ok (.iconst 1, 1) := dk_4 (dk_at dksX1_learn_0 20 rfl rfl)
theorem dX1_learn_21 : decode cX1_learn 21 = .ok (.goto 4, 3) := dk_167 0 4 (dk_at dksX1_learn_0 21 rfl rfl)
theorem dX1_learn_24 : decode cX1_learn 24 = .ok (.iconst 0, 1) := dk_3 (dk_at dksX1_learn_1 0 rfl rfl)
theorem dX1_learn_25 : decode cX1_learn 25 = .ok (.invokestatic 82, 3) := dk_184 0 82 (dk_at dksX1_learn_1 1 rfl rfl)
theorem dX1_learn_28 : decode cX1_learn 28 = .ok (.aload_n 0, 1) := dk_42 (dk_at dksX1_learn_1 4 rfl rfl)
theorem dX1_learn_29 : decode cX1_learn 29 = .ok (.ldc_w 267, 3) := dk_19 1 11 (dk_at dksX1_learn_1 5 rfl rfl)
theorem dX1_learn_32 : decode cX1_learn 32 = .ok (.iload_n 1, 1) := dk_27 (dk_at dksX1_learn_1 8 rfl rfl)
theorem dX1_learn_33 : decode cX1_learn 33 = .ok (.iload_n 2, 1) := dk_28 (dk_at dksX1_learn_1 9 rfl rfl)
theorem dX1_learn_34 : decode cX1_learn 34 = .ok (.iload_n 3, 1) := dk_29 (dk_at dksX1_learn_1 10 rfl rfl)
theorem dX1_learn_35 : decode cX1_learn 35 = .ok (.invokevirtual 254, 3) := dk_182 0 254 (dk_at dksX1_learn_1 11 rfl rfl)
theorem dX1_learn_38 : decode cX1_learn 38 = .ok (.ireturn, 1) := dk_172 (dk_at dksX1_learn_1 14 rfl rfl)
abbrev cX1_pass : ByteArray := prog_1_method_30_code
def dkwX1_pass_0 : List UInt8 := [27, 4, 16, 60, 184, 0, 58, 184, 0, 82, 42, 19, 1, 13, 27, 3, 3, 182, 0, 254, 172]
abbrev dktX1_pass_0 : List UInt8 := dkwX1_pass_0 ++ []
theorem dksX1_pass_0 : cX1_pass.data.toList.drop 0 = dktX1_pass_0 := by decide +kernel
theorem dX1_pass_0 : decode cX1_pass 0 = .ok (.iload_n 1, 1) := dk_27 (dk_at dksX1_pass_0 0 rfl rfl)
theorem dX1_pass_1 : decode cX1_pass 1 = .ok (.iconst 1, 1) := dk_4 (dk_at dksX1_pass_0 1 rfl rfl)
theorem dX1_pass_2 : decode cX1_pass 2 = .ok (.bipush 60, 2) := dk_16 60 (dk_at dksX1_pass_0 2 rfl rfl)
theorem dX1_pass_4 : decode cX1_pass 4 = .ok (.invokestatic 58, 3) := dk_184 0 58 (dk_at dksX1_pass_0 4 rfl rfl)
theorem dX1_pass_7 : decode cX1_pass 7 = .ok (.invokestatic 82, 3) := dk_184 0 82 (dk_at dksX1_pass_0 7 rfl rfl)
theorem dX1_pass_10 : decode cX1_pass 10 = .ok (.aload_n 0, 1) := dk_42 (dk_at dksX1_pass_0 10 rfl rfl)
theorem dX1_pass_11 : decode cX1_pass 11 = .ok (.ldc_w 269, 3) := dk_19 1 13 (dk_at dksX1_pass_0 11 rfl rfl)
theorem dX1_pass_14 : decode cX1_pass 14 = .ok (.iload_n 1, 1) := dk_27 (dk_at dksX1_pass_0 14 rfl rfl)
theorem dX1_pass_15 : decode cX1_pass 15 = .ok (.iconst 0, 1) := dk_3 (dk_at dksX1_pass_0 15 rfl rfl)
theorem dX1_pass_16 : decode cX1_pass 16 = .ok (.iconst 0, 1) := dk_3 (dk_at dksX1_pass_0 16 rfl rfl)
theorem dX1_pass_17 : decode cX1_pass 17 = .ok (.invokevirtual 254, 3) := dk_182 0 254 (dk_at dksX1_pass_0 17 rfl rfl)
theorem dX1_pass_20 : decode cX1_pass 20 = .ok (.ireturn, 1) := dk_172 (dk_at dksX1_pass_0 20 rfl rfl)
abbrev cX1_courseIn : ByteArray := prog_1_method_31_code
def dkwX1_courseIn_1 : List UInt8 := [28, 182, 1, 15, 87, 45, 27, 182, 0, 189, 182, 0, 193, 172]
abbrev dktX1_courseIn_1 : List UInt8 := dkwX1_courseIn_1 ++ []
def dkwX1_courseIn_0 : List UInt8 := [42, 27, 182, 0, 182, 28, 3, 16, 60, 184, 0, 58, 184, 0, 82, 42, 180, 0, 19, 182, 0, 108, 78, 45]
abbrev dktX1_courseIn_0 : List UInt8 := dkwX1_courseIn_0 ++ dktX1_courseIn_1
theorem dksX1_courseIn_0 : cX1_courseIn.data.toList.drop 0 = dktX1_courseIn_0 := by decide +kernel
theorem dksX1_courseIn_1 : cX1_courseIn.data.toList.drop 24 = dktX1_courseIn_1 := dk_seg dksX1_courseIn_0 24 rfl rfl
theorem dX1_courseIn_0 : decode cX1_courseIn 0 = .ok (.aload_n 0, 1) := dk_42 (dk_at dksX1_courseIn_0 0 rfl rfl)
theorem dX1_courseIn_1 : decode cX1_courseIn 1 = .ok (.iload_n 1, 1) := dk_27 (dk_at dksX1_courseIn_0 1 rfl rfl)
theorem dX1_courseIn_2 : decode cX1_courseIn 2 = .ok (.invokevirtual 182, 3) := dk_182 0 182 (dk_at dksX1_courseIn_0 2 rfl rfl)
theorem dX1_courseIn_5 : decode cX1_courseIn 5 = .ok (.iload_n 2, 1) := dk_28 (dk_at dksX1_courseIn_0 5 rfl rfl)
theorem dX1_courseIn_6 : decode cX1_courseIn 6 = .ok (.iconst 0, 1) := dk_3 (dk_at dksX1_courseIn_0 6 rfl rfl)
theorem dX1_courseIn_7 : decode cX1_courseIn 7 = .ok (.bipush 60, 2) := dk_16 60 (dk_at dksX1_courseIn_0 7 rfl rfl)
theorem dX1_courseIn_9 : decode cX1_courseIn 9 = .ok (.invokestatic 58, 3) := dk_184 0 58 (dk_at dksX1_courseIn_0 9 rfl rfl)
theorem dX1_courseIn_12 : decode cX1_courseIn 12 = .ok (.invokestatic 82, 3) := dk_184 0 82 (dk_at dksX1_courseIn_0 12 rfl rfl)
theorem dX1_courseIn_15 : decode cX1_courseIn 15 = .ok (.aload_n 0, 1) := dk_42 (dk_at dksX1_courseIn_0 15 rfl rfl)
theorem dX1_courseIn_16 : decode cX1_courseIn 16 = .ok (.getfield 19, 3) := dk_180 0 19 (dk_at dksX1_courseIn_0 16 rfl rfl)
theorem dX1_courseIn_19 : decode cX1_courseIn 19 = .ok (.invokevirtual 108, 3) := dk_182 0 108 (dk_at dksX1_courseIn_0 19 rfl rfl)
theorem dX1_courseIn_22 : decode cX1_courseIn 22 = .ok (.astore_n 3, 1) := dk_78 (dk_at dksX1_courseIn_0 22 rfl rfl)
theorem dX1_courseIn_23 : decode cX1_courseIn 23 = .ok (.aload_n 3, 1) := dk_45 (dk_at dksX1_courseIn_0 23 rfl rfl)
theorem dX1_courseIn_24 : decode cX1_courseIn 24 = .ok (.iload_n 2, 1) := dk_28 (dk_at dksX1_courseIn_1 0 rfl rfl)
theorem dX1_courseIn_25 : decode cX1_courseIn 25 = .ok (.invokevirtual 271, 3) := dk_182 1 15 (dk_at dksX1_courseIn_1 1 rfl rfl)
theorem dX1_courseIn_28 : decode cX1_courseIn 28 = .ok (.pop, 1) := dk_87 (dk_at dksX1_courseIn_1 4 rfl rfl)
theorem dX1_courseIn_29 : decode cX1_courseIn 29 = .ok (.aload_n 3, 1) := dk_45 (dk_at dksX1_courseIn_1 5 rfl rfl)
theorem dX1_courseIn_30 : decode cX1_courseIn 30 = .ok (.iload_n 1, 1) := dk_27 (dk_at dksX1_courseIn_1 6 rfl rfl)
theorem dX1_courseIn_31 : decode cX1_courseIn 31 = .ok (.invokevirtual 189, 3) := dk_182 0 189 (dk_at dksX1_courseIn_1 7 rfl rfl)
theorem dX1_courseIn_34 : decode cX1_courseIn 34 = .ok (.invokevirtual 193, 3) := dk_182 0 193 (dk_at dksX1_courseIn_1 10 rfl rfl)
theorem dX1_courseIn_37 : decode cX1_courseIn 37 = .ok (.ireturn, 1) := dk_172 (dk_at dksX1_courseIn_1 13 rfl rfl)
abbrev cX1_clearIn : ByteArray := prog_1_method_32_code
def dkwX1_clearIn_1 : List UInt8 := [184, 0, 225, 28, 172]
abbrev dktX1_clearIn_1 : List UInt8 := dkwX1_clearIn_1 ++ []
def dkwX1_clearIn_0 : List UInt8 := [42, 27, 182, 0, 182, 42, 180, 0, 19, 27, 182, 1, 18, 61, 28, 2, 159, 0, 7, 4, 167, 0, 4, 3]
abbrev dktX1_clearIn_0 : List UInt8 := dkwX1_clearIn_0 ++ dktX1_clearIn_1
theorem dksX1_clearIn_0 : cX1_clearIn.data.toList.drop 0 = dktX1_clearIn_0 := by decide +kernel
theorem dksX1_clearIn_1 : cX1_clearIn.data.toList.drop 24 = dktX1_clearIn_1 := dk_seg dksX1_clearIn_0 24 rfl rfl
theorem dX1_clearIn_0 : decode cX1_clearIn 0 = .ok (.aload_n 0, 1) := dk_42 (dk_at dksX1_clearIn_0 0 rfl rfl)
theorem dX1_clearIn_1 : decode cX1_clearIn 1 = .ok (.iload_n 1, 1) := dk_27 (dk_at dksX1_clearIn_0 1 rfl rfl)
theorem dX1_clearIn_2 : decode cX1_clearIn 2 = .ok (.invokevirtual 182, 3) := dk_182 0 182 (dk_at dksX1_clearIn_0 2 rfl rfl)
theorem dX1_clearIn_5 : decode cX1_clearIn 5 = .ok (.aload_n 0, 1) := dk_42 (dk_at dksX1_clearIn_0 5 rfl rfl)
theorem dX1_clearIn_6 : decode cX1_clearIn 6 = .ok (.getfield 19, 3) := dk_180 0 19 (dk_at dksX1_clearIn_0 6 rfl rfl)
theorem dX1_clearIn_9 : decode cX1_clearIn 9 = .ok (.iload_n 1, 1) := dk_27 (dk_at dksX1_clearIn_0 9 rfl rfl)
theorem dX1_clearIn_10 : decode cX1_clearIn 10 = .ok (.invokevirtual 274, 3) := dk_182 1 18 (dk_at dksX1_clearIn_0 10 rfl rfl)
theorem dX1_clearIn_13 : decode cX1_clearIn 13 = .ok (.istore_n 2, 1) := dk_61 (dk_at dksX1_clearIn_0 13 rfl rfl)
theorem dX1_clearIn_14 : decode cX1_clearIn 14 = .ok (.iload_n 2, 1) := dk_28 (dk_at dksX1_clearIn_0 14 rfl rfl)
theorem dX1_clearIn_15 : decode cX1_clearIn 15 = .ok (.iconst (-1), 1) := dk_2 (dk_at dksX1_clearIn_0 15 rfl rfl)
theorem dX1_clearIn_16 : decode cX1_clearIn 16 = .ok (.if_icmp .eq 7, 3) := dk_159 0 7 (dk_at dksX1_clearIn_0 16 rfl rfl)
theorem dX1_clearIn_19 : decode cX1_clearIn 19 = .ok (.iconst 1, 1) := dk_4 (dk_at dksX1_clearIn_0 19 rfl rfl)
theorem dX1_clearIn_20 : decode cX1_clearIn 20 = .ok (.goto 4, 3) := dk_167 0 4 (dk_at dksX1_clearIn_0 20 rfl rfl)
theorem dX1_clearIn_23 : decode cX1_clearIn 23 = .ok (.iconst 0, 1) := dk_3 (dk_at dksX1_clearIn_0 23 rfl rfl)
theorem dX1_clearIn_24 : decode cX1_clearIn 24 = .ok (.invokestatic 225, 3) := dk_184 0 225 (dk_at dksX1_clearIn_1 0 rfl rfl)
theorem dX1_clearIn_27 : decode cX1_clearIn 27 = .ok (.iload_n 2, 1) := dk_28 (dk_at dksX1_clearIn_1 3 rfl rfl)
theorem dX1_clearIn_28 : decode cX1_clearIn 28 = .ok (.ireturn, 1) := dk_172 (dk_at dksX1_clearIn_1 4 rfl rfl)
abbrev cX1_messageOf : ByteArray := prog_1_method_34_code
def dkwX1_messageOf_4 : List UInt8 := [25, 4, 185, 1, 38, 1, 0, 172]
abbrev dktX1_messageOf_4 : List UInt8 := dkwX1_messageOf_4 ++ []
def dkwX1_messageOf_3 : List UInt8 := [185, 1, 34, 1, 0, 167, 0, 25, 28, 5, 160, 0, 13, 25, 4, 185, 1, 36, 1, 0, 167, 0, 10]
abbrev dktX1_messageOf_3 : List UInt8 := dkwX1_messageOf_3 ++ dktX1_messageOf_4
def dkwX1_messageOf_2 : List UInt8 := [154, 0, 13, 25, 4, 185, 1, 33, 1, 0, 167, 0, 40, 28, 4, 160, 0, 13, 25, 4]
abbrev dktX1_messageOf_2 : List UInt8 := dkwX1_messageOf_2 ++ dktX1_messageOf_3
def dkwX1_messageOf_1 : List UInt8 := [28, 3, 6, 184, 0, 58, 184, 0, 82, 45, 27, 185, 1, 27, 2, 0, 192, 1, 31, 58, 4, 28]
abbrev dktX1_messageOf_1 : List UInt8 := dkwX1_messageOf_1 ++ dktX1_messageOf_2
def dkwX1_messageOf_0 : List UInt8 := [42, 180, 0, 19, 182, 1, 24, 78, 27, 3, 45, 185, 0, 69, 1, 0, 4, 100, 184, 0, 58, 184, 0, 225]
abbrev dktX1_messageOf_0 : List UInt8 := dkwX1_messageOf_0 ++ dktX1_messageOf_1
theorem dksX1_messageOf_0 : cX1_messageOf.data.toList.drop 0 = dktX1_messageOf_0 := by decide +kernel
theorem dksX1_messageOf_1 : cX1_messageOf.data.toList.drop 24 = dktX1_messageOf_1 := dk_seg dksX1_messageOf_0 24 rfl rfl
theorem dksX1_messageOf_2 : cX1_messageOf.data.toList.drop 46 = dktX1_messageOf_2 := dk_seg dksX1_messageOf_1 22 rfl rfl
theorem dksX1_messageOf_3 : cX1_messageOf.data.toList.drop 66 = dktX1_messageOf_3 := dk_seg dksX1_messageOf_2 20 rfl rfl
theorem dksX1_messageOf_4 : cX1_messageOf.data.toList.drop 89 = dktX1_messageOf_4 := dk_seg dksX1_messageOf_3 23 rfl rfl
theorem dX1_messageOf_0 : decode cX1_messageOf 0 = .ok (.aload_n 0, 1) := dk_42 (dk_at dksX1_messageOf_0 0 rfl rfl)
theorem dX1_messageOf_1 : decode cX1_messageOf 1 = .ok (.getfield 19, 3) := dk_180 0 19 (dk_at dksX1_messageOf_0 1 rfl rfl)
theorem dX1_messageOf_4 : decode cX1_messageOf 4 = .ok (.invokevirtual 280, 3) := dk_182 1 24 (dk_at dksX1_messageOf_0 4 rfl rfl)
theorem dX1_messageOf_7 : decode cX1_messageOf 7 = .ok (.astore_n 3, 1) := dk_78 (dk_at dksX1_messageOf_0 7 rfl rfl)
theorem dX1_messageOf_8 : decode cX1_messageOf 8 = .ok (.iload_n 1, 1) := dk_27 (dk_at dksX1_messageOf_0 8 rfl rfl)
theorem dX1_messageOf_9 : decode cX1_messageOf 9 = .ok (.iconst 0, 1) := dk_3 (dk_at dksX1_messageOf_0 9 rfl rfl)
theorem dX1_messageOf_10 : decode cX1_messageOf 10 = .ok (.aload_n 3, 1) := dk_45 (dk_at dksX1_messageOf_0 10 rfl rfl)
theorem dX1_messageOf_11 : decode cX1_messageOf 11 = .ok (.invokeinterface 69 1, 5) := by decide +kernel
theorem dX1_messageOf_16 : decode cX1_messageOf 16 = .ok (.iconst 1, 1) := dk_4 (dk_at dksX1_messageOf_0 16 rfl rfl)
theorem dX1_messageOf_17 : decode cX1_messageOf 17 = .ok (.isub, 1) := dk_100 (dk_at dksX1_messageOf_0 17 rfl rfl)
theorem dX1_messageOf_18 : decode cX1_messageOf 18 = .ok (.invokestatic 58, 3) := dk_184 0 58 (dk_at dksX1_messageOf_0 18 rfl rfl)
theorem dX1_messageOf_21 : decode cX1_messageOf 21 = .ok (.invokestatic 225, 3) := dk_184 0 225 (dk_at dksX1_messageOf_0 21 rfl rfl)
theorem dX1_messageOf_24 : decode cX1_messageOf 24 = .ok (.iload_n 2, 1) := dk_28 (dk_at dksX1_messageOf_1 0 rfl rfl)
theorem dX1_messageOf_25 : decode cX1_messageOf 25 = .ok (.iconst 0, 1) := dk_3 (dk_at dksX1_messageOf_1 1 rfl rfl)
theorem dX1_messageOf_26 : decode cX1_messageOf 26 = .ok (.iconst 3, 1) := dk_6 (dk_at dksX1_messageOf_1 2 rfl rfl)
theorem dX1_messageOf_27 : decode cX1_messageOf 27 = .ok (.invokestatic 58, 3) := dk_184 0 58 (dk_at dksX1_messageOf_1 3 rfl rfl)
theorem dX1_messageOf_30 : decode cX1_messageOf 30 = .ok (.invokestatic 82, 3) := dk_184 0 82 (dk_at dksX1_messageOf_1 6 rfl rfl)
theorem dX1_messageOf_33 : decode cX1_messageOf 33 = .ok (.aload_n 3, 1) := dk_45 (dk_at dksX1_messageOf_1 9 rfl rfl)
theorem dX1_messageOf_34 : decode cX1_messageOf 34 = .ok (.iload_n 1, 1) := dk_27 (dk_at dksX1_messageOf_1 10 rfl rfl)
theorem dX1_messageOf_35 : decode cX1_messageOf 35 = .ok (.invokeinterface 283 2, 5) := by decide +kernel
theorem dX1_messageOf_40 : decode cX1_messageOf 40 = .ok (.checkcast 287, 3) := dk_192 1 31 (dk_at dksX1_messageOf_1 16 rfl rfl)
theorem dX1_messageOf_43 : decode cX1_messageOf 43 = .ok (.astore 4, 2) := dk_58 4 (dk_at dksX1_messageOf_1 19 rfl rfl)
theorem dX1_messageOf_45 : decode cX1_messageOf 45 = .ok (.iload_n 2, 1) := dk_28 (dk_at dksX1_messageOf_1 21 rfl rfl)
theorem dX1_messageOf_46 : decode cX1_messageOf 46 = .ok (.ifCond .ne 13, 3) := dk_154 0 13 (dk_at dksX1_messageOf_2 0 rfl rfl)
theorem dX1_messageOf_49 : decode cX1_messageOf 49 = .ok (.aload 4, 2) := dk_25 4 (dk_at dksX1_messageOf_2 3 rfl rfl)
theorem dX1_messageOf_51 : decode cX1_messageOf 51 = .ok (.invokeinterface 289 1, 5) := by decide +kernel
theorem dX1_messageOf_56 : decode cX1_messageOf 56 = .ok (.goto 40, 3) := dk_167 0 40 (dk_at dksX1_messageOf_2 10 rfl rfl)
theorem dX1_messageOf_59 : decode cX1_messageOf 59 = .ok (.iload_n 2, 1) := dk_28 (dk_at dksX1_messageOf_2 13 rfl rfl)
theorem dX1_messageOf_60 : decode cX1_messageOf 60 = .ok (.iconst 1, 1) := dk_4 (dk_at dksX1_messageOf_2 14 rfl rfl)
theorem dX1_messageOf_61 : decode cX1_messageOf 61 = .ok (.if_icmp .ne 13, 3) := dk_160 0 13 (dk_at dksX1_messageOf_2 15 rfl rfl)
theorem dX1_messageOf_64 : decode cX1_messageOf 64 = .ok (.aload 4, 2) := dk_25 4 (dk_at dksX1_messageOf_2 18 rfl rfl)
theorem dX1_messageOf_66 : decode cX1_messageOf 66 = .ok (.invokeinterface 290 1, 5) := by decide +kernel
theorem dX1_messageOf_71 : decode cX1_messageOf 71 = .ok (.goto 25, 3) := dk_167 0 25 (dk_at dksX1_messageOf_3 5 rfl rfl)
theorem dX1_messageOf_74 : decode cX1_messageOf 74 = .ok (.iload_n 2, 1) := dk_28 (dk_at dksX1_messageOf_3 8 rfl rfl)
theorem dX1_messageOf_75 : decode cX1_messageOf 75 = .ok (.iconst 2, 1) := dk_5 (dk_at dksX1_messageOf_3 9 rfl rfl)
theorem dX1_messageOf_76 : decode cX1_messageOf 76 = .ok (.if_icmp .ne 13, 3) := dk_160 0 13 (dk_at dksX1_messageOf_3 10 rfl rfl)
theorem dX1_messageOf_79 : decode cX1_messageOf 79 = .ok (.aload 4, 2) := dk_25 4 (dk_at dksX1_messageOf_3 13 rfl rfl)
theorem dX1_messageOf_81 : decode cX1_messageOf 81 = .ok (.invokeinterface 292 1, 5) := by decide +kernel
theorem dX1_messageOf_86 : decode cX1_messageOf 86 = .ok (.goto 10, 3) := dk_167 0 10 (dk_at dksX1_messageOf_3 20 rfl rfl)
theorem dX1_messageOf_89 : decode cX1_messageOf 89 = .ok (.aload 4, 2) := dk_25 4 (dk_at dksX1_messageOf_4 0 rfl rfl)
theorem dX1_messageOf_91 : decode cX1_messageOf 91 = .ok (.invokeinterface 294 1, 5) := by decide +kernel
theorem dX1_messageOf_96 : decode cX1_messageOf 96 = .ok (.ireturn, 1) := dk_172 (dk_at dksX1_messageOf_4 7 rfl rfl)
abbrev cX1_logOf : ByteArray := prog_1_method_35_code
def dkwX1_logOf_2 : List UInt8 := [28, 185, 1, 27, 2, 0, 192, 1, 48, 29, 182, 1, 50, 172]
abbrev dktX1_logOf_2 : List UInt8 := dkwX1_logOf_2 ++ []
def dkwX1_logOf_1 : List UInt8 := [185, 0, 69, 1, 0, 4, 100, 184, 0, 58, 184, 0, 225, 29, 3, 5, 184, 0, 58, 184, 0, 82, 25, 4]
abbrev dktX1_logOf_1 : List UInt8 := dkwX1_logOf_1 ++ dktX1_logOf_2
def dkwX1_logOf_0 : List UInt8 := [42, 27, 182, 1, 4, 42, 180, 0, 19, 27, 182, 1, 41, 182, 1, 45, 58, 4, 28, 3, 25, 4]
abbrev dktX1_logOf_0 : List UInt8 := dkwX1_logOf_0 ++ dktX1_logOf_1
theorem dksX1_logOf_0 : cX1_logOf.data.toList.drop 0 = dktX1_logOf_0 := by decide +kernel
theorem dksX1_logOf_1 : cX1_logOf.data.toList.drop 22 = dktX1_logOf_1 := dk_seg dksX1_logOf_0 22 rfl rfl
theorem dksX1_logOf_2 : cX1_logOf.data.toList.drop 46 = dktX1_logOf_2 := dk_seg dksX1_logOf_1 24 rfl rfl
theorem dX1_logOf_0 : decode cX1_logOf 0 = .ok (.aload_n 0, 1) := dk_42 (dk_at dksX1_logOf_0 0 rfl rfl)
theorem dX1_logOf_1 : decode cX1_logOf 1 = .ok (.iload_n 1, 1) := dk_27 (dk_at dksX1_logOf_0 1 rfl rfl)
theorem dX1_logOf_2 : decode cX1_logOf 2 = .ok (.invokevirtual 260, 3) := dk_182 1 4 (dk_at dksX1_logOf_0 2 rfl rfl)
theorem dX1_logOf_5 : decode cX1_logOf 5 = .ok (.aload_n 0, 1) := dk_42 (dk_at dksX1_logOf_0 5 rfl rfl)
theorem dX1_logOf_6 : decode cX1_logOf 6 = .ok (.getfield 19, 3) := dk_180 0 19 (dk_at dksX1_logOf_0 6 rfl rfl)
theorem dX1_logOf_9 : decode cX1_logOf 9 = .ok (.iload_n 1, 1) := dk_27 (dk_at dksX1_logOf_0 9 rfl rfl)
theorem dX1_logOf_10 : decode cX1_logOf 10 = .ok (.invokevirtual 297, 3) := dk_182 1 41 (dk_at dksX1_logOf_0 10 rfl rfl)
theorem dX1_logOf_13 : decode cX1_logOf 13 = .ok (.invokevirtual 301, 3) := dk_182 1 45 (dk_at dksX1_logOf_0 13 rfl rfl)
theorem dX1_logOf_16 : decode cX1_logOf 16 = .ok (.astore 4, 2) := dk_58 4 (dk_at dksX1_logOf_0 16 rfl rfl)
theorem dX1_logOf_18 : decode cX1_logOf 18 = .ok (.iload_n 2, 1) := dk_28 (dk_at dksX1_logOf_0 18 rfl rfl)
theorem dX1_logOf_19 : decode cX1_logOf 19 = .ok (.iconst 0, 1) := dk_3 (dk_at dksX1_logOf_0 19 rfl rfl)
theorem dX1_logOf_20 : decode cX1_logOf 20 = .ok (.aload 4, 2) := dk_25 4 (dk_at dksX1_logOf_0 20 rfl rfl)
theorem dX1_logOf_22 : decode cX1_logOf 22 = .ok (.invokeinterface 69 1, 5) := by decide +kernel
theorem dX1_logOf_27 : decode cX1_logOf 27 = .ok (.iconst 1, 1) := dk_4 (dk_at dksX1_logOf_1 5 rfl rfl)
theorem dX1_logOf_28 : decode cX1_logOf 28 = .ok (.isub, 1) := dk_100 (dk_at dksX1_logOf_1 6 rfl rfl)
theorem dX1_logOf_29 : decode cX1_logOf 29 = .ok (.invokestatic 58, 3) := dk_184 0 58 (dk_at dksX1_logOf_1 7 rfl rfl)
theorem dX1_logOf_32 : decode cX1_logOf 32 = .ok (.invokestatic 225, 3) := dk_184 0 225 (dk_at dksX1_logOf_1 10 rfl rfl)
theorem dX1_logOf_35 : decode cX1_logOf 35 = .ok (.iload_n 3, 1) := dk_29 (dk_at dksX1_logOf_1 13 rfl rfl)
theorem dX1_logOf_36 : decode cX1_logOf 36 = .ok (.iconst 0, 1) := dk_3 (dk_at dksX1_logOf_1 14 rfl rfl)
theorem dX1_logOf_37 : decode cX1_logOf 37 = .ok (.iconst 2, 1) := dk_5 (dk_at dksX1_logOf_1 15 rfl rfl)
theorem dX1_logOf_38 : decode cX1_logOf 38 = .ok (.invokestatic 58, 3) := dk_184 0 58 (dk_at dksX1_logOf_1 16 rfl rfl)
theorem dX1_logOf_41 : decode cX1_logOf 41 = .ok (.invokestatic 82, 3) := dk_184 0 82 (dk_at dksX1_logOf_1 19 rfl rfl)
theorem dX1_logOf_44 : decode cX1_logOf 44 = .ok (.aload 4, 2) := dk_25 4 (dk_at dksX1_logOf_1 22 rfl rfl)
theorem dX1_logOf_46 : decode cX1_logOf 46 = .ok (.iload_n 2, 1) := dk_28 (dk_at dksX1_logOf_2 0 rfl rfl)
theorem dX1_logOf_47 : decode cX1_logOf 47 = .ok (.invokeinterface 283 2, 5) := by decide +kernel
theorem dX1_logOf_52 : decode cX1_logOf 52 = .ok (.checkcast 304, 3) := dk_192 1 48 (dk_at dksX1_logOf_2 6 rfl rfl)
theorem dX1_logOf_55 : decode cX1_logOf 55 = .ok (.iload_n 3, 1) := dk_29 (dk_at dksX1_logOf_2 9 rfl rfl)
theorem dX1_logOf_56 : decode cX1_logOf 56 = .ok (.invokevirtual 306, 3) := dk_182 1 50 (dk_at dksX1_logOf_2 10 rfl rfl)
theorem dX1_logOf_59 : decode cX1_logOf 59 = .ok (.ireturn, 1) := dk_172 (dk_at dksX1_logOf_2 13 rfl rfl)
abbrev cX1_ranked : ByteArray := prog_1_method_36_code
def dkwX1_ranked_1 : List UInt8 := [44, 27, 185, 1, 27, 2, 0, 192, 1, 55, 182, 1, 57, 172]
abbrev dktX1_ranked_1 : List UInt8 := dkwX1_ranked_1 ++ []
def dkwX1_ranked_0 : List UInt8 := [42, 180, 0, 19, 182, 1, 52, 77, 27, 3, 44, 185, 0, 69, 1, 0, 4, 100, 184, 0, 58, 184, 0, 225]
abbrev dktX1_ranked_0 : List UInt8 := dkwX1_ranked_0 ++ dktX1_ranked_1
theorem dksX1_ranked_0 : cX1_ranked.data.toList.drop 0 = dktX1_ranked_0 := by decide +kernel
theorem dksX1_ranked_1 : cX1_ranked.data.toList.drop 24 = dktX1_ranked_1 := dk_seg dksX1_ranked_0 24 rfl rfl
theorem dX1_ranked_0 : decode cX1_ranked 0 = .ok (.aload_n 0, 1) := dk_42 (dk_at dksX1_ranked_0 0 rfl rfl)
theorem dX1_ranked_1 : decode cX1_ranked 1 = .ok (.getfield 19, 3) := dk_180 0 19 (dk_at dksX1_ranked_0 1 rfl rfl)
theorem dX1_ranked_4 : decode cX1_ranked 4 = .ok (.invokevirtual 308, 3) := dk_182 1 52 (dk_at dksX1_ranked_0 4 rfl rfl)
theorem dX1_ranked_7 : decode cX1_ranked 7 = .ok (.astore_n 2, 1) := dk_77 (dk_at dksX1_ranked_0 7 rfl rfl)
theorem dX1_ranked_8 : decode cX1_ranked 8 = .ok (.iload_n 1, 1) := dk_27 (dk_at dksX1_ranked_0 8 rfl rfl)
theorem dX1_ranked_9 : decode cX1_ranked 9 = .ok (.iconst 0, 1) := dk_3 (dk_at dksX1_ranked_0 9 rfl rfl)
theorem dX1_ranked_10 : decode cX1_ranked 10 = .ok (.aload_n 2, 1) := dk_44 (dk_at dksX1_ranked_0 10 rfl rfl)
theorem dX1_ranked_11 : decode cX1_ranked 11 = .ok (.invokeinterface 69 1, 5) := by decide +kernel
theorem dX1_ranked_16 : decode cX1_ranked 16 = .ok (.iconst 1, 1) := dk_4 (dk_at dksX1_ranked_0 16 rfl rfl)
theorem dX1_ranked_17 : decode cX1_ranked 17 = .ok (.isub, 1) := dk_100 (dk_at dksX1_ranked_0 17 rfl rfl)
theorem dX1_ranked_18 : decode cX1_ranked 18 = .ok (.invokestatic 58, 3) := dk_184 0 58 (dk_at dksX1_ranked_0 18 rfl rfl)
theorem dX1_ranked_21 : decode cX1_ranked 21 = .ok (.invokestatic 225, 3) := dk_184 0 225 (dk_at dksX1_ranked_0 21 rfl rfl)
theorem dX1_ranked_24 : decode cX1_ranked 24 = .ok (.aload_n 2, 1) := dk_44 (dk_at dksX1_ranked_1 0 rfl rfl)
theorem dX1_ranked_25 : decode cX1_ranked 25 = .ok (.iload_n 1, 1) := dk_27 (dk_at dksX1_ranked_1 1 rfl rfl)
theorem dX1_ranked_26 : decode cX1_ranked 26 = .ok (.invokeinterface 283 2, 5) := by decide +kernel
theorem dX1_ranked_31 : decode cX1_ranked 31 = .ok (.checkcast 311, 3) := dk_192 1 55 (dk_at dksX1_ranked_1 7 rfl rfl)
theorem dX1_ranked_34 : decode cX1_ranked 34 = .ok (.invokevirtual 313, 3) := dk_182 1 57 (dk_at dksX1_ranked_1 10 rfl rfl)
theorem dX1_ranked_37 : decode cX1_ranked 37 = .ok (.ireturn, 1) := dk_172 (dk_at dksX1_ranked_1 13 rfl rfl)
abbrev cX1_type : ByteArray := prog_1_method_37_code
def dkwX1_type_1 : List UInt8 := [27, 182, 1, 66, 87, 42, 180, 0, 35, 182, 1, 60, 172]
abbrev dktX1_type_1 : List UInt8 := dkwX1_type_1 ++ []
def dkwX1_type_0 : List UInt8 := [42, 180, 0, 35, 182, 1, 60, 16, 60, 162, 0, 7, 4, 167, 0, 4, 3, 184, 1, 63, 42, 180, 0, 35]
abbrev dktX1_type_0 : List UInt8 := dkwX1_type_0 ++ dktX1_type_1
theorem dksX1_type_0 : cX1_type.data.toList.drop 0 = dktX1_type_0 := by decide +kernel
theorem dksX1_type_1 : cX1_type.data.toList.drop 24 = dktX1_type_1 := dk_seg dksX1_type_0 24 rfl rfl
theorem dX1_type_0 : decode cX1_type 0 = .ok (.aload_n 0, 1) := dk_42 (dk_at dksX1_type_0 0 rfl rfl)
theorem dX1_type_1 : decode cX1_type 1 = .ok (.getfield 35, 3) := dk_180 0 35 (dk_at dksX1_type_0 1 rfl rfl)
theorem dX1_type_4 : decode cX1_type 4 = .ok (.invokevirtual 316, 3) := dk_182 1 60 (dk_at dksX1_type_0 4 rfl rfl)
theorem dX1_type_7 : decode cX1_type 7 = .ok (.bipush 60, 2) := dk_16 60 (dk_at dksX1_type_0 7 rfl rfl)
theorem dX1_type_9 : decode cX1_type 9 = .ok (.if_icmp .ge 7, 3) := dk_162 0 7 (dk_at dksX1_type_0 9 rfl rfl)
theorem dX1_type_12 : decode cX1_type 12 = .ok (.iconst 1, 1) := dk_4 (dk_at dksX1_type_0 12 rfl rfl)
theorem dX1_type_13 : decode cX1_type 13 = .ok (.goto 4, 3) := dk_167 0 4 (dk_at dksX1_type_0 13 rfl rfl)
theorem dX1_type_16 : decode cX1_type 16 = .ok (.iconst 0, 1) := dk_3 (dk_at dksX1_type_0 16 rfl rfl)
theorem dX1_type_17 : decode cX1_type 17 = .ok (.invokestatic 319, 3) := dk_184 1 63 (dk_at dksX1_type_0 17 rfl rfl)
theorem dX1_type_20 : decode cX1_type 20 = .ok (.aload_n 0, 1) := dk_42 (dk_at dksX1_type_0 20 rfl rfl)
theorem dX1_type_21 : decode cX1_type 21 = .ok (.getfield 35, 3) := dk_180 0 35 (dk_at dksX1_type_0 21 rfl rfl)
theorem dX1_type_24 : decode cX1_type 24 = .ok (.iload_n 1, 1) := dk_27 (dk_at dksX1_type_1 0 rfl rfl)
theorem dX1_type_25 : decode cX1_type 25 = .ok (.invokevirtual 322, 3) := dk_182 1 66 (dk_at dksX1_type_1 1 rfl rfl)
theorem dX1_type_28 : decode cX1_type 28 = .ok (.pop, 1) := dk_87 (dk_at dksX1_type_1 4 rfl rfl)
theorem dX1_type_29 : decode cX1_type 29 = .ok (.aload_n 0, 1) := dk_42 (dk_at dksX1_type_1 5 rfl rfl)
theorem dX1_type_30 : decode cX1_type 30 = .ok (.getfield 35, 3) := dk_180 0 35 (dk_at dksX1_type_1 6 rfl rfl)
theorem dX1_type_33 : decode cX1_type 33 = .ok (.invokevirtual 316, 3) := dk_182 1 60 (dk_at dksX1_type_1 9 rfl rfl)
theorem dX1_type_36 : decode cX1_type 36 = .ok (.ireturn, 1) := dk_172 (dk_at dksX1_type_1 12 rfl rfl)
abbrev cX1_requireState : ByteArray := prog_1_method_6_code
def dkwX1_requireState_0 : List UInt8 := [26, 154, 0, 11, 187, 0, 52, 89, 183, 0, 54, 191, 177]
abbrev dktX1_requireState_0 : List UInt8 := dkwX1_requireState_0 ++ []
theorem dksX1_requireState_0 : cX1_requireState.data.toList.drop 0 = dktX1_requireState_0 := by decide +kernel
theorem dX1_requireState_0 : decode cX1_requireState 0 = .ok (.iload_n 0, 1) := dk_26 (dk_at dksX1_requireState_0 0 rfl rfl)
theorem dX1_requireState_1 : decode cX1_requireState 1 = .ok (.ifCond .ne 11, 3) := dk_154 0 11 (dk_at dksX1_requireState_0 1 rfl rfl)
theorem dX1_requireState_4 : decode cX1_requireState 4 = .ok (.new 52, 3) := dk_187 0 52 (dk_at dksX1_requireState_0 4 rfl rfl)
theorem dX1_requireState_7 : decode cX1_requireState 7 = .ok (.dup, 1) := dk_89 (dk_at dksX1_requireState_0 7 rfl rfl)
theorem dX1_requireState_8 : decode cX1_requireState 8 = .ok (.invokespecial 54, 3) := dk_183 0 54 (dk_at dksX1_requireState_0 8 rfl rfl)
theorem dX1_requireState_11 : decode cX1_requireState 11 = .ok (.athrow, 1) := dk_191 (dk_at dksX1_requireState_0 11 rfl rfl)
theorem dX1_requireState_12 : decode cX1_requireState 12 = .ok (.return_, 1) := dk_177 (dk_at dksX1_requireState_0 12 rfl rfl)
abbrev cX7_countsYes : ByteArray := prog_4_method_11_code
def dkwX7_countsYes_0 : List UInt8 := [42, 89, 180, 0, 73, 4, 27, 120, 128, 181, 0, 73, 177]
abbrev dktX7_countsYes_0 : List UInt8 := dkwX7_countsYes_0 ++ []
theorem dksX7_countsYes_0 : cX7_countsYes.data.toList.drop 0 = dktX7_countsYes_0 := by decide +kernel
theorem dX7_countsYes_0 : decode cX7_countsYes 0 = .ok (.aload_n 0, 1) := dk_42 (dk_at dksX7_countsYes_0 0 rfl rfl)
theorem dX7_countsYes_1 : decode cX7_countsYes 1 = .ok (.dup, 1) := dk_89 (dk_at dksX7_countsYes_0 1 rfl rfl)
theorem dX7_countsYes_2 : decode cX7_countsYes 2 = .ok (.getfield 73, 3) := dk_180 0 73 (dk_at dksX7_countsYes_0 2 rfl rfl)
theorem dX7_countsYes_5 : decode cX7_countsYes 5 = .ok (.iconst 1, 1) := dk_4 (dk_at dksX7_countsYes_0 5 rfl rfl)
theorem dX7_countsYes_6 : decode cX7_countsYes 6 = .ok (.iload_n 1, 1) := dk_27 (dk_at dksX7_countsYes_0 6 rfl rfl)
theorem dX7_countsYes_7 : decode cX7_countsYes 7 = .ok (.ishl, 1) := dk_120 (dk_at dksX7_countsYes_0 7 rfl rfl)
theorem dX7_countsYes_8 : decode cX7_countsYes 8 = .ok (.ior, 1) := dk_128 (dk_at dksX7_countsYes_0 8 rfl rfl)
theorem dX7_countsYes_9 : decode cX7_countsYes 9 = .ok (.putfield 73, 3) := dk_181 0 73 (dk_at dksX7_countsYes_0 9 rfl rfl)
theorem dX7_countsYes_12 : decode cX7_countsYes 12 = .ok (.return_, 1) := dk_177 (dk_at dksX7_countsYes_0 12 rfl rfl)
abbrev cX11_does : ByteArray := prog_2_method_3_code
def dkwX11_does_8 : List UInt8 := [180, 0, 22, 182, 0, 76, 172, 43, 42, 180, 0, 15, 182, 0, 80, 172]
abbrev dktX11_does_8 : List UInt8 := dkwX11_does_8 ++ []
def dkwX11_does_7 : List UInt8 := [182, 0, 70, 172, 43, 42, 180, 0, 15, 182, 0, 73, 172, 43, 42, 180, 0, 15, 42, 180, 0, 19, 42]
abbrev dktX11_does_7 : List UInt8 := dkwX11_does_7 ++ dktX11_does_8
def dkwX11_does_6 : List UInt8 := [43, 42, 180, 0, 15, 182, 0, 63, 172, 43, 42, 180, 0, 15, 182, 0, 67, 172, 43, 42, 180, 0, 15]
abbrev dktX11_does_6 : List UInt8 := dkwX11_does_6 ++ dktX11_does_7
def dkwX11_does_5 : List UInt8 := [170, 0, 0, 0, 0, 0, 0, 89, 0, 0, 0, 0, 0, 0, 0, 4, 0, 0, 0, 36, 0, 0, 0, 45, 0, 0, 0, 54, 0, 0, 0, 63, 0, 0, 0, 72]
abbrev dktX11_does_5 : List UInt8 := dkwX11_does_5 ++ dktX11_does_6
def dkwX11_does_4 : List UInt8 := [153, 0, 19, 6, 62, 167, 0, 14, 44, 18, 57, 182, 0, 47, 153, 0, 5, 7, 62, 29]
abbrev dktX11_does_4 : List UInt8 := dkwX11_does_4 ++ dktX11_does_5
def dkwX11_does_3 : List UInt8 := [62, 167, 0, 42, 44, 18, 53, 182, 0, 47, 153, 0, 33, 5, 62, 167, 0, 28, 44, 18, 55, 182, 0, 47]
abbrev dktX11_does_3 : List UInt8 := dkwX11_does_3 ++ dktX11_does_4
def dkwX11_does_2 : List UInt8 := [44, 18, 45, 182, 0, 47, 153, 0, 61, 3, 62, 167, 0, 56, 44, 18, 51, 182, 0, 47, 153, 0, 47, 4]
abbrev dktX11_does_2 : List UInt8 := dkwX11_does_2 ++ dktX11_does_3
def dkwX11_does_1 : List UInt8 := [171, 0, 0, 0, 116, 0, 0, 0, 5, 174, 122, 46, 122, 0, 0, 0, 63, 0, 1, 122, 121, 0, 0, 0, 49, 0, 55, 145, 164, 0, 0, 0, 91, 5, 203, 13, 84, 0, 0, 0, 77, 6, 33, 78, 68, 0, 0, 0, 105]
abbrev dktX11_does_1 : List UInt8 := dkwX11_does_1 ++ dktX11_does_2
def dkwX11_does_0 : List UInt8 := [42, 180, 0, 9, 77, 2, 62, 44, 182, 0, 40]
abbrev dktX11_does_0 : List UInt8 := dkwX11_does_0 ++ dktX11_does_1
theorem dksX11_does_0 : cX11_does.data.toList.drop 0 = dktX11_does_0 := by decide +kernel
theorem dksX11_does_1 : cX11_does.data.toList.drop 11 = dktX11_does_1 := dk_seg dksX11_does_0 11 rfl rfl
theorem dksX11_does_2 : cX11_does.data.toList.drop 60 = dktX11_does_2 := dk_seg dksX11_does_1 49 rfl rfl
theorem dksX11_does_3 : cX11_does.data.toList.drop 84 = dktX11_does_3 := dk_seg dksX11_does_2 24 rfl rfl
theorem dksX11_does_4 : cX11_does.data.toList.drop 108 = dktX11_does_4 := dk_seg dksX11_does_3 24 rfl rfl
theorem dksX11_does_5 : cX11_does.data.toList.drop 128 = dktX11_does_5 := dk_seg dksX11_does_4 20 rfl rfl
theorem dksX11_does_6 : cX11_does.data.toList.drop 164 = dktX11_does_6 := dk_seg dksX11_does_5 36 rfl rfl
theorem dksX11_does_7 : cX11_does.data.toList.drop 187 = dktX11_does_7 := dk_seg dksX11_does_6 23 rfl rfl
theorem dksX11_does_8 : cX11_does.data.toList.drop 210 = dktX11_does_8 := dk_seg dksX11_does_7 23 rfl rfl
theorem dX11_does_0 : decode cX11_does 0 = .ok (.aload_n 0, 1) := dk_42 (dk_at dksX11_does_0 0 rfl rfl)
theorem dX11_does_1 : decode cX11_does 1 = .ok (.getfield 9, 3) := dk_180 0 9 (dk_at dksX11_does_0 1 rfl rfl)
theorem dX11_does_4 : decode cX11_does 4 = .ok (.astore_n 2, 1) := dk_77 (dk_at dksX11_does_0 4 rfl rfl)
theorem dX11_does_5 : decode cX11_does 5 = .ok (.iconst (-1), 1) := dk_2 (dk_at dksX11_does_0 5 rfl rfl)
theorem dX11_does_6 : decode cX11_does 6 = .ok (.istore_n 3, 1) := dk_62 (dk_at dksX11_does_0 6 rfl rfl)
theorem dX11_does_7 : decode cX11_does 7 = .ok (.aload_n 2, 1) := dk_44 (dk_at dksX11_does_0 7 rfl rfl)
theorem dX11_does_8 : decode cX11_does 8 = .ok (.invokevirtual 40, 3) := dk_182 0 40 (dk_at dksX11_does_0 8 rfl rfl)
theorem dX11_does_11 : decode cX11_does 11 = .ok (.lookupswitch 116 #[(-1367724422, 63), (96889, 49), (3641764, 91), (97193300, 77), (102846020, 105)], 49) := by decide +kernel
theorem dX11_does_60 : decode cX11_does 60 = .ok (.aload_n 2, 1) := dk_44 (dk_at dksX11_does_2 0 rfl rfl)
theorem dX11_does_61 : decode cX11_does 61 = .ok (.ldc 45, 2) := dk_18 45 (dk_at dksX11_does_2 1 rfl rfl)
theorem dX11_does_63 : decode cX11_does 63 = .ok (.invokevirtual 47, 3) := dk_182 0 47 (dk_at dksX11_does_2 3 rfl rfl)
theorem dX11_does_66 : decode cX11_does 66 = .ok (.ifCond .eq 61, 3) := dk_153 0 61 (dk_at dksX11_does_2 6 rfl rfl)
theorem dX11_does_69 : decode cX11_does 69 = .ok (.iconst 0, 1) := dk_3 (dk_at dksX11_does_2 9 rfl rfl)
theorem dX11_does_70 : decode cX11_does 70 = .ok (.istore_n 3, 1) := dk_62 (dk_at dksX11_does_2 10 rfl rfl)
theorem dX11_does_71 : decode cX11_does 71 = .ok (.goto 56, 3) := dk_167 0 56 (dk_at dksX11_does_2 11 rfl rfl)
theorem dX11_does_74 : decode cX11_does 74 = .ok (.aload_n 2, 1) := dk_44 (dk_at dksX11_does_2 14 rfl rfl)
theorem dX11_does_75 : decode cX11_does 75 = .ok (.ldc 51, 2) := dk_18 51 (dk_at dksX11_does_2 15 rfl rfl)
theorem dX11_does_77 : decode cX11_does 77 = .ok (.invokevirtual 47, 3) := dk_182 0 47 (dk_at dksX11_does_2 17 rfl rfl)
theorem dX11_does_80 : decode cX11_does 80 = .ok (.ifCond .eq 47, 3) := dk_153 0 47 (dk_at dksX11_does_2 20 rfl rfl)
theorem dX11_does_83 : decode cX11_does 83 = .ok (.iconst 1, 1) := dk_4 (dk_at dksX11_does_2 23 rfl rfl)
theorem dX11_does_84 : decode cX11_does 84 = .ok (.istore_n 3, 1) := dk_62 (dk_at dksX11_does_3 0 rfl rfl)
theorem dX11_does_85 : decode cX11_does 85 = .ok (.goto 42, 3) := dk_167 0 42 (dk_at dksX11_does_3 1 rfl rfl)
theorem dX11_does_88 : decode cX11_does 88 = .ok (.aload_n 2, 1) := dk_44 (dk_at dksX11_does_3 4 rfl rfl)
theorem dX11_does_89 : decode cX11_does 89 = .ok (.ldc 53, 2) := dk_18 53 (dk_at dksX11_does_3 5 rfl rfl)
theorem dX11_does_91 : decode cX11_does 91 = .ok (.invokevirtual 47, 3) := dk_182 0 47 (dk_at dksX11_does_3 7 rfl rfl)
theorem dX11_does_94 : decode cX11_does 94 = .ok (.ifCond .eq 33, 3) := dk_153 0 33 (dk_at dksX11_does_3 10 rfl rfl)
theorem dX11_does_97 : decode cX11_does 97 = .ok (.iconst 2, 1) := dk_5 (dk_at dksX11_does_3 13 rfl rfl)
theorem dX11_does_98 : decode cX11_does 98 = .ok (.istore_n 3, 1) := dk_62 (dk_at dksX11_does_3 14 rfl rfl)
theorem dX11_does_99 : decode cX11_does 99 = .ok (.goto 28, 3) := dk_167 0 28 (dk_at dksX11_does_3 15 rfl rfl)
theorem dX11_does_102 : decode cX11_does 102 = .ok (.aload_n 2, 1) := dk_44 (dk_at dksX11_does_3 18 rfl rfl)
theorem dX11_does_103 : decode cX11_does 103 = .ok (.ldc 55, 2) := dk_18 55 (dk_at dksX11_does_3 19 rfl rfl)
theorem dX11_does_105 : decode cX11_does 105 = .ok (.invokevirtual 47, 3) := dk_182 0 47 (dk_at dksX11_does_3 21 rfl rfl)
theorem dX11_does_108 : decode cX11_does 108 = .ok (.ifCond .eq 19, 3) := dk_153 0 19 (dk_at dksX11_does_4 0 rfl rfl)
theorem dX11_does_111 : decode cX11_does 111 = .ok (.iconst 3, 1) := dk_6 (dk_at dksX11_does_4 3 rfl rfl)
theorem dX11_does_112 : decode cX11_does 112 = .ok (.istore_n 3, 1) := dk_62 (dk_at dksX11_does_4 4 rfl rfl)
theorem dX11_does_113 : decode cX11_does 113 = .ok (.goto 14, 3) := dk_167 0 14 (dk_at dksX11_does_4 5 rfl rfl)
theorem dX11_does_116 : decode cX11_does 116 = .ok (.aload_n 2, 1) := dk_44 (dk_at dksX11_does_4 8 rfl rfl)
theorem dX11_does_117 : decode cX11_does 117 = .ok (.ldc 57, 2) := dk_18 57 (dk_at dksX11_does_4 9 rfl rfl)
theorem dX11_does_119 : decode cX11_does 119 = .ok (.invokevirtual 47, 3) := dk_182 0 47 (dk_at dksX11_does_4 11 rfl rfl)
theorem dX11_does_122 : decode cX11_does 122 = .ok (.ifCond .eq 5, 3) := dk_153 0 5 (dk_at dksX11_does_4 14 rfl rfl)
theorem dX11_does_125 : decode cX11_does 125 = .ok (.iconst 4, 1) := dk_7 (dk_at dksX11_does_4 17 rfl rfl)
theorem dX11_does_126 : decode cX11_does 126 = .ok (.istore_n 3, 1) := dk_62 (dk_at dksX11_does_4 18 rfl rfl)
theorem dX11_does_127 : decode cX11_does 127 = .ok (.iload_n 3, 1) := dk_29 (dk_at dksX11_does_4 19 rfl rfl)
theorem dX11_does_128 : decode cX11_does 128 = .ok (.tableswitch 89 0 4 #[36, 45, 54, 63, 72], 36) := by decide +kernel
theorem dX11_does_164 : decode cX11_does 164 = .ok (.aload_n 1, 1) := dk_43 (dk_at dksX11_does_6 0 rfl rfl)
theorem dX11_does_165 : decode cX11_does 165 = .ok (.aload_n 0, 1) := dk_42 (dk_at dksX11_does_6 1 rfl rfl)
theorem dX11_does_166 : decode cX11_does 166 = .ok (.getfield 15, 3) := dk_180 0 15 (dk_at dksX11_does_6 2 rfl rfl)
theorem dX11_does_169 : decode cX11_does 169 = .ok (.invokevirtual 63, 3) := dk_182 0 63 (dk_at dksX11_does_6 5 rfl rfl)
theorem dX11_does_172 : decode cX11_does 172 = .ok (.ireturn, 1) := dk_172 (dk_at dksX11_does_6 8 rfl rfl)
theorem dX11_does_173 : decode cX11_does 173 = .ok (.aload_n 1, 1) := dk_43 (dk_at dksX11_does_6 9 rfl rfl)
theorem dX11_does_174 : decode cX11_does 174 = .ok (.aload_n 0, 1) := dk_42 (dk_at dksX11_does_6 10 rfl rfl)
theorem dX11_does_175 : decode cX11_does 175 = .ok (.getfield 15, 3) := dk_180 0 15 (dk_at dksX11_does_6 11 rfl rfl)
theorem dX11_does_178 : decode cX11_does 178 = .ok (.invokevirtual 67, 3) := dk_182 0 67 (dk_at dksX11_does_6 14 rfl rfl)
theorem dX11_does_181 : decode cX11_does 181 = .ok (.ireturn, 1) := dk_172 (dk_at dksX11_does_6 17 rfl rfl)
theorem dX11_does_182 : decode cX11_does 182 = .ok (.aload_n 1, 1) := dk_43 (dk_at dksX11_does_6 18 rfl rfl)
theorem dX11_does_183 : decode cX11_does 183 = .ok (.aload_n 0, 1) := dk_42 (dk_at dksX11_does_6 19 rfl rfl)
theorem dX11_does_184 : decode cX11_does 184 = .ok (.getfield 15, 3) := dk_180 0 15 (dk_at dksX11_does_6 20 rfl rfl)
theorem dX11_does_187 : decode cX11_does 187 = .ok (.invokevirtual 70, 3) := dk_182 0 70 (dk_at dksX11_does_7 0 rfl rfl)
theorem dX11_does_190 : decode cX11_does 190 = .ok (.ireturn, 1) := dk_172 (dk_at dksX11_does_7 3 rfl rfl)
theorem dX11_does_191 : decode cX11_does 191 = .ok (.aload_n 1, 1) := dk_43 (dk_at dksX11_does_7 4 rfl rfl)
theorem dX11_does_192 : decode cX11_does 192 = .ok (.aload_n 0, 1) := dk_42 (dk_at dksX11_does_7 5 rfl rfl)
theorem dX11_does_193 : decode cX11_does 193 = .ok (.getfield 15, 3) := dk_180 0 15 (dk_at dksX11_does_7 6 rfl rfl)
theorem dX11_does_196 : decode cX11_does 196 = .ok (.invokevirtual 73, 3) := dk_182 0 73 (dk_at dksX11_does_7 9 rfl rfl)
theorem dX11_does_199 : decode cX11_does 199 = .ok (.ireturn, 1) := dk_172 (dk_at dksX11_does_7 12 rfl rfl)
theorem dX11_does_200 : decode cX11_does 200 = .ok (.aload_n 1, 1) := dk_43 (dk_at dksX11_does_7 13 rfl rfl)
theorem dX11_does_201 : decode cX11_does 201 = .ok (.aload_n 0, 1) := dk_42 (dk_at dksX11_does_7 14 rfl rfl)
theorem dX11_does_202 : decode cX11_does 202 = .ok (.getfield 15, 3) := dk_180 0 15 (dk_at dksX11_does_7 15 rfl rfl)
theorem dX11_does_205 : decode cX11_does 205 = .ok (.aload_n 0, 1) := dk_42 (dk_at dksX11_does_7 18 rfl rfl)
theorem dX11_does_206 : decode cX11_does 206 = .ok (.getfield 19, 3) := dk_180 0 19 (dk_at dksX11_does_7 19 rfl rfl)
theorem dX11_does_209 : decode cX11_does 209 = .ok (.aload_n 0, 1) := dk_42 (dk_at dksX11_does_7 22 rfl rfl)
theorem dX11_does_210 : decode cX11_does 210 = .ok (.getfield 22, 3) := dk_180 0 22 (dk_at dksX11_does_8 0 rfl rfl)
theorem dX11_does_213 : decode cX11_does 213 = .ok (.invokevirtual 76, 3) := dk_182 0 76 (dk_at dksX11_does_8 3 rfl rfl)
theorem dX11_does_216 : decode cX11_does 216 = .ok (.ireturn, 1) := dk_172 (dk_at dksX11_does_8 6 rfl rfl)
theorem dX11_does_217 : decode cX11_does 217 = .ok (.aload_n 1, 1) := dk_43 (dk_at dksX11_does_8 7 rfl rfl)
theorem dX11_does_218 : decode cX11_does 218 = .ok (.aload_n 0, 1) := dk_42 (dk_at dksX11_does_8 8 rfl rfl)
theorem dX11_does_219 : decode cX11_does 219 = .ok (.getfield 15, 3) := dk_180 0 15 (dk_at dksX11_does_8 9 rfl rfl)
theorem dX11_does_222 : decode cX11_does 222 = .ok (.invokevirtual 80, 3) := dk_182 0 80 (dk_at dksX11_does_8 12 rfl rfl)
theorem dX11_does_225 : decode cX11_does 225 = .ok (.ireturn, 1) := dk_172 (dk_at dksX11_does_8 15 rfl rfl)
abbrev cX12_number : ByteArray := prog_15_method_2_code
def dkwX12_number_1 : List UInt8 := [180, 0, 16, 172]
abbrev dktX12_number_1 : List UInt8 := dkwX12_number_1 ++ []
def dkwX12_number_0 : List UInt8 := [27, 154, 0, 10, 42, 180, 0, 7, 167, 0, 19, 27, 4, 160, 0, 10, 42, 180, 0, 13, 167, 0, 7, 42]
abbrev dktX12_number_0 : List UInt8 := dkwX12_number_0 ++ dktX12_number_1
theorem dksX12_number_0 : cX12_number.data.toList.drop 0 = dktX12_number_0 := by decide +kernel
theorem dksX12_number_1 : cX12_number.data.toList.drop 24 = dktX12_number_1 := dk_seg dksX12_number_0 24 rfl rfl
theorem dX12_number_0 : decode cX12_number 0 = .ok (.iload_n 1, 1) := dk_27 (dk_at dksX12_number_0 0 rfl rfl)
theorem dX12_number_1 : decode cX12_number 1 = .ok (.ifCond .ne 10, 3) := dk_154 0 10 (dk_at dksX12_number_0 1 rfl rfl)
theorem dX12_number_4 : decode cX12_number 4 = .ok (.aload_n 0, 1) := dk_42 (dk_at dksX12_number_0 4 rfl rfl)
theorem dX12_number_5 : decode cX12_number 5 = .ok (.getfield 7, 3) := dk_180 0 7 (dk_at dksX12_number_0 5 rfl rfl)
theorem dX12_number_8 : decode cX12_number 8 = .ok (.goto 19, 3) := dk_167 0 19 (dk_at dksX12_number_0 8 rfl rfl)
theorem dX12_number_11 : decode cX12_number 11 = .ok (.iload_n 1, 1) := dk_27 (dk_at dksX12_number_0 11 rfl rfl)
theorem dX12_number_12 : decode cX12_number 12 = .ok (.iconst 1, 1) := dk_4 (dk_at dksX12_number_0 12 rfl rfl)
theorem dX12_number_13 : decode cX12_number 13 = .ok (.if_icmp .ne 10, 3) := dk_160 0 10 (dk_at dksX12_number_0 13 rfl rfl)
theorem dX12_number_16 : decode cX12_number 16 = .ok (.aload_n 0, 1) := dk_42 (dk_at dksX12_number_0 16 rfl rfl)
theorem dX12_number_17 : decode cX12_number 17 = .ok (.getfield 13, 3) := dk_180 0 13 (dk_at dksX12_number_0 17 rfl rfl)
theorem dX12_number_20 : decode cX12_number 20 = .ok (.goto 7, 3) := dk_167 0 7 (dk_at dksX12_number_0 20 rfl rfl)
theorem dX12_number_23 : decode cX12_number 23 = .ok (.aload_n 0, 1) := dk_42 (dk_at dksX12_number_0 23 rfl rfl)
theorem dX12_number_24 : decode cX12_number 24 = .ok (.getfield 16, 3) := dk_180 0 16 (dk_at dksX12_number_1 0 rfl rfl)
theorem dX12_number_27 : decode cX12_number 27 = .ok (.ireturn, 1) := dk_172 (dk_at dksX12_number_1 3 rfl rfl)
abbrev cX17_init : ByteArray := prog_18_method_1_code
def dkwX17_init_0 : List UInt8 := [42, 183, 0, 3, 42, 43, 181, 0, 9, 177]
abbrev dktX17_init_0 : List UInt8 := dkwX17_init_0 ++ []
theorem dksX17_init_0 : cX17_init.data.toList.drop 0 = dktX17_init_0 := by decide +kernel
theorem dX17_init_0 : decode cX17_init 0 = .ok (.aload_n 0, 1) := dk_42 (dk_at dksX17_init_0 0 rfl rfl)
theorem dX17_init_1 : decode cX17_init 1 = .ok (.invokespecial 3, 3) := dk_183 0 3 (dk_at dksX17_init_0 1 rfl rfl)
theorem dX17_init_4 : decode cX17_init 4 = .ok (.aload_n 0, 1) := dk_42 (dk_at dksX17_init_0 4 rfl rfl)
theorem dX17_init_5 : decode cX17_init 5 = .ok (.aload_n 1, 1) := dk_43 (dk_at dksX17_init_0 5 rfl rfl)
theorem dX17_init_6 : decode cX17_init 6 = .ok (.putfield 9, 3) := dk_181 0 9 (dk_at dksX17_init_0 6 rfl rfl)
theorem dX17_init_9 : decode cX17_init 9 = .ok (.return_, 1) := dk_177 (dk_at dksX17_init_0 9 rfl rfl)
abbrev cX17_commands : ByteArray := prog_18_method_10_code
def dkwX17_commands_2 : List UInt8 := [185, 0, 114, 2, 0, 87, 167, 255, 225, 43, 176]
abbrev dktX17_commands_2 : List UInt8 := dkwX17_commands_2 ++ []
def dkwX17_commands_1 : List UInt8 := [180, 0, 9, 182, 0, 19, 162, 0, 23, 42, 18, 119, 182, 0, 77, 43, 42, 182, 0, 110]
abbrev dktX17_commands_1 : List UInt8 := dkwX17_commands_1 ++ dktX17_commands_2
def dkwX17_commands_0 : List UInt8 := [187, 0, 107, 89, 183, 0, 109, 76, 43, 42, 182, 0, 110, 185, 0, 114, 2, 0, 87, 42, 180, 0, 15, 42]
abbrev dktX17_commands_0 : List UInt8 := dkwX17_commands_0 ++ dktX17_commands_1
theorem dksX17_commands_0 : cX17_commands.data.toList.drop 0 = dktX17_commands_0 := by decide +kernel
theorem dksX17_commands_1 : cX17_commands.data.toList.drop 24 = dktX17_commands_1 := dk_seg dksX17_commands_0 24 rfl rfl
theorem dksX17_commands_2 : cX17_commands.data.toList.drop 44 = dktX17_commands_2 := dk_seg dksX17_commands_1 20 rfl rfl
theorem dX17_commands_0 : decode cX17_commands 0 = .ok (.new 107, 3) := dk_187 0 107 (dk_at dksX17_commands_0 0 rfl rfl)
theorem dX17_commands_3 : decode cX17_commands 3 = .ok (.dup, 1) := dk_89 (dk_at dksX17_commands_0 3 rfl rfl)
theorem dX17_commands_4 : decode cX17_commands 4 = .ok (.invokespecial 109, 3) := dk_183 0 109 (dk_at dksX17_commands_0 4 rfl rfl)
theorem dX17_commands_7 : decode cX17_commands 7 = .ok (.astore_n 1, 1) := dk_76 (dk_at dksX17_commands_0 7 rfl rfl)
theorem dX17_commands_8 : decode cX17_commands 8 = .ok (.aload_n 1, 1) := dk_43 (dk_at dksX17_commands_0 8 rfl rfl)
theorem dX17_commands_9 : decode cX17_commands 9 = .ok (.aload_n 0, 1) := dk_42 (dk_at dksX17_commands_0 9 rfl rfl)
theorem dX17_commands_10 : decode cX17_commands 10 = .ok (.invokevirtual 110, 3) := dk_182 0 110 (dk_at dksX17_commands_0 10 rfl rfl)
theorem dX17_commands_13 : decode cX17_commands 13 = .ok (.invokeinterface 114 2, 5) := by decide +kernel
theorem dX17_commands_18 : decode cX17_commands 18 = .ok (.pop, 1) := dk_87 (dk_at dksX17_commands_0 18 rfl rfl)
theorem dX17_commands_19 : decode cX17_commands 19 = .ok (.aload_n 0, 1) := dk_42 (dk_at dksX17_commands_0 19 rfl rfl)
theorem dX17_commands_20 : decode cX17_commands 20 = .ok (.getfield 15, 3) := dk_180 0 15 (dk_at dksX17_commands_0 20 rfl rfl)
theorem dX17_commands_23 : decode cX17_commands 23 = .ok (.aload_n 0, 1) := dk_42 (dk_at dksX17_commands_0 23 rfl rfl)
theorem dX17_commands_24 : decode cX17_commands 24 = .ok (.getfield 9, 3) := dk_180 0 9 (dk_at dksX17_commands_1 0 rfl rfl)
theorem dX17_commands_27 : decode cX17_commands 27 = .ok (.invokevirtual 19, 3) := dk_182 0 19 (dk_at dksX17_commands_1 3 rfl rfl)
theorem dX17_commands_30 : decode cX17_commands 30 = .ok (.if_icmp .ge 23, 3) := dk_162 0 23 (dk_at dksX17_commands_1 6 rfl rfl)
theorem dX17_commands_33 : decode cX17_commands 33 = .ok (.aload_n 0, 1) := dk_42 (dk_at dksX17_commands_1 9 rfl rfl)
theorem dX17_commands_34 : decode cX17_commands 34 = .ok (.ldc 119, 2) := dk_18 119 (dk_at dksX17_commands_1 10 rfl rfl)
theorem dX17_commands_36 : decode cX17_commands 36 = .ok (.invokevirtual 77, 3) := dk_182 0 77 (dk_at dksX17_commands_1 12 rfl rfl)
theorem dX17_commands_39 : decode cX17_commands 39 = .ok (.aload_n 1, 1) := dk_43 (dk_at dksX17_commands_1 15 rfl rfl)
theorem dX17_commands_40 : decode cX17_commands 40 = .ok (.aload_n 0, 1) := dk_42 (dk_at dksX17_commands_1 16 rfl rfl)
theorem dX17_commands_41 : decode cX17_commands 41 = .ok (.invokevirtual 110, 3) := dk_182 0 110 (dk_at dksX17_commands_1 17 rfl rfl)
theorem dX17_commands_44 : decode cX17_commands 44 = .ok (.invokeinterface 114 2, 5) := by decide +kernel
theorem dX17_commands_49 : decode cX17_commands 49 = .ok (.pop, 1) := dk_87 (dk_at dksX17_commands_2 5 rfl rfl)
theorem dX17_commands_50 : decode cX17_commands 50 = .ok (.goto (-31), 3) := dk_167 255 225 (dk_at dksX17_commands_2 6 rfl rfl)
theorem dX17_commands_53 : decode cX17_commands 53 = .ok (.aload_n 1, 1) := dk_43 (dk_at dksX17_commands_2 9 rfl rfl)
theorem dX17_commands_54 : decode cX17_commands 54 = .ok (.areturn, 1) := dk_176 (dk_at dksX17_commands_2 10 rfl rfl)
abbrev cX17_command : ByteArray := prog_18_method_9_code
def dkwX17_command_10 : List UInt8 := [187, 0, 99, 89, 43, 42, 182, 0, 72, 3, 3, 183, 0, 104, 176]
abbrev dktX17_command_10 : List UInt8 := dkwX17_command_10 ++ []
def dkwX17_command_9 : List UInt8 := [153, 0, 16, 16, 10, 21, 6, 104, 42, 182, 0, 72, 96, 167, 0, 5, 21, 6, 3, 3, 183, 0, 104, 176]
abbrev dktX17_command_9 : List UInt8 := dkwX17_command_9 ++ dktX17_command_10
def dkwX17_command_8 : List UInt8 := [42, 182, 0, 72, 183, 0, 104, 176, 42, 182, 0, 72, 54, 6, 187, 0, 99, 89, 43, 42, 182, 0, 42]
abbrev dktX17_command_8 : List UInt8 := dkwX17_command_8 ++ dktX17_command_9
def dkwX17_command_7 : List UInt8 := [182, 0, 77, 42, 182, 0, 72, 54, 5, 42, 18, 51, 182, 0, 77, 187, 0, 99, 89, 43, 21, 4, 21, 5]
abbrev dktX17_command_7 : List UInt8 := dkwX17_command_7 ++ dktX17_command_8
def dkwX17_command_6 : List UInt8 := [187, 0, 99, 89, 43, 42, 182, 0, 101, 3, 3, 183, 0, 104, 176, 42, 182, 0, 72, 54, 4, 42, 18, 51]
abbrev dktX17_command_6 : List UInt8 := dkwX17_command_6 ++ dktX17_command_7
def dkwX17_command_5 : List UInt8 := [170, 0, 0, 0, 0, 125, 0, 0, 0, 0, 0, 0, 0, 3, 0, 0, 0, 30, 0, 0, 0, 30, 0, 0, 0, 45, 0, 0, 0, 86]
abbrev dktX17_command_5 : List UInt8 := dkwX17_command_5 ++ dktX17_command_6
def dkwX17_command_4 : List UInt8 := [153, 0, 5, 6, 62, 29]
abbrev dktX17_command_4 : List UInt8 := dkwX17_command_4 ++ dktX17_command_5
def dkwX17_command_3 : List UInt8 := [62, 167, 0, 28, 44, 18, 95, 182, 0, 89, 153, 0, 19, 5, 62, 167, 0, 14, 44, 18, 97, 182, 0, 89]
abbrev dktX17_command_3 : List UInt8 := dkwX17_command_3 ++ dktX17_command_4
def dkwX17_command_2 : List UInt8 := [44, 18, 87, 182, 0, 89, 153, 0, 47, 3, 62, 167, 0, 42, 44, 18, 93, 182, 0, 89, 153, 0, 33, 4]
abbrev dktX17_command_2 : List UInt8 := dkwX17_command_2 ++ dktX17_command_3
def dkwX17_command_1 : List UInt8 := [171, 0, 0, 0, 94, 0, 0, 0, 4, 0, 55, 145, 117, 0, 0, 0, 83, 0, 55, 145, 164, 0, 0, 0, 55, 5, 203, 13, 84, 0, 0, 0, 41, 6, 33, 78, 68, 0, 0, 0, 69]
abbrev dktX17_command_1 : List UInt8 := dkwX17_command_1 ++ dktX17_command_2
def dkwX17_command_0 : List UInt8 := [42, 182, 0, 81, 76, 42, 18, 51, 182, 0, 77, 43, 77, 2, 62, 44, 182, 0, 84]
abbrev dktX17_command_0 : List UInt8 := dkwX17_command_0 ++ dktX17_command_1
theorem dksX17_command_0 : cX17_command.data.toList.drop 0 = dktX17_command_0 := by decide +kernel
theorem dksX17_command_1 : cX17_command.data.toList.drop 19 = dktX17_command_1 := dk_seg dksX17_command_0 19 rfl rfl
theorem dksX17_command_2 : cX17_command.data.toList.drop 60 = dktX17_command_2 := dk_seg dksX17_command_1 41 rfl rfl
theorem dksX17_command_3 : cX17_command.data.toList.drop 84 = dktX17_command_3 := dk_seg dksX17_command_2 24 rfl rfl
theorem dksX17_command_4 : cX17_command.data.toList.drop 108 = dktX17_command_4 := dk_seg dksX17_command_3 24 rfl rfl
theorem dksX17_command_5 : cX17_command.data.toList.drop 114 = dktX17_command_5 := dk_seg dksX17_command_4 6 rfl rfl
theorem dksX17_command_6 : cX17_command.data.toList.drop 144 = dktX17_command_6 := dk_seg dksX17_command_5 30 rfl rfl
theorem dksX17_command_7 : cX17_command.data.toList.drop 168 = dktX17_command_7 := dk_seg dksX17_command_6 24 rfl rfl
theorem dksX17_command_8 : cX17_command.data.toList.drop 192 = dktX17_command_8 := dk_seg dksX17_command_7 24 rfl rfl
theorem dksX17_command_9 : cX17_command.data.toList.drop 215 = dktX17_command_9 := dk_seg dksX17_command_8 23 rfl rfl
theorem dksX17_command_10 : cX17_command.data.toList.drop 239 = dktX17_command_10 := dk_seg dksX17_command_9 24 rfl rfl
theorem dX17_command_0 : decode cX17_command 0 = .ok (.aload_n 0, 1) := dk_42 (dk_at dksX17_command_0 0 rfl rfl)
theorem dX17_command_1 : decode cX17_command 1 = .ok (.invokevirtual 81, 3) := dk_182 0 81 (dk_at dksX17_command_0 1 rfl rfl)
theorem dX17_command_4 : decode cX17_command 4 = .ok (.astore_n 1, 1) := dk_76 (dk_at dksX17_command_0 4 rfl rfl)
theorem dX17_command_5 : decode cX17_command 5 = .ok (.aload_n 0, 1) := dk_42 (dk_at dksX17_command_0 5 rfl rfl)
theorem dX17_command_6 : decode cX17_command 6 = .ok (.ldc 51, 2) := dk_18 51 (dk_at dksX17_command_0 6 rfl rfl)
theorem dX17_command_8 : decode cX17_command 8 = .ok (.invokevirtual 77, 3) := dk_182 0 77 (dk_at dksX17_command_0 8 rfl rfl)
theorem dX17_command_11 : decode cX17_command 11 = .ok (.aload_n 1, 1) := dk_43 (dk_at dksX17_command_0 11 rfl rfl)
theorem dX17_command_12 : decode cX17_command 12 = .ok (.astore_n 2, 1) := dk_77 (dk_at dksX17_command_0 12 rfl rfl)
theorem dX17_command_13 : decode cX17_command 13 = .ok (.iconst (-1), 1) := dk_2 (dk_at dksX17_command_0 13 rfl rfl)
theorem dX17_command_14 : decode cX17_command 14 = .ok (.istore_n 3, 1) := dk_62 (dk_at dksX17_command_0 14 rfl rfl)
theorem dX17_command_15 : decode cX17_command 15 = .ok (.aload_n 2, 1) := dk_44 (dk_at dksX17_command_0 15 rfl rfl)
theorem dX17_command_16 : decode cX17_command 16 = .ok (.invokevirtual 84, 3) := dk_182 0 84 (dk_at dksX17_command_0 16 rfl rfl)
theorem dX17_command_19 : decode cX17_command 19 = .ok (.lookupswitch 94 #[(3641717, 83), (3641764, 55), (97193300, 41), (102846020, 69)], 41) := by decide +kernel
theorem dX17_command_60 : decode cX17_command 60 = .ok (.aload_n 2, 1) := dk_44 (dk_at dksX17_command_2 0 rfl rfl)
theorem dX17_command_61 : decode cX17_command 61 = .ok (.ldc 87, 2) := dk_18 87 (dk_at dksX17_command_2 1 rfl rfl)
theorem dX17_command_63 : decode cX17_command 63 = .ok (.invokevirtual 89, 3) := dk_182 0 89 (dk_at dksX17_command_2 3 rfl rfl)
theorem dX17_command_66 : decode cX17_command 66 = .ok (.ifCond .eq 47, 3) := dk_153 0 47 (dk_at dksX17_command_2 6 rfl rfl)
theorem dX17_command_69 : decode cX17_command 69 = .ok (.iconst 0, 1) := dk_3 (dk_at dksX17_command_2 9 rfl rfl)
theorem dX17_command_70 : decode cX17_command 70 = .ok (.istore_n 3, 1) := dk_62 (dk_at dksX17_command_2 10 rfl rfl)
theorem dX17_command_71 : decode cX17_command 71 = .ok (.goto 42, 3) := dk_167 0 42 (dk_at dksX17_command_2 11 rfl rfl)
theorem dX17_command_74 : decode cX17_command 74 = .ok (.aload_n 2, 1) := dk_44 (dk_at dksX17_command_2 14 rfl rfl)
theorem dX17_command_75 : decode cX17_command 75 = .ok (.ldc 93, 2) := dk_18 93 (dk_at dksX17_command_2 15 rfl rfl)
theorem dX17_command_77 : decode cX17_command 77 = .ok (.invokevirtual 89, 3) := dk_182 0 89 (dk_at dksX17_command_2 17 rfl rfl)
theorem dX17_command_80 : decode cX17_command 80 = .ok (.ifCond .eq 33, 3) := dk_153 0 33 (dk_at dksX17_command_2 20 rfl rfl)
theorem dX17_command_83 : decode cX17_command 83 = .ok (.iconst 1, 1) := dk_4 (dk_at dksX17_command_2 23 rfl rfl)
theorem dX17_command_84 : decode cX17_command 84 = .ok (.istore_n 3, 1) := dk_62 (dk_at dksX17_command_3 0 rfl rfl)
theorem dX17_command_85 : decode cX17_command 85 = .ok (.goto 28, 3) := dk_167 0 28 (dk_at dksX17_command_3 1 rfl rfl)
theorem dX17_command_88 : decode cX17_command 88 = .ok (.aload_n 2, 1) := dk_44 (dk_at dksX17_command_3 4 rfl rfl)
theorem dX17_command_89 : decode cX17_command 89 = .ok (.ldc 95, 2) := dk_18 95 (dk_at dksX17_command_3 5 rfl rfl)
theorem dX17_command_91 : decode cX17_command 91 = .ok (.invokevirtual 89, 3) := dk_182 0 89 (dk_at dksX17_command_3 7 rfl rfl)
theorem dX17_command_94 : decode cX17_command 94 = .ok (.ifCond .eq 19, 3) := dk_153 0 19 (dk_at dksX17_command_3 10 rfl rfl)
theorem dX17_command_97 : decode cX17_command 97 = .ok (.iconst 2, 1) := dk_5 (dk_at dksX17_command_3 13 rfl rfl)
theorem dX17_command_98 : decode cX17_command 98 = .ok (.istore_n 3, 1) := dk_62 (dk_at dksX17_command_3 14 rfl rfl)
theorem dX17_command_99 : decode cX17_command 99 = .ok (.goto 14, 3) := dk_167 0 14 (dk_at dksX17_command_3 15 rfl rfl)
theorem dX17_command_102 : decode cX17_command 102 = .ok (.aload_n 2, 1) := dk_44 (dk_at dksX17_command_3 18 rfl rfl)
theorem dX17_command_103 : decode cX17_command 103 = .ok (.ldc 97, 2) := dk_18 97 (dk_at dksX17_command_3 19 rfl rfl)
theorem dX17_command_105 : decode cX17_command 105 = .ok (.invokevirtual 89, 3) := dk_182 0 89 (dk_at dksX17_command_3 21 rfl rfl)
theorem dX17_command_108 : decode cX17_command 108 = .ok (.ifCond .eq 5, 3) := dk_153 0 5 (dk_at dksX17_command_4 0 rfl rfl)
theorem dX17_command_111 : decode cX17_command 111 = .ok (.iconst 3, 1) := dk_6 (dk_at dksX17_command_4 3 rfl rfl)
theorem dX17_command_112 : decode cX17_command 112 = .ok (.istore_n 3, 1) := dk_62 (dk_at dksX17_command_4 4 rfl rfl)
theorem dX17_command_113 : decode cX17_command 113 = .ok (.iload_n 3, 1) := dk_29 (dk_at dksX17_command_4 5 rfl rfl)
theorem dX17_command_114 : decode cX17_command 114 = .ok (.tableswitch 125 0 3 #[30, 30, 45, 86], 30) := by decide +kernel
theorem dX17_command_144 : decode cX17_command 144 = .ok (.new 99, 3) := dk_187 0 99 (dk_at dksX17_command_6 0 rfl rfl)
theorem dX17_command_147 : decode cX17_command 147 = .ok (.dup, 1) := dk_89 (dk_at dksX17_command_6 3 rfl rfl)
theorem dX17_command_148 : decode cX17_command 148 = .ok (.aload_n 1, 1) := dk_43 (dk_at dksX17_command_6 4 rfl rfl)
theorem dX17_command_149 : decode cX17_command 149 = .ok (.aload_n 0, 1) := dk_42 (dk_at dksX17_command_6 5 rfl rfl)
theorem dX17_command_150 : decode cX17_command 150 = .ok (.invokevirtual 101, 3) := dk_182 0 101 (dk_at dksX17_command_6 6 rfl rfl)
theorem dX17_command_153 : decode cX17_command 153 = .ok (.iconst 0, 1) := dk_3 (dk_at dksX17_command_6 9 rfl rfl)
theorem dX17_command_154 : decode cX17_command 154 = .ok (.iconst 0, 1) := dk_3 (dk_at dksX17_command_6 10 rfl rfl)
theorem dX17_command_155 : decode cX17_command 155 = .ok (.invokespecial 104, 3) := dk_183 0 104 (dk_at dksX17_command_6 11 rfl rfl)
theorem dX17_command_158 : decode cX17_command 158 = .ok (.areturn, 1) := dk_176 (dk_at dksX17_command_6 14 rfl rfl)
theorem dX17_command_159 : decode cX17_command 159 = .ok (.aload_n 0, 1) := dk_42 (dk_at dksX17_command_6 15 rfl rfl)
theorem dX17_command_160 : decode cX17_command 160 = .ok (.invokevirtual 72, 3) := dk_182 0 72 (dk_at dksX17_command_6 16 rfl rfl)
theorem dX17_command_163 : decode cX17_command 163 = .ok (.istore 4, 2) := dk_54 4 (dk_at dksX17_command_6 19 rfl rfl)
theorem dX17_command_165 : decode cX17_command 165 = .ok (.aload_n 0, 1) := dk_42 (dk_at dksX17_command_6 21 rfl rfl)
theorem dX17_command_166 : decode cX17_command 166 = .ok (.ldc 51, 2) := dk_18 51 (dk_at dksX17_command_6 22 rfl rfl)
theorem dX17_command_168 : decode cX17_command 168 = .ok (.invokevirtual 77, 3) := dk_182 0 77 (dk_at dksX17_command_7 0 rfl rfl)
theorem dX17_command_171 : decode cX17_command 171 = .ok (.aload_n 0, 1) := dk_42 (dk_at dksX17_command_7 3 rfl rfl)
theorem dX17_command_172 : decode cX17_command 172 = .ok (.invokevirtual 72, 3) := dk_182 0 72 (dk_at dksX17_command_7 4 rfl rfl)
theorem dX17_command_175 : decode cX17_command 175 = .ok (.istore 5, 2) := dk_54 5 (dk_at dksX17_command_7 7 rfl rfl)
theorem dX17_command_177 : decode cX17_command 177 = .ok (.aload_n 0, 1) := dk_42 (dk_at dksX17_command_7 9 rfl rfl)
theorem dX17_command_178 : decode cX17_command 178 = .ok (.ldc 51, 2) := dk_18 51 (dk_at dksX17_command_7 10 rfl rfl)
theorem dX17_command_180 : decode cX17_command 180 = .ok (.invokevirtual 77, 3) := dk_182 0 77 (dk_at dksX17_command_7 12 rfl rfl)
theorem dX17_command_183 : decode cX17_command 183 = .ok (.new 99, 3) := dk_187 0 99 (dk_at dksX17_command_7 15 rfl rfl)
theorem dX17_command_186 : decode cX17_command 186 = .ok (.dup, 1) := dk_89 (dk_at dksX17_command_7 18 rfl rfl)
theorem dX17_command_187 : decode cX17_command 187 = .ok (.aload_n 1, 1) := dk_43 (dk_at dksX17_command_7 19 rfl rfl)
theorem dX17_command_188 : decode cX17_command 188 = .ok (.iload 4, 2) := dk_21 4 (dk_at dksX17_command_7 20 rfl rfl)
theorem dX17_command_190 : decode cX17_command 190 = .ok (.iload 5, 2) := dk_21 5 (dk_at dksX17_command_7 22 rfl rfl)
theorem dX17_command_192 : decode cX17_command 192 = .ok (.aload_n 0, 1) := dk_42 (dk_at dksX17_command_8 0 rfl rfl)
theorem dX17_command_193 : decode cX17_command 193 = .ok (.invokevirtual 72, 3) := dk_182 0 72 (dk_at dksX17_command_8 1 rfl rfl)
theorem dX17_command_196 : decode cX17_command 196 = .ok (.invokespecial 104, 3) := dk_183 0 104 (dk_at dksX17_command_8 4 rfl rfl)
theorem dX17_command_199 : decode cX17_command 199 = .ok (.areturn, 1) := dk_176 (dk_at dksX17_command_8 7 rfl rfl)
theorem dX17_command_200 : decode cX17_command 200 = .ok (.aload_n 0, 1) := dk_42 (dk_at dksX17_command_8 8 rfl rfl)
theorem dX17_command_201 : decode cX17_command 201 = .ok (.invokevirtual 72, 3) := dk_182 0 72 (dk_at dksX17_command_8 9 rfl rfl)
theorem dX17_command_204 : decode cX17_command 204 = .ok (.istore 6, 2) := dk_54 6 (dk_at dksX17_command_8 12 rfl rfl)
theorem dX17_command_206 : decode cX17_command 206 = .ok (.new 99, 3) := dk_187 0 99 (dk_at dksX17_command_8 14 rfl rfl)
theorem dX17_command_209 : decode cX17_command 209 = .ok (.dup, 1) := dk_89 (dk_at dksX17_command_8 17 rfl rfl)
theorem dX17_command_210 : decode cX17_command 210 = .ok (.aload_n 1, 1) := dk_43 (dk_at dksX17_command_8 18 rfl rfl)
theorem dX17_command_211 : decode cX17_command 211 = .ok (.aload_n 0, 1) := dk_42 (dk_at dksX17_command_8 19 rfl rfl)
theorem dX17_command_212 : decode cX17_command 212 = .ok (.invokevirtual 42, 3) := dk_182 0 42 (dk_at dksX17_command_8 20 rfl rfl)
theorem dX17_command_215 : decode cX17_command 215 = .ok (.ifCond .eq 16, 3) := dk_153 0 16 (dk_at dksX17_command_9 0 rfl rfl)
theorem dX17_command_218 : decode cX17_command 218 = .ok (.bipush 10, 2) := dk_16 10 (dk_at dksX17_command_9 3 rfl rfl)
theorem dX17_command_220 : decode cX17_command 220 = .ok (.iload 6, 2) := dk_21 6 (dk_at dksX17_command_9 5 rfl rfl)
theorem dX17_command_222 : decode cX17_command 222 = .ok (.imul, 1) := dk_104 (dk_at dksX17_command_9 7 rfl rfl)
theorem dX17_command_223 : decode cX17_command 223 = .ok (.aload_n 0, 1) := dk_42 (dk_at dksX17_command_9 8 rfl rfl)
theorem dX17_command_224 : decode cX17_command 224 = .ok (.invokevirtual 72, 3) := dk_182 0 72 (dk_at dksX17_command_9 9 rfl rfl)
theorem dX17_command_227 : decode cX17_command 227 = .ok (.iadd, 1) := dk_96 (dk_at dksX17_command_9 12 rfl rfl)
theorem dX17_command_228 : decode cX17_command 228 = .ok (.goto 5, 3) := dk_167 0 5 (dk_at dksX17_command_9 13 rfl rfl)
theorem dX17_command_231 : decode cX17_command 231 = .ok (.iload 6, 2) := dk_21 6 (dk_at dksX17_command_9 16 rfl rfl)
theorem dX17_command_233 : decode cX17_command 233 = .ok (.iconst 0, 1) := dk_3 (dk_at dksX17_command_9 18 rfl rfl)
theorem dX17_command_234 : decode cX17_command 234 = .ok (.iconst 0, 1) := dk_3 (dk_at dksX17_command_9 19 rfl rfl)
theorem dX17_command_235 : decode cX17_command 235 = .ok (.invokespecial 104, 3) := dk_183 0 104 (dk_at dksX17_command_9 20 rfl rfl)
theorem dX17_command_238 : decode cX17_command 238 = .ok (.areturn, 1) := dk_176 (dk_at dksX17_command_9 23 rfl rfl)
theorem dX17_command_239 : decode cX17_command 239 = .ok (.new 99, 3) := dk_187 0 99 (dk_at dksX17_command_10 0 rfl rfl)
theorem dX17_command_242 : decode cX17_command 242 = .ok (.dup, 1) := dk_89 (dk_at dksX17_command_10 3 rfl rfl)
theorem dX17_command_243 : decode cX17_command 243 = .ok (.aload_n 1, 1) := dk_43 (dk_at dksX17_command_10 4 rfl rfl)
theorem dX17_command_244 : decode cX17_command 244 = .ok (.aload_n 0, 1) := dk_42 (dk_at dksX17_command_10 5 rfl rfl)
theorem dX17_command_245 : decode cX17_command 245 = .ok (.invokevirtual 72, 3) := dk_182 0 72 (dk_at dksX17_command_10 6 rfl rfl)
theorem dX17_command_248 : decode cX17_command 248 = .ok (.iconst 0, 1) := dk_3 (dk_at dksX17_command_10 9 rfl rfl)
theorem dX17_command_249 : decode cX17_command 249 = .ok (.iconst 0, 1) := dk_3 (dk_at dksX17_command_10 10 rfl rfl)
theorem dX17_command_250 : decode cX17_command 250 = .ok (.invokespecial 104, 3) := dk_183 0 104 (dk_at dksX17_command_10 11 rfl rfl)
theorem dX17_command_253 : decode cX17_command 253 = .ok (.areturn, 1) := dk_176 (dk_at dksX17_command_10 14 rfl rfl)
abbrev cX17_word : ByteArray := prog_18_method_7_code
def dkwX17_word_5 : List UInt8 := [182, 0, 67, 153, 0, 7, 4, 167, 0, 4, 3, 182, 0, 38, 43, 182, 0, 63, 176]
abbrev dktX17_word_5 : List UInt8 := dkwX17_word_5 ++ []
def dkwX17_word_4 : List UInt8 := [187, 0, 46, 89, 183, 0, 48, 18, 51, 182, 0, 53, 43, 182, 0, 57, 18, 51, 182, 0, 53, 182, 0, 63]
abbrev dktX17_word_4 : List UInt8 := dkwX17_word_4 ++ dktX17_word_5
def dkwX17_word_3 : List UInt8 := [42, 89, 180, 0, 15, 4, 96, 181, 0, 15, 167, 255, 184, 42, 43, 182, 0, 71, 158, 0, 39, 18, 49]
abbrev dktX17_word_3 : List UInt8 := dkwX17_word_3 ++ dktX17_word_4
def dkwX17_word_2 : List UInt8 := [182, 0, 34, 182, 0, 60, 182, 0, 63, 182, 0, 67, 182, 0, 38, 43, 42, 182, 0, 34, 182, 0, 60, 87]
abbrev dktX17_word_2 : List UInt8 := dkwX17_word_2 ++ dktX17_word_3
def dkwX17_word_1 : List UInt8 := [163, 0, 60, 42, 18, 49, 187, 0, 46, 89, 183, 0, 48, 18, 51, 182, 0, 53, 43, 182, 0, 57, 42]
abbrev dktX17_word_1 : List UInt8 := dkwX17_word_1 ++ dktX17_word_2
def dkwX17_word_0 : List UInt8 := [187, 0, 46, 89, 183, 0, 48, 76, 42, 182, 0, 34, 16, 97, 161, 0, 69, 42, 182, 0, 34, 16, 122]
abbrev dktX17_word_0 : List UInt8 := dkwX17_word_0 ++ dktX17_word_1
theorem dksX17_word_0 : cX17_word.data.toList.drop 0 = dktX17_word_0 := by decide +kernel
theorem dksX17_word_1 : cX17_word.data.toList.drop 23 = dktX17_word_1 := dk_seg dksX17_word_0 23 rfl rfl
theorem dksX17_word_2 : cX17_word.data.toList.drop 46 = dktX17_word_2 := dk_seg dksX17_word_1 23 rfl rfl
theorem dksX17_word_3 : cX17_word.data.toList.drop 70 = dktX17_word_3 := dk_seg dksX17_word_2 24 rfl rfl
theorem dksX17_word_4 : cX17_word.data.toList.drop 93 = dktX17_word_4 := dk_seg dksX17_word_3 23 rfl rfl
theorem dksX17_word_5 : cX17_word.data.toList.drop 117 = dktX17_word_5 := dk_seg dksX17_word_4 24 rfl rfl
theorem dX17_word_0 : decode cX17_word 0 = .ok (.new 46, 3) := dk_187 0 46 (dk_at dksX17_word_0 0 rfl rfl)
theorem dX17_word_3 : decode cX17_word 3 = .ok (.dup, 1) := dk_89 (dk_at dksX17_word_0 3 rfl rfl)
theorem dX17_word_4 : decode cX17_word 4 = .ok (.invokespecial 48, 3) := dk_183 0 48 (dk_at dksX17_word_0 4 rfl rfl)
theorem dX17_word_7 : decode cX17_word 7 = .ok (.astore_n 1, 1) := dk_76 (dk_at dksX17_word_0 7 rfl rfl)
theorem dX17_word_8 : decode cX17_word 8 = .ok (.aload_n 0, 1) := dk_42 (dk_at dksX17_word_0 8 rfl rfl)
theorem dX17_word_9 : decode cX17_word 9 = .ok (.invokevirtual 34, 3) := dk_182 0 34 (dk_at dksX17_word_0 9 rfl rfl)
theorem dX17_word_12 : decode cX17_word 12 = .ok (.bipush 97, 2) := dk_16 97 (dk_at dksX17_word_0 12 rfl rfl)
theorem dX17_word_14 : decode cX17_word 14 = .ok (.if_icmp .lt 69, 3) := dk_161 0 69 (dk_at dksX17_word_0 14 rfl rfl)
theorem dX17_word_17 : decode cX17_word 17 = .ok (.aload_n 0, 1) := dk_42 (dk_at dksX17_word_0 17 rfl rfl)
theorem dX17_word_18 : decode cX17_word 18 = .ok (.invokevirtual 34, 3) := dk_182 0 34 (dk_at dksX17_word_0 18 rfl rfl)
theorem dX17_word_21 : decode cX17_word 21 = .ok (.bipush 122, 2) := dk_16 122 (dk_at dksX17_word_0 21 rfl rfl)
theorem dX17_word_23 : decode cX17_word 23 = .ok (.if_icmp .gt 60, 3) := dk_163 0 60 (dk_at dksX17_word_1 0 rfl rfl)
theorem dX17_word_26 : decode cX17_word 26 = .ok (.aload_n 0, 1) := dk_42 (dk_at dksX17_word_1 3 rfl rfl)
theorem dX17_word_27 : decode cX17_word 27 = .ok (.ldc 49, 2) := dk_18 49 (dk_at dksX17_word_1 4 rfl rfl)
theorem dX17_word_29 : decode cX17_word 29 = .ok (.new 46, 3) := dk_187 0 46 (dk_at dksX17_word_1 6 rfl rfl)
theorem dX17_word_32 : decode cX17_word 32 = .ok (.dup, 1) := dk_89 (dk_at dksX17_word_1 9 rfl rfl)
theorem dX17_word_33 : decode cX17_word 33 = .ok (.invokespecial 48, 3) := dk_183 0 48 (dk_at dksX17_word_1 10 rfl rfl)
theorem dX17_word_36 : decode cX17_word 36 = .ok (.ldc 51, 2) := dk_18 51 (dk_at dksX17_word_1 13 rfl rfl)
theorem dX17_word_38 : decode cX17_word 38 = .ok (.invokevirtual 53, 3) := dk_182 0 53 (dk_at dksX17_word_1 15 rfl rfl)
theorem dX17_word_41 : decode cX17_word 41 = .ok (.aload_n 1, 1) := dk_43 (dk_at dksX17_word_1 18 rfl rfl)
theorem dX17_word_42 : decode cX17_word 42 = .ok (.invokevirtual 57, 3) := dk_182 0 57 (dk_at dksX17_word_1 19 rfl rfl)
theorem dX17_word_45 : decode cX17_word 45 = .ok (.aload_n 0, 1) := dk_42 (dk_at dksX17_word_1 22 rfl rfl)
theorem dX17_word_46 : decode cX17_word 46 = .ok (.invokevirtual 34, 3) := dk_182 0 34 (dk_at dksX17_word_2 0 rfl rfl)
theorem dX17_word_49 : decode cX17_word 49 = .ok (.invokevirtual 60, 3) := dk_182 0 60 (dk_at dksX17_word_2 3 rfl rfl)
theorem dX17_word_52 : decode cX17_word 52 = .ok (.invokevirtual 63, 3) := dk_182 0 63 (dk_at dksX17_word_2 6 rfl rfl)
theorem dX17_word_55 : decode cX17_word 55 = .ok (.invokevirtual 67, 3) := dk_182 0 67 (dk_at dksX17_word_2 9 rfl rfl)
theorem dX17_word_58 : decode cX17_word 58 = .ok (.invokevirtual 38, 3) := dk_182 0 38 (dk_at dksX17_word_2 12 rfl rfl)
theorem dX17_word_61 : decode cX17_word 61 = .ok (.aload_n 1, 1) := dk_43 (dk_at dksX17_word_2 15 rfl rfl)
theorem dX17_word_62 : decode cX17_word 62 = .ok (.aload_n 0, 1) := dk_42 (dk_at dksX17_word_2 16 rfl rfl)
theorem dX17_word_63 : decode cX17_word 63 = .ok (.invokevirtual 34, 3) := dk_182 0 34 (dk_at dksX17_word_2 17 rfl rfl)
theorem dX17_word_66 : decode cX17_word 66 = .ok (.invokevirtual 60, 3) := dk_182 0 60 (dk_at dksX17_word_2 20 rfl rfl)
theorem dX17_word_69 : decode cX17_word 69 = .ok (.pop, 1) := dk_87 (dk_at dksX17_word_2 23 rfl rfl)
theorem dX17_word_70 : decode cX17_word 70 = .ok (.aload_n 0, 1) := dk_42 (dk_at dksX17_word_3 0 rfl rfl)
theorem dX17_word_71 : decode cX17_word 71 = .ok (.dup, 1) := dk_89 (dk_at dksX17_word_3 1 rfl rfl)
theorem dX17_word_72 : decode cX17_word 72 = .ok (.getfield 15, 3) := dk_180 0 15 (dk_at dksX17_word_3 2 rfl rfl)
theorem dX17_word_75 : decode cX17_word 75 = .ok (.iconst 1, 1) := dk_4 (dk_at dksX17_word_3 5 rfl rfl)
theorem dX17_word_76 : decode cX17_word 76 = .ok (.iadd, 1) := dk_96 (dk_at dksX17_word_3 6 rfl rfl)
theorem dX17_word_77 : decode cX17_word 77 = .ok (.putfield 15, 3) := dk_181 0 15 (dk_at dksX17_word_3 7 rfl rfl)
theorem dX17_word_80 : decode cX17_word 80 = .ok (.goto (-72), 3) := dk_167 255 184 (dk_at dksX17_word_3 10 rfl rfl)
theorem dX17_word_83 : decode cX17_word 83 = .ok (.aload_n 0, 1) := dk_42 (dk_at dksX17_word_3 13 rfl rfl)
theorem dX17_word_84 : decode cX17_word 84 = .ok (.aload_n 1, 1) := dk_43 (dk_at dksX17_word_3 14 rfl rfl)
theorem dX17_word_85 : decode cX17_word 85 = .ok (.invokevirtual 71, 3) := dk_182 0 71 (dk_at dksX17_word_3 15 rfl rfl)
theorem dX17_word_88 : decode cX17_word 88 = .ok (.ifCond .le 39, 3) := dk_158 0 39 (dk_at dksX17_word_3 18 rfl rfl)
theorem dX17_word_91 : decode cX17_word 91 = .ok (.ldc 49, 2) := dk_18 49 (dk_at dksX17_word_3 21 rfl rfl)
theorem dX17_word_93 : decode cX17_word 93 = .ok (.new 46, 3) := dk_187 0 46 (dk_at dksX17_word_4 0 rfl rfl)
theorem dX17_word_96 : decode cX17_word 96 = .ok (.dup, 1) := dk_89 (dk_at dksX17_word_4 3 rfl rfl)
theorem dX17_word_97 : decode cX17_word 97 = .ok (.invokespecial 48, 3) := dk_183 0 48 (dk_at dksX17_word_4 4 rfl rfl)
theorem dX17_word_100 : decode cX17_word 100 = .ok (.ldc 51, 2) := dk_18 51 (dk_at dksX17_word_4 7 rfl rfl)
theorem dX17_word_102 : decode cX17_word 102 = .ok (.invokevirtual 53, 3) := dk_182 0 53 (dk_at dksX17_word_4 9 rfl rfl)
theorem dX17_word_105 : decode cX17_word 105 = .ok (.aload_n 1, 1) := dk_43 (dk_at dksX17_word_4 12 rfl rfl)
theorem dX17_word_106 : decode cX17_word 106 = .ok (.invokevirtual 57, 3) := dk_182 0 57 (dk_at dksX17_word_4 13 rfl rfl)
theorem dX17_word_109 : decode cX17_word 109 = .ok (.ldc 51, 2) := dk_18 51 (dk_at dksX17_word_4 16 rfl rfl)
theorem dX17_word_111 : decode cX17_word 111 = .ok (.invokevirtual 53, 3) := dk_182 0 53 (dk_at dksX17_word_4 18 rfl rfl)
theorem dX17_word_114 : decode cX17_word 114 = .ok (.invokevirtual 63, 3) := dk_182 0 63 (dk_at dksX17_word_4 21 rfl rfl)
theorem dX17_word_117 : decode cX17_word 117 = .ok (.invokevirtual 67, 3) := dk_182 0 67 (dk_at dksX17_word_5 0 rfl rfl)
theorem dX17_word_120 : decode cX17_word 120 = .ok (.ifCond .eq 7, 3) := dk_153 0 7 (dk_at dksX17_word_5 3 rfl rfl)
theorem dX17_word_123 : decode cX17_word 123 = .ok (.iconst 1, 1) := dk_4 (dk_at dksX17_word_5 6 rfl rfl)
theorem dX17_word_124 : decode cX17_word 124 = .ok (.goto 4, 3) := dk_167 0 4 (dk_at dksX17_word_5 7 rfl rfl)
theorem dX17_word_127 : decode cX17_word 127 = .ok (.iconst 0, 1) := dk_3 (dk_at dksX17_word_5 10 rfl rfl)
theorem dX17_word_128 : decode cX17_word 128 = .ok (.invokevirtual 38, 3) := dk_182 0 38 (dk_at dksX17_word_5 11 rfl rfl)
theorem dX17_word_131 : decode cX17_word 131 = .ok (.aload_n 1, 1) := dk_43 (dk_at dksX17_word_5 14 rfl rfl)
theorem dX17_word_132 : decode cX17_word 132 = .ok (.invokevirtual 63, 3) := dk_182 0 63 (dk_at dksX17_word_5 15 rfl rfl)
theorem dX17_word_135 : decode cX17_word 135 = .ok (.areturn, 1) := dk_176 (dk_at dksX17_word_5 18 rfl rfl)
abbrev cX17_here : ByteArray := prog_18_method_2_code
def dkwX17_here_1 : List UInt8 := [182, 0, 25, 167, 0, 5, 16, 10, 172]
abbrev dktX17_here_1 : List UInt8 := dkwX17_here_1 ++ []
def dkwX17_here_0 : List UInt8 := [42, 180, 0, 15, 42, 180, 0, 9, 182, 0, 19, 162, 0, 17, 42, 180, 0, 9, 42, 180, 0, 15]
abbrev dktX17_here_0 : List UInt8 := dkwX17_here_0 ++ dktX17_here_1
theorem dksX17_here_0 : cX17_here.data.toList.drop 0 = dktX17_here_0 := by decide +kernel
theorem dksX17_here_1 : cX17_here.data.toList.drop 22 = dktX17_here_1 := dk_seg dksX17_here_0 22 rfl rfl
theorem dX17_here_0 : decode cX17_here 0 = .ok (.aload_n 0, 1) := dk_42 (dk_at dksX17_here_0 0 rfl rfl)
theorem dX17_here_1 : decode cX17_here 1 = .ok (.getfield 15, 3) := dk_180 0 15 (dk_at dksX17_here_0 1 rfl rfl)
theorem dX17_here_4 : decode cX17_here 4 = .ok (.aload_n 0, 1) := dk_42 (dk_at dksX17_here_0 4 rfl rfl)
theorem dX17_here_5 : decode cX17_here 5 = .ok (.getfield 9, 3) := dk_180 0 9 (dk_at dksX17_here_0 5 rfl rfl)
theorem dX17_here_8 : decode cX17_here 8 = .ok (.invokevirtual 19, 3) := dk_182 0 19 (dk_at dksX17_here_0 8 rfl rfl)
theorem dX17_here_11 : decode cX17_here 11 = .ok (.if_icmp .ge 17, 3) := dk_162 0 17 (dk_at dksX17_here_0 11 rfl rfl)
theorem dX17_here_14 : decode cX17_here 14 = .ok (.aload_n 0, 1) := dk_42 (dk_at dksX17_here_0 14 rfl rfl)
theorem dX17_here_15 : decode cX17_here 15 = .ok (.getfield 9, 3) := dk_180 0 9 (dk_at dksX17_here_0 15 rfl rfl)
theorem dX17_here_18 : decode cX17_here 18 = .ok (.aload_n 0, 1) := dk_42 (dk_at dksX17_here_0 18 rfl rfl)
theorem dX17_here_19 : decode cX17_here 19 = .ok (.getfield 15, 3) := dk_180 0 15 (dk_at dksX17_here_0 19 rfl rfl)
theorem dX17_here_22 : decode cX17_here 22 = .ok (.invokevirtual 25, 3) := dk_182 0 25 (dk_at dksX17_here_1 0 rfl rfl)
theorem dX17_here_25 : decode cX17_here 25 = .ok (.goto 5, 3) := dk_167 0 5 (dk_at dksX17_here_1 3 rfl rfl)
theorem dX17_here_28 : decode cX17_here 28 = .ok (.bipush 10, 2) := dk_16 10 (dk_at dksX17_here_1 6 rfl rfl)
theorem dX17_here_30 : decode cX17_here 30 = .ok (.ireturn, 1) := dk_172 (dk_at dksX17_here_1 8 rfl rfl)
abbrev cX17_need : ByteArray := prog_18_method_3_code
def dkwX17_need_0 : List UInt8 := [27, 154, 0, 15, 187, 0, 29, 89, 42, 180, 0, 15, 183, 0, 31, 191, 177]
abbrev dktX17_need_0 : List UInt8 := dkwX17_need_0 ++ []
theorem dksX17_need_0 : cX17_need.data.toList.drop 0 = dktX17_need_0 := by decide +kernel
theorem dX17_need_0 : decode cX17_need 0 = .ok (.iload_n 1, 1) := dk_27 (dk_at dksX17_need_0 0 rfl rfl)
theorem dX17_need_1 : decode cX17_need 1 = .ok (.ifCond .ne 15, 3) := dk_154 0 15 (dk_at dksX17_need_0 1 rfl rfl)
theorem dX17_need_4 : decode cX17_need 4 = .ok (.new 29, 3) := dk_187 0 29 (dk_at dksX17_need_0 4 rfl rfl)
theorem dX17_need_7 : decode cX17_need 7 = .ok (.dup, 1) := dk_89 (dk_at dksX17_need_0 7 rfl rfl)
theorem dX17_need_8 : decode cX17_need 8 = .ok (.aload_n 0, 1) := dk_42 (dk_at dksX17_need_0 8 rfl rfl)
theorem dX17_need_9 : decode cX17_need 9 = .ok (.getfield 15, 3) := dk_180 0 15 (dk_at dksX17_need_0 9 rfl rfl)
theorem dX17_need_12 : decode cX17_need 12 = .ok (.invokespecial 31, 3) := dk_183 0 31 (dk_at dksX17_need_0 12 rfl rfl)
theorem dX17_need_15 : decode cX17_need 15 = .ok (.athrow, 1) := dk_191 (dk_at dksX17_need_0 15 rfl rfl)
theorem dX17_need_16 : decode cX17_need 16 = .ok (.return_, 1) := dk_177 (dk_at dksX17_need_0 16 rfl rfl)
abbrev cX17_takeAll : ByteArray := prog_18_method_4_code
def dkwX17_takeAll_1 : List UInt8 := [167, 0, 4, 3, 182, 0, 38, 42, 89, 180, 0, 15, 4, 96, 181, 0, 15, 132, 2, 1, 167, 255, 214, 177]
abbrev dktX17_takeAll_1 : List UInt8 := dkwX17_takeAll_1 ++ []
def dkwX17_takeAll_0 : List UInt8 := [3, 61, 28, 43, 182, 0, 19, 162, 0, 40, 42, 42, 182, 0, 34, 43, 28, 182, 0, 25, 160, 0, 7, 4]
abbrev dktX17_takeAll_0 : List UInt8 := dkwX17_takeAll_0 ++ dktX17_takeAll_1
theorem dksX17_takeAll_0 : cX17_takeAll.data.toList.drop 0 = dktX17_takeAll_0 := by decide +kernel
theorem dksX17_takeAll_1 : cX17_takeAll.data.toList.drop 24 = dktX17_takeAll_1 := dk_seg dksX17_takeAll_0 24 rfl rfl
theorem dX17_takeAll_0 : decode cX17_takeAll 0 = .ok (.iconst 0, 1) := dk_3 (dk_at dksX17_takeAll_0 0 rfl rfl)
theorem dX17_takeAll_1 : decode cX17_takeAll 1 = .ok (.istore_n 2, 1) := dk_61 (dk_at dksX17_takeAll_0 1 rfl rfl)
theorem dX17_takeAll_2 : decode cX17_takeAll 2 = .ok (.iload_n 2, 1) := dk_28 (dk_at dksX17_takeAll_0 2 rfl rfl)
theorem dX17_takeAll_3 : decode cX17_takeAll 3 = .ok (.aload_n 1, 1) := dk_43 (dk_at dksX17_takeAll_0 3 rfl rfl)
theorem dX17_takeAll_4 : decode cX17_takeAll 4 = .ok (.invokevirtual 19, 3) := dk_182 0 19 (dk_at dksX17_takeAll_0 4 rfl rfl)
theorem dX17_takeAll_7 : decode cX17_takeAll 7 = .ok (.if_icmp .ge 40, 3) := dk_162 0 40 (dk_at dksX17_takeAll_0 7 rfl rfl)
theorem dX17_takeAll_10 : decode cX17_takeAll 10 = .ok (.aload_n 0, 1) := dk_42 (dk_at dksX17_takeAll_0 10 rfl rfl)
theorem dX17_takeAll_11 : decode cX17_takeAll 11 = .ok (.aload_n 0, 1) := dk_42 (dk_at dksX17_takeAll_0 11 rfl rfl)
theorem dX17_takeAll_12 : decode cX17_takeAll 12 = .ok (.invokevirtual 34, 3) := dk_182 0 34 (dk_at dksX17_takeAll_0 12 rfl rfl)
theorem dX17_takeAll_15 : decode cX17_takeAll 15 = .ok (.aload_n 1, 1) := dk_43 (dk_at dksX17_takeAll_0 15 rfl rfl)
theorem dX17_takeAll_16 : decode cX17_takeAll 16 = .ok (.iload_n 2, 1) := dk_28 (dk_at dksX17_takeAll_0 16 rfl rfl)
theorem dX17_takeAll_17 : decode cX17_takeAll 17 = .ok (.invokevirtual 25, 3) := dk_182 0 25 (dk_at dksX17_takeAll_0 17 rfl rfl)
theorem dX17_takeAll_20 : decode cX17_takeAll 20 = .ok (.if_icmp .ne 7, 3) := dk_160 0 7 (dk_at dksX17_takeAll_0 20 rfl rfl)
theorem dX17_takeAll_23 : decode cX17_takeAll 23 = .ok (.iconst 1, 1) := dk_4 (dk_at dksX17_takeAll_0 23 rfl rfl)
theorem dX17_takeAll_24 : decode cX17_takeAll 24 = .ok (.goto 4, 3) := dk_167 0 4 (dk_at dksX17_takeAll_1 0 rfl rfl)
theorem dX17_takeAll_27 : decode cX17_takeAll 27 = .ok (.iconst 0, 1) := dk_3 (dk_at dksX17_takeAll_1 3 rfl rfl)
theorem dX17_takeAll_28 : decode cX17_takeAll 28 = .ok (.invokevirtual 38, 3) := dk_182 0 38 (dk_at dksX17_takeAll_1 4 rfl rfl)
theorem dX17_takeAll_31 : decode cX17_takeAll 31 = .ok (.aload_n 0, 1) := dk_42 (dk_at dksX17_takeAll_1 7 rfl rfl)
theorem dX17_takeAll_32 : decode cX17_takeAll 32 = .ok (.dup, 1) := dk_89 (dk_at dksX17_takeAll_1 8 rfl rfl)
theorem dX17_takeAll_33 : decode cX17_takeAll 33 = .ok (.getfield 15, 3) := dk_180 0 15 (dk_at dksX17_takeAll_1 9 rfl rfl)
theorem dX17_takeAll_36 : decode cX17_takeAll 36 = .ok (.iconst 1, 1) := dk_4 (dk_at dksX17_takeAll_1 12 rfl rfl)
theorem dX17_takeAll_37 : decode cX17_takeAll 37 = .ok (.iadd, 1) := dk_96 (dk_at dksX17_takeAll_1 13 rfl rfl)
theorem dX17_takeAll_38 : decode cX17_takeAll 38 = .ok (.putfield 15, 3) := dk_181 0 15 (dk_at dksX17_takeAll_1 14 rfl rfl)
theorem dX17_takeAll_41 : decode cX17_takeAll 41 = .ok (.iinc 2 1, 3) := dk_132 2 1 (dk_at dksX17_takeAll_1 17 rfl rfl)
theorem dX17_takeAll_44 : decode cX17_takeAll 44 = .ok (.goto (-42), 3) := dk_167 255 214 (dk_at dksX17_takeAll_1 20 rfl rfl)
theorem dX17_takeAll_47 : decode cX17_takeAll 47 = .ok (.return_, 1) := dk_177 (dk_at dksX17_takeAll_1 23 rfl rfl)
abbrev cX17_who : ByteArray := prog_18_method_8_code
def dkwX17_who_0 : List UInt8 := [42, 182, 0, 34, 16, 104, 159, 0, 8, 42, 182, 0, 72, 172, 42, 18, 75, 182, 0, 77, 2, 172]
abbrev dktX17_who_0 : List UInt8 := dkwX17_who_0 ++ []
theorem dksX17_who_0 : cX17_who.data.toList.drop 0 = dktX17_who_0 := by decide +kernel
theorem dX17_who_0 : decode cX17_who 0 = .ok (.aload_n 0, 1) := dk_42 (dk_at dksX17_who_0 0 rfl rfl)
theorem dX17_who_1 : decode cX17_who 1 = .ok (.invokevirtual 34, 3) := dk_182 0 34 (dk_at dksX17_who_0 1 rfl rfl)
theorem dX17_who_4 : decode cX17_who 4 = .ok (.bipush 104, 2) := dk_16 104 (dk_at dksX17_who_0 4 rfl rfl)
theorem dX17_who_6 : decode cX17_who 6 = .ok (.if_icmp .eq 8, 3) := dk_159 0 8 (dk_at dksX17_who_0 6 rfl rfl)
theorem dX17_who_9 : decode cX17_who 9 = .ok (.aload_n 0, 1) := dk_42 (dk_at dksX17_who_0 9 rfl rfl)
theorem dX17_who_10 : decode cX17_who 10 = .ok (.invokevirtual 72, 3) := dk_182 0 72 (dk_at dksX17_who_0 10 rfl rfl)
theorem dX17_who_13 : decode cX17_who 13 = .ok (.ireturn, 1) := dk_172 (dk_at dksX17_who_0 13 rfl rfl)
theorem dX17_who_14 : decode cX17_who 14 = .ok (.aload_n 0, 1) := dk_42 (dk_at dksX17_who_0 14 rfl rfl)
theorem dX17_who_15 : decode cX17_who 15 = .ok (.ldc 75, 2) := dk_18 75 (dk_at dksX17_who_0 15 rfl rfl)
theorem dX17_who_17 : decode cX17_who 17 = .ok (.invokevirtual 77, 3) := dk_182 0 77 (dk_at dksX17_who_0 17 rfl rfl)
theorem dX17_who_20 : decode cX17_who 20 = .ok (.iconst (-1), 1) := dk_2 (dk_at dksX17_who_0 20 rfl rfl)
theorem dX17_who_21 : decode cX17_who 21 = .ok (.ireturn, 1) := dk_172 (dk_at dksX17_who_0 21 rfl rfl)
abbrev cX17_digit : ByteArray := prog_18_method_6_code
def dkwX17_digit_1 : List UInt8 := [180, 0, 15, 4, 100, 182, 0, 25, 16, 48, 100, 172]
abbrev dktX17_digit_1 : List UInt8 := dkwX17_digit_1 ++ []
def dkwX17_digit_0 : List UInt8 := [42, 42, 182, 0, 42, 182, 0, 38, 42, 89, 180, 0, 15, 4, 96, 181, 0, 15, 42, 180, 0, 9, 42]
abbrev dktX17_digit_0 : List UInt8 := dkwX17_digit_0 ++ dktX17_digit_1
theorem dksX17_digit_0 : cX17_digit.data.toList.drop 0 = dktX17_digit_0 := by decide +kernel
theorem dksX17_digit_1 : cX17_digit.data.toList.drop 23 = dktX17_digit_1 := dk_seg dksX17_digit_0 23 rfl rfl
theorem dX17_digit_0 : decode cX17_digit 0 = .ok (.aload_n 0, 1) := dk_42 (dk_at dksX17_digit_0 0 rfl rfl)
theorem dX17_digit_1 : decode cX17_digit 1 = .ok (.aload_n 0, 1) := dk_42 (dk_at dksX17_digit_0 1 rfl rfl)
theorem dX17_digit_2 : decode cX17_digit 2 = .ok (.invokevirtual 42, 3) := dk_182 0 42 (dk_at dksX17_digit_0 2 rfl rfl)
theorem dX17_digit_5 : decode cX17_digit 5 = .ok (.invokevirtual 38, 3) := dk_182 0 38 (dk_at dksX17_digit_0 5 rfl rfl)
theorem dX17_digit_8 : decode cX17_digit 8 = .ok (.aload_n 0, 1) := dk_42 (dk_at dksX17_digit_0 8 rfl rfl)
theorem dX17_digit_9 : decode cX17_digit 9 = .ok (.dup, 1) := dk_89 (dk_at dksX17_digit_0 9 rfl rfl)
theorem dX17_digit_10 : decode cX17_digit 10 = .ok (.getfield 15, 3) := dk_180 0 15 (dk_at dksX17_digit_0 10 rfl rfl)
theorem dX17_digit_13 : decode cX17_digit 13 = .ok (.iconst 1, 1) := dk_4 (dk_at dksX17_digit_0 13 rfl rfl)
theorem dX17_digit_14 : decode cX17_digit 14 = .ok (.iadd, 1) := dk_96 (dk_at dksX17_digit_0 14 rfl rfl)
theorem dX17_digit_15 : decode cX17_digit 15 = .ok (.putfield 15, 3) := dk_181 0 15 (dk_at dksX17_digit_0 15 rfl rfl)
theorem dX17_digit_18 : decode cX17_digit 18 = .ok (.aload_n 0, 1) := dk_42 (dk_at dksX17_digit_0 18 rfl rfl)
theorem dX17_digit_19 : decode cX17_digit 19 = .ok (.getfield 9, 3) := dk_180 0 9 (dk_at dksX17_digit_0 19 rfl rfl)
theorem dX17_digit_22 : decode cX17_digit 22 = .ok (.aload_n 0, 1) := dk_42 (dk_at dksX17_digit_0 22 rfl rfl)
theorem dX17_digit_23 : decode cX17_digit 23 = .ok (.getfield 15, 3) := dk_180 0 15 (dk_at dksX17_digit_1 0 rfl rfl)
theorem dX17_digit_26 : decode cX17_digit 26 = .ok (.iconst 1, 1) := dk_4 (dk_at dksX17_digit_1 3 rfl rfl)
theorem dX17_digit_27 : decode cX17_digit 27 = .ok (.isub, 1) := dk_100 (dk_at dksX17_digit_1 4 rfl rfl)
theorem dX17_digit_28 : decode cX17_digit 28 = .ok (.invokevirtual 25, 3) := dk_182 0 25 (dk_at dksX17_digit_1 5 rfl rfl)
theorem dX17_digit_31 : decode cX17_digit 31 = .ok (.bipush 48, 2) := dk_16 48 (dk_at dksX17_digit_1 8 rfl rfl)
theorem dX17_digit_33 : decode cX17_digit 33 = .ok (.isub, 1) := dk_100 (dk_at dksX17_digit_1 10 rfl rfl)
theorem dX17_digit_34 : decode cX17_digit 34 = .ok (.ireturn, 1) := dk_172 (dk_at dksX17_digit_1 11 rfl rfl)
abbrev cX17_isDigit : ByteArray := prog_18_method_5_code
def dkwX17_isDigit_0 : List UInt8 := [42, 182, 0, 34, 16, 48, 161, 0, 16, 42, 182, 0, 34, 16, 57, 163, 0, 7, 4, 167, 0, 4, 3, 172]
abbrev dktX17_isDigit_0 : List UInt8 := dkwX17_isDigit_0 ++ []
theorem dksX17_isDigit_0 : cX17_isDigit.data.toList.drop 0 = dktX17_isDigit_0 := by decide +kernel
theorem dX17_isDigit_0 : decode cX17_isDigit 0 = .ok (.aload_n 0, 1) := dk_42 (dk_at dksX17_isDigit_0 0 rfl rfl)
theorem dX17_isDigit_1 : decode cX17_isDigit 1 = .ok (.invokevirtual 34, 3) := dk_182 0 34 (dk_at dksX17_isDigit_0 1 rfl rfl)
theorem dX17_isDigit_4 : decode cX17_isDigit 4 = .ok (.bipush 48, 2) := dk_16 48 (dk_at dksX17_isDigit_0 4 rfl rfl)
theorem dX17_isDigit_6 : decode cX17_isDigit 6 = .ok (.if_icmp .lt 16, 3) := dk_161 0 16 (dk_at dksX17_isDigit_0 6 rfl rfl)
theorem dX17_isDigit_9 : decode cX17_isDigit 9 = .ok (.aload_n 0, 1) := dk_42 (dk_at dksX17_isDigit_0 9 rfl rfl)
theorem dX17_isDigit_10 : decode cX17_isDigit 10 = .ok (.invokevirtual 34, 3) := dk_182 0 34 (dk_at dksX17_isDigit_0 10 rfl rfl)
theorem dX17_isDigit_13 : decode cX17_isDigit 13 = .ok (.bipush 57, 2) := dk_16 57 (dk_at dksX17_isDigit_0 13 rfl rfl)
theorem dX17_isDigit_15 : decode cX17_isDigit 15 = .ok (.if_icmp .gt 7, 3) := dk_163 0 7 (dk_at dksX17_isDigit_0 15 rfl rfl)
theorem dX17_isDigit_18 : decode cX17_isDigit 18 = .ok (.iconst 1, 1) := dk_4 (dk_at dksX17_isDigit_0 18 rfl rfl)
theorem dX17_isDigit_19 : decode cX17_isDigit 19 = .ok (.goto 4, 3) := dk_167 0 4 (dk_at dksX17_isDigit_0 19 rfl rfl)
theorem dX17_isDigit_22 : decode cX17_isDigit 22 = .ok (.iconst 0, 1) := dk_3 (dk_at dksX17_isDigit_0 22 rfl rfl)
theorem dX17_isDigit_23 : decode cX17_isDigit 23 = .ok (.ireturn, 1) := dk_172 (dk_at dksX17_isDigit_0 23 rfl rfl)
abbrev cX18_init : ByteArray := prog_21_method_1_code
def dkwX18_init_0 : List UInt8 := [42, 1, 1, 183, 0, 1, 42, 27, 181, 0, 7, 177]
abbrev dktX18_init_0 : List UInt8 := dkwX18_init_0 ++ []
theorem dksX18_init_0 : cX18_init.data.toList.drop 0 = dktX18_init_0 := by decide +kernel
theorem dX18_init_0 : decode cX18_init 0 = .ok (.aload_n 0, 1) := dk_42 (dk_at dksX18_init_0 0 rfl rfl)
theorem dX18_init_1 : decode cX18_init 1 = .ok (.aconst_null, 1) := dk_1 (dk_at dksX18_init_0 1 rfl rfl)
theorem dX18_init_2 : decode cX18_init 2 = .ok (.aconst_null, 1) := dk_1 (dk_at dksX18_init_0 2 rfl rfl)
theorem dX18_init_3 : decode cX18_init 3 = .ok (.invokespecial 1, 3) := dk_183 0 1 (dk_at dksX18_init_0 3 rfl rfl)
theorem dX18_init_6 : decode cX18_init 6 = .ok (.aload_n 0, 1) := dk_42 (dk_at dksX18_init_0 6 rfl rfl)
theorem dX18_init_7 : decode cX18_init 7 = .ok (.iload_n 1, 1) := dk_27 (dk_at dksX18_init_0 7 rfl rfl)
theorem dX18_init_8 : decode cX18_init 8 = .ok (.putfield 7, 3) := dk_181 0 7 (dk_at dksX18_init_0 8 rfl rfl)
theorem dX18_init_11 : decode cX18_init 11 = .ok (.return_, 1) := dk_177 (dk_at dksX18_init_0 11 rfl rfl)
abbrev cX19_canBeCancelled : ByteArray := prog_8_method_3_code
theorem dX19_canBeCancelled_0 : decode cX19_canBeCancelled 0 = .ok (.iconst 1, 1) := by decide +kernel
theorem dX19_canBeCancelled_1 : decode cX19_canBeCancelled 1 = .ok (.ireturn, 1) := by decide +kernel
abbrev cX20_canBeCancelled : ByteArray := prog_9_method_3_code
theorem dX20_canBeCancelled_0 : decode cX20_canBeCancelled 0 = .ok (.iconst 1, 1) := by decide +kernel
theorem dX20_canBeCancelled_1 : decode cX20_canBeCancelled 1 = .ok (.ireturn, 1) := by decide +kernel
theorem q165 : (Jvm.Cond.initialized "BanquetVotes$Command") ∈ lw_all := lw_g (lw_at lw_m1 58 rfl) rfl
theorem q172 : (Jvm.Cond.initialized "BanquetVotes$Vote") ∈ lw_all := lw_g (lw_at lw_m1 65 rfl) rfl
theorem q173 : (Jvm.Cond.initialized "java/lang/IllegalStateException") ∈ lw_all := lw_g (lw_at lw_m1 66 rfl) rfl
theorem q175 : (Jvm.Cond.initialized "BanquetVotes$Reader") ∈ lw_all := lw_g (lw_at lw_m1 68 rfl) rfl
theorem q176 : (Jvm.Cond.initialized "BanquetVotes$TextError") ∈ lw_all := lw_g (lw_at lw_m1 69 rfl) rfl
theorem q289 : (Jvm.Cond.instanceMethod ({ cls := "java/lang/StringBuilder", name := "<init>", desc := "()V" } : Jvm.MethodName)) ∈ lw_all := lw_g (lw_at lw_m1 182 rfl) rfl
theorem q290 : (Jvm.Cond.code ({ cls := "java/lang/StringBuilder", name := "<init>", desc := "()V" } : Jvm.MethodName) prog_49_method_1_code (1 : Nat) (Option.none : Option Jvm.ClassFile.FieldType)) ∈ lw_all := lw_g (lw_at lw_m1 183 rfl) rfl
theorem q323 : (Jvm.Cond.fieldLink "BanquetVotes" (35 : Nat) "BanquetVotes" "buffer" "Ljava/lang/StringBuilder;") ∈ lw_all := lw_g (lw_at lw_m1 216 rfl) rfl
theorem q387 : (Jvm.Cond.instanceMethod ({ cls := "java/util/AbstractSequentialList", name := "iterator", desc := "()Ljava/util/Iterator;" } : Jvm.MethodName)) ∈ lw_all := lw_g (lw_at lw_m2 40 rfl) rfl
theorem q389 : (Jvm.Cond.code ({ cls := "java/util/AbstractSequentialList", name := "iterator", desc := "()Ljava/util/Iterator;" } : Jvm.MethodName) prog_64_method_7_code (1 : Nat) (Option.some (Jvm.ClassFile.FieldType.object "java/util/Iterator"))) ∈ lw_all := lw_g (lw_at lw_m2 42 rfl) rfl
theorem q609 : (Jvm.Cond.selects "java/lang/StringBuilder" ({ cls := "java/lang/StringBuilder", name := "toString", desc := "()Ljava/lang/String;" } : Jvm.MethodName) ({ cls := "java/lang/StringBuilder", name := "toString", desc := "()Ljava/lang/String;" } : Jvm.MethodName)) ∈ lw_all := lw_g (lw_at lw_m3 22 rfl) rfl
theorem q2255 : (Jvm.Cond.methodLink "BanquetVotes" (254 : Nat) ({ cls := "BanquetVotes", name := "changed", desc := "(Ljava/lang/String;III)I" } : Jvm.MethodName)) ∈ lw_all := lw_g (lw_at lw_m9 228 rfl) rfl
theorem q2257 : (Jvm.Cond.instanceMethod ({ cls := "BanquetVotes", name := "changed", desc := "(Ljava/lang/String;III)I" } : Jvm.MethodName)) ∈ lw_all := lw_g (lw_at lw_m9 230 rfl) rfl
theorem q2258 : (Jvm.Cond.codeWith ({ cls := "BanquetVotes", name := "changed", desc := "(Ljava/lang/String;III)I" } : Jvm.MethodName) prog_1_method_15_code (7 : Nat) (Option.some Jvm.ClassFile.FieldType.int) [((9 : Nat), (32 : Nat), (33 : Nat), (1 : Nat))]) ∈ lw_all := lw_g (lw_at lw_m9 231 rfl) rfl
theorem q2259 : (Jvm.Cond.classLink "BanquetVotes" (112 : Nat) "BanquetVotes$Command") ∈ lw_all := lw_g (lw_at lw_m9 232 rfl) rfl
theorem q2261 : (Jvm.Cond.methodLink "BanquetVotes" (114 : Nat) ({ cls := "BanquetVotes$Command", name := "<init>", desc := "(Ljava/lang/String;III)V" } : Jvm.MethodName)) ∈ lw_all := lw_g (lw_at lw_m9 234 rfl) rfl
theorem q2262 : (Jvm.Cond.instanceMethod ({ cls := "BanquetVotes$Command", name := "<init>", desc := "(Ljava/lang/String;III)V" } : Jvm.MethodName)) ∈ lw_all := lw_g (lw_at lw_m9 235 rfl) rfl
theorem q2263 : (Jvm.Cond.code ({ cls := "BanquetVotes$Command", name := "<init>", desc := "(Ljava/lang/String;III)V" } : Jvm.MethodName) prog_2_method_1_code (5 : Nat) (Option.none : Option Jvm.ClassFile.FieldType)) ∈ lw_all := lw_g (lw_at lw_m9 236 rfl) rfl
theorem q2278 : (Jvm.Cond.methodLink "BanquetVotes" (117 : Nat) ({ cls := "BanquetVotes$Command", name := "does", desc := "(LBanquetVotes$Kitchen;)I" } : Jvm.MethodName)) ∈ lw_all := lw_g (lw_at lw_m10 11 rfl) rfl
theorem q2279 : (Jvm.Cond.instanceMethod ({ cls := "BanquetVotes$Command", name := "does", desc := "(LBanquetVotes$Kitchen;)I" } : Jvm.MethodName)) ∈ lw_all := lw_g (lw_at lw_m10 12 rfl) rfl
theorem q2280 : (Jvm.Cond.selects "BanquetVotes$Command" ({ cls := "BanquetVotes$Command", name := "does", desc := "(LBanquetVotes$Kitchen;)I" } : Jvm.MethodName) ({ cls := "BanquetVotes$Command", name := "does", desc := "(LBanquetVotes$Kitchen;)I" } : Jvm.MethodName)) ∈ lw_all := lw_g (lw_at lw_m10 13 rfl) rfl
theorem q2281 : (Jvm.Cond.code ({ cls := "BanquetVotes$Command", name := "does", desc := "(LBanquetVotes$Kitchen;)I" } : Jvm.MethodName) prog_2_method_3_code (4 : Nat) (Option.some Jvm.ClassFile.FieldType.int)) ∈ lw_all := lw_g (lw_at lw_m10 14 rfl) rfl
theorem q2282 : (Jvm.Cond.methodLink "BanquetVotes$Command" (40 : Nat) ({ cls := "java/lang/String", name := "hashCode", desc := "()I" } : Jvm.MethodName)) ∈ lw_all := lw_g (lw_at lw_m10 15 rfl) rfl
theorem q2344 : (Jvm.Cond.methodLink "BanquetVotes$Command" (47 : Nat) ({ cls := "java/lang/String", name := "equals", desc := "(Ljava/lang/Object;)Z" } : Jvm.MethodName)) ∈ lw_all := lw_g (lw_at lw_m10 77 rfl) rfl
theorem q2355 : (Jvm.Cond.methodLink "BanquetVotes$Command" (63 : Nat) ({ cls := "BanquetVotes$Kitchen", name := "asks", desc := "(I)I" } : Jvm.MethodName)) ∈ lw_all := lw_g (lw_at lw_m10 88 rfl) rfl
theorem q2356 : (Jvm.Cond.instanceMethod ({ cls := "BanquetVotes$Kitchen", name := "asks", desc := "(I)I" } : Jvm.MethodName)) ∈ lw_all := lw_g (lw_at lw_m10 89 rfl) rfl
theorem q2357 : (Jvm.Cond.selects "BanquetVotes$Kitchen" ({ cls := "BanquetVotes$Kitchen", name := "asks", desc := "(I)I" } : Jvm.MethodName) ({ cls := "BanquetVotes$Kitchen", name := "asks", desc := "(I)I" } : Jvm.MethodName)) ∈ lw_all := lw_g (lw_at lw_m10 90 rfl) rfl
theorem q2358 : (Jvm.Cond.code ({ cls := "BanquetVotes$Kitchen", name := "asks", desc := "(I)I" } : Jvm.MethodName) prog_14_method_19_code (5 : Nat) (Option.some Jvm.ClassFile.FieldType.int)) ∈ lw_all := lw_g (lw_at lw_m10 91 rfl) rfl
theorem q2431 : (Jvm.Cond.methodLink "BanquetVotes$Command" (67 : Nat) ({ cls := "BanquetVotes$Kitchen", name := "cancels", desc := "(I)I" } : Jvm.MethodName)) ∈ lw_all := lw_g (lw_at lw_m10 164 rfl) rfl
theorem q2432 : (Jvm.Cond.instanceMethod ({ cls := "BanquetVotes$Kitchen", name := "cancels", desc := "(I)I" } : Jvm.MethodName)) ∈ lw_all := lw_g (lw_at lw_m10 165 rfl) rfl
theorem q2433 : (Jvm.Cond.selects "BanquetVotes$Kitchen" ({ cls := "BanquetVotes$Kitchen", name := "cancels", desc := "(I)I" } : Jvm.MethodName) ({ cls := "BanquetVotes$Kitchen", name := "cancels", desc := "(I)I" } : Jvm.MethodName)) ∈ lw_all := lw_g (lw_at lw_m10 166 rfl) rfl
theorem q2434 : (Jvm.Cond.code ({ cls := "BanquetVotes$Kitchen", name := "cancels", desc := "(I)I" } : Jvm.MethodName) prog_14_method_22_code (3 : Nat) (Option.some Jvm.ClassFile.FieldType.int)) ∈ lw_all := lw_g (lw_at lw_m10 167 rfl) rfl
theorem q2470 : (Jvm.Cond.methodLink "BanquetVotes$Command" (70 : Nat) ({ cls := "BanquetVotes$Kitchen", name := "faints", desc := "(I)I" } : Jvm.MethodName)) ∈ lw_all := lw_g (lw_at lw_m10 203 rfl) rfl
theorem q2471 : (Jvm.Cond.instanceMethod ({ cls := "BanquetVotes$Kitchen", name := "faints", desc := "(I)I" } : Jvm.MethodName)) ∈ lw_all := lw_g (lw_at lw_m10 204 rfl) rfl
theorem q2472 : (Jvm.Cond.selects "BanquetVotes$Kitchen" ({ cls := "BanquetVotes$Kitchen", name := "faints", desc := "(I)I" } : Jvm.MethodName) ({ cls := "BanquetVotes$Kitchen", name := "faints", desc := "(I)I" } : Jvm.MethodName)) ∈ lw_all := lw_g (lw_at lw_m10 205 rfl) rfl
theorem q2473 : (Jvm.Cond.code ({ cls := "BanquetVotes$Kitchen", name := "faints", desc := "(I)I" } : Jvm.MethodName) prog_14_method_24_code (2 : Nat) (Option.some Jvm.ClassFile.FieldType.int)) ∈ lw_all := lw_g (lw_at lw_m10 206 rfl) rfl
theorem q2490 : (Jvm.Cond.methodLink "BanquetVotes$Command" (73 : Nat) ({ cls := "BanquetVotes$Kitchen", name := "wakes", desc := "(I)I" } : Jvm.MethodName)) ∈ lw_all := lw_g (lw_at lw_m10 223 rfl) rfl
theorem q2491 : (Jvm.Cond.instanceMethod ({ cls := "BanquetVotes$Kitchen", name := "wakes", desc := "(I)I" } : Jvm.MethodName)) ∈ lw_all := lw_g (lw_at lw_m10 224 rfl) rfl
theorem q2492 : (Jvm.Cond.selects "BanquetVotes$Kitchen" ({ cls := "BanquetVotes$Kitchen", name := "wakes", desc := "(I)I" } : Jvm.MethodName) ({ cls := "BanquetVotes$Kitchen", name := "wakes", desc := "(I)I" } : Jvm.MethodName)) ∈ lw_all := lw_g (lw_at lw_m10 225 rfl) rfl
theorem q2493 : (Jvm.Cond.code ({ cls := "BanquetVotes$Kitchen", name := "wakes", desc := "(I)I" } : Jvm.MethodName) prog_14_method_28_code (2 : Nat) (Option.some Jvm.ClassFile.FieldType.int)) ∈ lw_all := lw_g (lw_at lw_m10 226 rfl) rfl
theorem q2522 : (Jvm.Cond.methodLink "BanquetVotes$Command" (76 : Nat) ({ cls := "BanquetVotes$Kitchen", name := "learns", desc := "(III)I" } : Jvm.MethodName)) ∈ lw_all := lw_g (lw_at lw_m11 15 rfl) rfl
theorem q2523 : (Jvm.Cond.instanceMethod ({ cls := "BanquetVotes$Kitchen", name := "learns", desc := "(III)I" } : Jvm.MethodName)) ∈ lw_all := lw_g (lw_at lw_m11 16 rfl) rfl
theorem q2524 : (Jvm.Cond.selects "BanquetVotes$Kitchen" ({ cls := "BanquetVotes$Kitchen", name := "learns", desc := "(III)I" } : Jvm.MethodName) ({ cls := "BanquetVotes$Kitchen", name := "learns", desc := "(III)I" } : Jvm.MethodName)) ∈ lw_all := lw_g (lw_at lw_m11 17 rfl) rfl
theorem q2525 : (Jvm.Cond.code ({ cls := "BanquetVotes$Kitchen", name := "learns", desc := "(III)I" } : Jvm.MethodName) prog_14_method_33_code (7 : Nat) (Option.some Jvm.ClassFile.FieldType.int)) ∈ lw_all := lw_g (lw_at lw_m11 18 rfl) rfl
theorem q2526 : (Jvm.Cond.methodLink "BanquetVotes$Kitchen" (287 : Nat) ({ cls := "BanquetVotes$Kitchen", name := "checkDish", desc := "(II)V" } : Jvm.MethodName)) ∈ lw_all := lw_g (lw_at lw_m11 19 rfl) rfl
theorem q2528 : (Jvm.Cond.instanceMethod ({ cls := "BanquetVotes$Kitchen", name := "checkDish", desc := "(II)V" } : Jvm.MethodName)) ∈ lw_all := lw_g (lw_at lw_m11 21 rfl) rfl
theorem q2529 : (Jvm.Cond.code ({ cls := "BanquetVotes$Kitchen", name := "checkDish", desc := "(II)V" } : Jvm.MethodName) prog_14_method_32_code (3 : Nat) (Option.none : Option Jvm.ClassFile.FieldType)) ∈ lw_all := lw_g (lw_at lw_m11 22 rfl) rfl
theorem q2530 : (Jvm.Cond.methodLink "BanquetVotes$Kitchen" (290 : Nat) ({ cls := "BanquetVotes$Dish", name := "number", desc := "()I" } : Jvm.MethodName)) ∈ lw_all := lw_g (lw_at lw_m11 23 rfl) rfl
theorem q2531 : (Jvm.Cond.fieldLink "BanquetVotes$Kitchen" (275 : Nat) "BanquetVotes$How" "SERVED" "LBanquetVotes$How;") ∈ lw_all := lw_g (lw_at lw_m11 24 rfl) rfl
theorem q2532 : (Jvm.Cond.methodLink "BanquetVotes$Kitchen" (296 : Nat) ({ cls := "BanquetVotes$Kitchen", name := "hears", desc := "(IIZ)V" } : Jvm.MethodName)) ∈ lw_all := lw_g (lw_at lw_m11 25 rfl) rfl
theorem q2534 : (Jvm.Cond.instanceMethod ({ cls := "BanquetVotes$Kitchen", name := "hears", desc := "(IIZ)V" } : Jvm.MethodName)) ∈ lw_all := lw_g (lw_at lw_m11 27 rfl) rfl
theorem q2535 : (Jvm.Cond.code ({ cls := "BanquetVotes$Kitchen", name := "hears", desc := "(IIZ)V" } : Jvm.MethodName) prog_14_method_31_code (5 : Nat) (Option.none : Option Jvm.ClassFile.FieldType)) ∈ lw_all := lw_g (lw_at lw_m11 28 rfl) rfl
theorem q2536 : (Jvm.Cond.methodLink "BanquetVotes$Kitchen" (269 : Nat) ({ cls := "BanquetVotes$Kitchen", name := "becomes", desc := "(IILBanquetVotes$How;I)V" } : Jvm.MethodName)) ∈ lw_all := lw_g (lw_at lw_m11 29 rfl) rfl
theorem q2538 : (Jvm.Cond.instanceMethod ({ cls := "BanquetVotes$Kitchen", name := "becomes", desc := "(IILBanquetVotes$How;I)V" } : Jvm.MethodName)) ∈ lw_all := lw_g (lw_at lw_m11 31 rfl) rfl
theorem q2539 : (Jvm.Cond.code ({ cls := "BanquetVotes$Kitchen", name := "becomes", desc := "(IILBanquetVotes$How;I)V" } : Jvm.MethodName) prog_14_method_29_code (5 : Nat) (Option.none : Option Jvm.ClassFile.FieldType)) ∈ lw_all := lw_g (lw_at lw_m11 32 rfl) rfl
theorem q2540 : (Jvm.Cond.methodLink "BanquetVotes$Kitchen" (245 : Nat) ({ cls := "BanquetVotes$Dish", name := "becomes", desc := "(LBanquetVotes$How;I)V" } : Jvm.MethodName)) ∈ lw_all := lw_g (lw_at lw_m11 33 rfl) rfl
theorem q2541 : (Jvm.Cond.instanceMethod ({ cls := "BanquetVotes$Dish", name := "becomes", desc := "(LBanquetVotes$How;I)V" } : Jvm.MethodName)) ∈ lw_all := lw_g (lw_at lw_m11 34 rfl) rfl
theorem q2542 : (Jvm.Cond.selects "BanquetVotes$Dish" ({ cls := "BanquetVotes$Dish", name := "becomes", desc := "(LBanquetVotes$How;I)V" } : Jvm.MethodName) ({ cls := "BanquetVotes$Dish", name := "becomes", desc := "(LBanquetVotes$How;I)V" } : Jvm.MethodName)) ∈ lw_all := lw_g (lw_at lw_m11 35 rfl) rfl
theorem q2543 : (Jvm.Cond.code ({ cls := "BanquetVotes$Dish", name := "becomes", desc := "(LBanquetVotes$How;I)V" } : Jvm.MethodName) prog_5_method_9_code (3 : Nat) (Option.none : Option Jvm.ClassFile.FieldType)) ∈ lw_all := lw_g (lw_at lw_m11 36 rfl) rfl
theorem q2544 : (Jvm.Cond.methodLink "BanquetVotes$Kitchen" (249 : Nat) ({ cls := "BanquetVotes$Cook", name := "writes", desc := "(III)V" } : Jvm.MethodName)) ∈ lw_all := lw_g (lw_at lw_m11 37 rfl) rfl
theorem q2545 : (Jvm.Cond.sameMethod "BanquetVotes$Cook" "BanquetVotes$Somebody" "writes" "(III)V") ∈ lw_all := lw_g (lw_at lw_m11 38 rfl) rfl
theorem q2546 : (Jvm.Cond.selects "BanquetVotes$Cook" ({ cls := "BanquetVotes$Cook", name := "writes", desc := "(III)V" } : Jvm.MethodName) ({ cls := "BanquetVotes$Somebody", name := "writes", desc := "(III)V" } : Jvm.MethodName)) ∈ lw_all := lw_g (lw_at lw_m11 39 rfl) rfl
theorem q2547 : (Jvm.Cond.methodLink "BanquetVotes$Kitchen" (278 : Nat) ({ cls := "BanquetVotes$Cook", name := "serves", desc := "(II)V" } : Jvm.MethodName)) ∈ lw_all := lw_g (lw_at lw_m11 40 rfl) rfl
theorem q2548 : (Jvm.Cond.instanceMethod ({ cls := "BanquetVotes$Cook", name := "serves", desc := "(II)V" } : Jvm.MethodName)) ∈ lw_all := lw_g (lw_at lw_m11 41 rfl) rfl
theorem q2549 : (Jvm.Cond.selects "BanquetVotes$Cook" ({ cls := "BanquetVotes$Cook", name := "serves", desc := "(II)V" } : Jvm.MethodName) ({ cls := "BanquetVotes$Cook", name := "serves", desc := "(II)V" } : Jvm.MethodName)) ∈ lw_all := lw_g (lw_at lw_m11 42 rfl) rfl
theorem q2550 : (Jvm.Cond.code ({ cls := "BanquetVotes$Cook", name := "serves", desc := "(II)V" } : Jvm.MethodName) prog_3_method_7_code (3 : Nat) (Option.none : Option Jvm.ClassFile.FieldType)) ∈ lw_all := lw_g (lw_at lw_m11 43 rfl) rfl
theorem q2551 : (Jvm.Cond.methodLink "BanquetVotes$Kitchen" (281 : Nat) ({ cls := "BanquetVotes$How", name := "canBeCancelled", desc := "()Z" } : Jvm.MethodName)) ∈ lw_all := lw_g (lw_at lw_m11 44 rfl) rfl
theorem q2552 : (Jvm.Cond.instanceMethod ({ cls := "BanquetVotes$How", name := "canBeCancelled", desc := "()Z" } : Jvm.MethodName)) ∈ lw_all := lw_g (lw_at lw_m11 45 rfl) rfl
theorem q2553 : (Jvm.Cond.sameMethod "BanquetVotes$How" "BanquetVotes$How" "canBeCancelled" "()Z") ∈ lw_all := lw_g (lw_at lw_m11 46 rfl) rfl
theorem q2554 : (Jvm.Cond.selects "BanquetVotes$How$1" ({ cls := "BanquetVotes$How", name := "canBeCancelled", desc := "()Z" } : Jvm.MethodName) ({ cls := "BanquetVotes$How$1", name := "canBeCancelled", desc := "()Z" } : Jvm.MethodName)) ∈ lw_all := lw_g (lw_at lw_m11 47 rfl) rfl
theorem q2555 : (Jvm.Cond.instanceMethod ({ cls := "BanquetVotes$How$1", name := "canBeCancelled", desc := "()Z" } : Jvm.MethodName)) ∈ lw_all := lw_g (lw_at lw_m11 48 rfl) rfl
theorem q2556 : (Jvm.Cond.code ({ cls := "BanquetVotes$How$1", name := "canBeCancelled", desc := "()Z" } : Jvm.MethodName) prog_8_method_3_code (1 : Nat) (Option.some Jvm.ClassFile.FieldType.boolean)) ∈ lw_all := lw_g (lw_at lw_m11 49 rfl) rfl
theorem q2557 : (Jvm.Cond.selects "BanquetVotes$How$2" ({ cls := "BanquetVotes$How", name := "canBeCancelled", desc := "()Z" } : Jvm.MethodName) ({ cls := "BanquetVotes$How$2", name := "canBeCancelled", desc := "()Z" } : Jvm.MethodName)) ∈ lw_all := lw_g (lw_at lw_m11 50 rfl) rfl
theorem q2558 : (Jvm.Cond.instanceMethod ({ cls := "BanquetVotes$How$2", name := "canBeCancelled", desc := "()Z" } : Jvm.MethodName)) ∈ lw_all := lw_g (lw_at lw_m11 51 rfl) rfl
theorem q2559 : (Jvm.Cond.code ({ cls := "BanquetVotes$How$2", name := "canBeCancelled", desc := "()Z" } : Jvm.MethodName) prog_9_method_3_code (1 : Nat) (Option.some Jvm.ClassFile.FieldType.boolean)) ∈ lw_all := lw_g (lw_at lw_m11 52 rfl) rfl
theorem q2560 : (Jvm.Cond.selects "BanquetVotes$How$3" ({ cls := "BanquetVotes$How", name := "canBeCancelled", desc := "()Z" } : Jvm.MethodName) ({ cls := "BanquetVotes$How", name := "canBeCancelled", desc := "()Z" } : Jvm.MethodName)) ∈ lw_all := lw_g (lw_at lw_m11 53 rfl) rfl
theorem q2561 : (Jvm.Cond.selects "BanquetVotes$How$4" ({ cls := "BanquetVotes$How", name := "canBeCancelled", desc := "()Z" } : Jvm.MethodName) ({ cls := "BanquetVotes$How", name := "canBeCancelled", desc := "()Z" } : Jvm.MethodName)) ∈ lw_all := lw_g (lw_at lw_m11 54 rfl) rfl
theorem q2562 : (Jvm.Cond.selects "BanquetVotes$How$5" ({ cls := "BanquetVotes$How", name := "canBeCancelled", desc := "()Z" } : Jvm.MethodName) ({ cls := "BanquetVotes$How", name := "canBeCancelled", desc := "()Z" } : Jvm.MethodName)) ∈ lw_all := lw_g (lw_at lw_m11 55 rfl) rfl
theorem q2563 : (Jvm.Cond.code ({ cls := "BanquetVotes$How", name := "canBeCancelled", desc := "()Z" } : Jvm.MethodName) prog_7_method_5_code (1 : Nat) (Option.some Jvm.ClassFile.FieldType.boolean)) ∈ lw_all := lw_g (lw_at lw_m11 56 rfl) rfl
theorem q2564 : (Jvm.Cond.fieldLink "BanquetVotes$Kitchen" (284 : Nat) "BanquetVotes$How" "CANCELLED" "LBanquetVotes$How;") ∈ lw_all := lw_g (lw_at lw_m11 57 rfl) rfl
theorem q2565 : (Jvm.Cond.methodLink "BanquetVotes$Command" (80 : Nat) ({ cls := "BanquetVotes$Kitchen", name := "passes", desc := "(I)I" } : Jvm.MethodName)) ∈ lw_all := lw_g (lw_at lw_m11 58 rfl) rfl
theorem q2566 : (Jvm.Cond.instanceMethod ({ cls := "BanquetVotes$Kitchen", name := "passes", desc := "(I)I" } : Jvm.MethodName)) ∈ lw_all := lw_g (lw_at lw_m11 59 rfl) rfl
theorem q2567 : (Jvm.Cond.selects "BanquetVotes$Kitchen" ({ cls := "BanquetVotes$Kitchen", name := "passes", desc := "(I)I" } : Jvm.MethodName) ({ cls := "BanquetVotes$Kitchen", name := "passes", desc := "(I)I" } : Jvm.MethodName)) ∈ lw_all := lw_g (lw_at lw_m11 60 rfl) rfl
theorem q2568 : (Jvm.Cond.code ({ cls := "BanquetVotes$Kitchen", name := "passes", desc := "(I)I" } : Jvm.MethodName) prog_14_method_42_code (4 : Nat) (Option.some Jvm.ClassFile.FieldType.int)) ∈ lw_all := lw_g (lw_at lw_m11 61 rfl) rfl
theorem q2569 : (Jvm.Cond.methodLink "BanquetVotes$Kitchen" (356 : Nat) ({ cls := "BanquetVotes$Kitchen", name := "decided", desc := "()I" } : Jvm.MethodName)) ∈ lw_all := lw_g (lw_at lw_m11 62 rfl) rfl
theorem q2570 : (Jvm.Cond.instanceMethod ({ cls := "BanquetVotes$Kitchen", name := "decided", desc := "()I" } : Jvm.MethodName)) ∈ lw_all := lw_g (lw_at lw_m11 63 rfl) rfl
theorem q2571 : (Jvm.Cond.selects "BanquetVotes$Kitchen" ({ cls := "BanquetVotes$Kitchen", name := "decided", desc := "()I" } : Jvm.MethodName) ({ cls := "BanquetVotes$Kitchen", name := "decided", desc := "()I" } : Jvm.MethodName)) ∈ lw_all := lw_g (lw_at lw_m11 64 rfl) rfl
theorem q2572 : (Jvm.Cond.code ({ cls := "BanquetVotes$Kitchen", name := "decided", desc := "()I" } : Jvm.MethodName) prog_14_method_41_code (1 : Nat) (Option.some Jvm.ClassFile.FieldType.int)) ∈ lw_all := lw_g (lw_at lw_m11 65 rfl) rfl
theorem q2573 : (Jvm.Cond.methodLink "BanquetVotes$Kitchen" (353 : Nat) ({ cls := "BanquetVotes$Kitchen", name := "those", desc := "(I)I" } : Jvm.MethodName)) ∈ lw_all := lw_g (lw_at lw_m11 66 rfl) rfl
theorem q2574 : (Jvm.Cond.instanceMethod ({ cls := "BanquetVotes$Kitchen", name := "those", desc := "(I)I" } : Jvm.MethodName)) ∈ lw_all := lw_g (lw_at lw_m11 67 rfl) rfl
theorem q2575 : (Jvm.Cond.selects "BanquetVotes$Kitchen" ({ cls := "BanquetVotes$Kitchen", name := "those", desc := "(I)I" } : Jvm.MethodName) ({ cls := "BanquetVotes$Kitchen", name := "those", desc := "(I)I" } : Jvm.MethodName)) ∈ lw_all := lw_g (lw_at lw_m11 68 rfl) rfl
theorem q2576 : (Jvm.Cond.code ({ cls := "BanquetVotes$Kitchen", name := "those", desc := "(I)I" } : Jvm.MethodName) prog_14_method_44_code (5 : Nat) (Option.some Jvm.ClassFile.FieldType.int)) ∈ lw_all := lw_g (lw_at lw_m11 69 rfl) rfl
theorem q2577 : (Jvm.Cond.methodLink "BanquetVotes$Kitchen" (359 : Nat) ({ cls := "BanquetVotes$Kitchen", name := "allArrive", desc := "()V" } : Jvm.MethodName)) ∈ lw_all := lw_g (lw_at lw_m11 70 rfl) rfl
theorem q2579 : (Jvm.Cond.instanceMethod ({ cls := "BanquetVotes$Kitchen", name := "allArrive", desc := "()V" } : Jvm.MethodName)) ∈ lw_all := lw_g (lw_at lw_m11 72 rfl) rfl
theorem q2580 : (Jvm.Cond.code ({ cls := "BanquetVotes$Kitchen", name := "allArrive", desc := "()V" } : Jvm.MethodName) prog_14_method_37_code (5 : Nat) (Option.none : Option Jvm.ClassFile.FieldType)) ∈ lw_all := lw_g (lw_at lw_m11 73 rfl) rfl
theorem q2581 : (Jvm.Cond.methodLink "BanquetVotes$Kitchen" (90 : Nat) ({ cls := "java/util/LinkedList", name := "iterator", desc := "()Ljava/util/Iterator;" } : Jvm.MethodName)) ∈ lw_all := lw_g (lw_at lw_m11 74 rfl) rfl
theorem q2582 : (Jvm.Cond.sameMethod "java/util/LinkedList" "java/util/AbstractSequentialList" "iterator" "()Ljava/util/Iterator;") ∈ lw_all := lw_g (lw_at lw_m11 75 rfl) rfl
theorem q2584 : (Jvm.Cond.selects "java/util/LinkedList" ({ cls := "java/util/LinkedList", name := "iterator", desc := "()Ljava/util/Iterator;" } : Jvm.MethodName) ({ cls := "java/util/AbstractSequentialList", name := "iterator", desc := "()Ljava/util/Iterator;" } : Jvm.MethodName)) ∈ lw_all := lw_g (lw_at lw_m11 77 rfl) rfl
theorem q2585 : (Jvm.Cond.classLink "BanquetVotes$Kitchen" (91 : Nat) "BanquetVotes$Message") ∈ lw_all := lw_g (lw_at lw_m11 78 rfl) rfl
theorem q2587 : (Jvm.Cond.methodLink "BanquetVotes$Kitchen" (93 : Nat) ({ cls := "BanquetVotes$Message", name := "arrives", desc := "()I" } : Jvm.MethodName)) ∈ lw_all := lw_g (lw_at lw_m11 80 rfl) rfl
theorem q2590 : (Jvm.Cond.castable "BanquetVotes$Invitation" "BanquetVotes$Message") ∈ lw_tbl := lw_at lw_m11 83 rfl
theorem mv2590 : (Jvm.Cond.castable "BanquetVotes$Invitation" "BanquetVotes$Message") ∈ lw_mv := List.mem_filter.mpr ⟨q2590, rfl⟩
theorem q2591 : (Jvm.Cond.selects "BanquetVotes$Invitation" ({ cls := "BanquetVotes$Message", name := "arrives", desc := "()I" } : Jvm.MethodName) ({ cls := "BanquetVotes$Invitation", name := "arrives", desc := "()I" } : Jvm.MethodName)) ∈ lw_all := lw_g (lw_at lw_m11 84 rfl) rfl
theorem q2593 : (Jvm.Cond.instanceMethod ({ cls := "BanquetVotes$Invitation", name := "arrives", desc := "()I" } : Jvm.MethodName)) ∈ lw_all := lw_g (lw_at lw_m11 86 rfl) rfl
theorem q2595 : (Jvm.Cond.code ({ cls := "BanquetVotes$Invitation", name := "arrives", desc := "()I" } : Jvm.MethodName) prog_13_method_8_code (1 : Nat) (Option.some Jvm.ClassFile.FieldType.int)) ∈ lw_all := lw_g (lw_at lw_m11 88 rfl) rfl
theorem q2596 : (Jvm.Cond.castable "BanquetVotes$Question" "BanquetVotes$Message") ∈ lw_tbl := lw_at lw_m11 89 rfl
theorem mv2596 : (Jvm.Cond.castable "BanquetVotes$Question" "BanquetVotes$Message") ∈ lw_mv := List.mem_filter.mpr ⟨q2596, rfl⟩
theorem q2597 : (Jvm.Cond.selects "BanquetVotes$Question" ({ cls := "BanquetVotes$Message", name := "arrives", desc := "()I" } : Jvm.MethodName) ({ cls := "BanquetVotes$Question", name := "arrives", desc := "()I" } : Jvm.MethodName)) ∈ lw_all := lw_g (lw_at lw_m11 90 rfl) rfl
theorem q2599 : (Jvm.Cond.instanceMethod ({ cls := "BanquetVotes$Question", name := "arrives", desc := "()I" } : Jvm.MethodName)) ∈ lw_all := lw_g (lw_at lw_m11 92 rfl) rfl
theorem q2601 : (Jvm.Cond.code ({ cls := "BanquetVotes$Question", name := "arrives", desc := "()I" } : Jvm.MethodName) prog_17_method_8_code (1 : Nat) (Option.some Jvm.ClassFile.FieldType.int)) ∈ lw_all := lw_g (lw_at lw_m11 94 rfl) rfl
theorem q2602 : (Jvm.Cond.castable "BanquetVotes$Verdict" "BanquetVotes$Message") ∈ lw_tbl := lw_at lw_m11 95 rfl
theorem mv2602 : (Jvm.Cond.castable "BanquetVotes$Verdict" "BanquetVotes$Message") ∈ lw_mv := List.mem_filter.mpr ⟨q2602, rfl⟩
theorem q2603 : (Jvm.Cond.selects "BanquetVotes$Verdict" ({ cls := "BanquetVotes$Message", name := "arrives", desc := "()I" } : Jvm.MethodName) ({ cls := "BanquetVotes$Verdict", name := "arrives", desc := "()I" } : Jvm.MethodName)) ∈ lw_all := lw_g (lw_at lw_m11 96 rfl) rfl
theorem q2605 : (Jvm.Cond.instanceMethod ({ cls := "BanquetVotes$Verdict", name := "arrives", desc := "()I" } : Jvm.MethodName)) ∈ lw_all := lw_g (lw_at lw_m11 98 rfl) rfl
theorem q2607 : (Jvm.Cond.code ({ cls := "BanquetVotes$Verdict", name := "arrives", desc := "()I" } : Jvm.MethodName) prog_22_method_8_code (1 : Nat) (Option.some Jvm.ClassFile.FieldType.int)) ∈ lw_all := lw_g (lw_at lw_m11 100 rfl) rfl
theorem q2608 : (Jvm.Cond.castable "BanquetVotes$Vote" "BanquetVotes$Message") ∈ lw_tbl := lw_at lw_m11 101 rfl
theorem mv2608 : (Jvm.Cond.castable "BanquetVotes$Vote" "BanquetVotes$Message") ∈ lw_mv := List.mem_filter.mpr ⟨q2608, rfl⟩
theorem q2609 : (Jvm.Cond.selects "BanquetVotes$Vote" ({ cls := "BanquetVotes$Message", name := "arrives", desc := "()I" } : Jvm.MethodName) ({ cls := "BanquetVotes$Vote", name := "arrives", desc := "()I" } : Jvm.MethodName)) ∈ lw_all := lw_g (lw_at lw_m11 102 rfl) rfl
theorem q2611 : (Jvm.Cond.instanceMethod ({ cls := "BanquetVotes$Vote", name := "arrives", desc := "()I" } : Jvm.MethodName)) ∈ lw_all := lw_g (lw_at lw_m11 104 rfl) rfl
theorem q2613 : (Jvm.Cond.code ({ cls := "BanquetVotes$Vote", name := "arrives", desc := "()I" } : Jvm.MethodName) prog_23_method_8_code (1 : Nat) (Option.some Jvm.ClassFile.FieldType.int)) ∈ lw_all := lw_g (lw_at lw_m11 106 rfl) rfl
theorem q2614 : (Jvm.Cond.methodLink "BanquetVotes$Kitchen" (337 : Nat) ({ cls := "java/util/LinkedList", name := "clear", desc := "()V" } : Jvm.MethodName)) ∈ lw_all := lw_g (lw_at lw_m11 107 rfl) rfl
theorem q2615 : (Jvm.Cond.instanceMethod ({ cls := "java/util/LinkedList", name := "clear", desc := "()V" } : Jvm.MethodName)) ∈ lw_all := lw_g (lw_at lw_m11 108 rfl) rfl
theorem q2616 : (Jvm.Cond.selects "java/util/LinkedList" ({ cls := "java/util/LinkedList", name := "clear", desc := "()V" } : Jvm.MethodName) ({ cls := "java/util/LinkedList", name := "clear", desc := "()V" } : Jvm.MethodName)) ∈ lw_all := lw_g (lw_at lw_m11 109 rfl) rfl
theorem q2617 : (Jvm.Cond.code ({ cls := "java/util/LinkedList", name := "clear", desc := "()V" } : Jvm.MethodName) prog_74_method_21_code (3 : Nat) (Option.none : Option Jvm.ClassFile.FieldType)) ∈ lw_all := lw_g (lw_at lw_m11 110 rfl) rfl
theorem q2618 : (Jvm.Cond.methodLink "BanquetVotes$Kitchen" (340 : Nat) ({ cls := "BanquetVotes$Kitchen", name := "arrives", desc := "(LBanquetVotes$Message;)V" } : Jvm.MethodName)) ∈ lw_all := lw_g (lw_at lw_m11 111 rfl) rfl
theorem q2620 : (Jvm.Cond.instanceMethod ({ cls := "BanquetVotes$Kitchen", name := "arrives", desc := "(LBanquetVotes$Message;)V" } : Jvm.MethodName)) ∈ lw_all := lw_g (lw_at lw_m11 113 rfl) rfl
theorem q2621 : (Jvm.Cond.code ({ cls := "BanquetVotes$Kitchen", name := "arrives", desc := "(LBanquetVotes$Message;)V" } : Jvm.MethodName) prog_14_method_36_code (5 : Nat) (Option.none : Option Jvm.ClassFile.FieldType)) ∈ lw_all := lw_g (lw_at lw_m11 114 rfl) rfl
theorem q2622 : (Jvm.Cond.methodLinkNest "BanquetVotes$Kitchen" (315 : Nat) ({ cls := "BanquetVotes", name := "goesToHost", desc := "(LBanquetVotes$Message;)Z" } : Jvm.MethodName) "BanquetVotes") ∈ lw_tbl := lw_at lw_m11 115 rfl
theorem mv2622 : (Jvm.Cond.methodLinkNest "BanquetVotes$Kitchen" (315 : Nat) ({ cls := "BanquetVotes", name := "goesToHost", desc := "(LBanquetVotes$Message;)Z" } : Jvm.MethodName) "BanquetVotes") ∈ lw_mv := List.mem_filter.mpr ⟨q2622, rfl⟩
theorem q2623 : (Jvm.Cond.static ({ cls := "BanquetVotes", name := "goesToHost", desc := "(LBanquetVotes$Message;)Z" } : Jvm.MethodName)) ∈ lw_all := lw_g (lw_at lw_m11 116 rfl) rfl
theorem q2624 : (Jvm.Cond.code ({ cls := "BanquetVotes", name := "goesToHost", desc := "(LBanquetVotes$Message;)Z" } : Jvm.MethodName) prog_1_method_3_code (1 : Nat) (Option.some Jvm.ClassFile.FieldType.boolean)) ∈ lw_all := lw_g (lw_at lw_m11 117 rfl) rfl
theorem q2625 : (Jvm.Cond.classLink "BanquetVotes" (7 : Nat) "BanquetVotes$Vote") ∈ lw_all := lw_g (lw_at lw_m11 118 rfl) rfl
theorem q2626 : (Jvm.Cond.classLink "BanquetVotes" (9 : Nat) "BanquetVotes$Question") ∈ lw_all := lw_g (lw_at lw_m11 119 rfl) rfl
theorem q2628 : (Jvm.Cond.methodLink "BanquetVotes$Kitchen" (319 : Nat) ({ cls := "BanquetVotes$Message", name := "cook", desc := "()I" } : Jvm.MethodName)) ∈ lw_all := lw_g (lw_at lw_m11 121 rfl) rfl
theorem q2631 : (Jvm.Cond.selects "BanquetVotes$Invitation" ({ cls := "BanquetVotes$Message", name := "cook", desc := "()I" } : Jvm.MethodName) ({ cls := "BanquetVotes$Invitation", name := "cook", desc := "()I" } : Jvm.MethodName)) ∈ lw_all := lw_g (lw_at lw_m11 124 rfl) rfl
theorem q2633 : (Jvm.Cond.instanceMethod ({ cls := "BanquetVotes$Invitation", name := "cook", desc := "()I" } : Jvm.MethodName)) ∈ lw_all := lw_g (lw_at lw_m11 126 rfl) rfl
theorem q2635 : (Jvm.Cond.code ({ cls := "BanquetVotes$Invitation", name := "cook", desc := "()I" } : Jvm.MethodName) prog_13_method_6_code (1 : Nat) (Option.some Jvm.ClassFile.FieldType.int)) ∈ lw_all := lw_g (lw_at lw_m11 128 rfl) rfl
theorem q2636 : (Jvm.Cond.selects "BanquetVotes$Question" ({ cls := "BanquetVotes$Message", name := "cook", desc := "()I" } : Jvm.MethodName) ({ cls := "BanquetVotes$Question", name := "cook", desc := "()I" } : Jvm.MethodName)) ∈ lw_all := lw_g (lw_at lw_m11 129 rfl) rfl
theorem q2638 : (Jvm.Cond.instanceMethod ({ cls := "BanquetVotes$Question", name := "cook", desc := "()I" } : Jvm.MethodName)) ∈ lw_all := lw_g (lw_at lw_m11 131 rfl) rfl
theorem q2640 : (Jvm.Cond.code ({ cls := "BanquetVotes$Question", name := "cook", desc := "()I" } : Jvm.MethodName) prog_17_method_6_code (1 : Nat) (Option.some Jvm.ClassFile.FieldType.int)) ∈ lw_all := lw_g (lw_at lw_m11 133 rfl) rfl
theorem q2641 : (Jvm.Cond.selects "BanquetVotes$Verdict" ({ cls := "BanquetVotes$Message", name := "cook", desc := "()I" } : Jvm.MethodName) ({ cls := "BanquetVotes$Verdict", name := "cook", desc := "()I" } : Jvm.MethodName)) ∈ lw_all := lw_g (lw_at lw_m11 134 rfl) rfl
theorem q2643 : (Jvm.Cond.instanceMethod ({ cls := "BanquetVotes$Verdict", name := "cook", desc := "()I" } : Jvm.MethodName)) ∈ lw_all := lw_g (lw_at lw_m11 136 rfl) rfl
theorem q2645 : (Jvm.Cond.code ({ cls := "BanquetVotes$Verdict", name := "cook", desc := "()I" } : Jvm.MethodName) prog_22_method_6_code (1 : Nat) (Option.some Jvm.ClassFile.FieldType.int)) ∈ lw_all := lw_g (lw_at lw_m11 138 rfl) rfl
theorem q2646 : (Jvm.Cond.selects "BanquetVotes$Vote" ({ cls := "BanquetVotes$Message", name := "cook", desc := "()I" } : Jvm.MethodName) ({ cls := "BanquetVotes$Vote", name := "cook", desc := "()I" } : Jvm.MethodName)) ∈ lw_all := lw_g (lw_at lw_m11 139 rfl) rfl
theorem q2648 : (Jvm.Cond.instanceMethod ({ cls := "BanquetVotes$Vote", name := "cook", desc := "()I" } : Jvm.MethodName)) ∈ lw_all := lw_g (lw_at lw_m11 141 rfl) rfl
theorem q2650 : (Jvm.Cond.code ({ cls := "BanquetVotes$Vote", name := "cook", desc := "()I" } : Jvm.MethodName) prog_23_method_6_code (1 : Nat) (Option.some Jvm.ClassFile.FieldType.int)) ∈ lw_all := lw_g (lw_at lw_m11 143 rfl) rfl
theorem q2651 : (Jvm.Cond.classLink "BanquetVotes$Kitchen" (272 : Nat) "BanquetVotes$Vote") ∈ lw_all := lw_g (lw_at lw_m11 144 rfl) rfl
theorem q2652 : (Jvm.Cond.methodLink "BanquetVotes$Kitchen" (320 : Nat) ({ cls := "BanquetVotes$Kitchen", name := "counts", desc := "(LBanquetVotes$Vote;)V" } : Jvm.MethodName)) ∈ lw_all := lw_g (lw_at lw_m11 145 rfl) rfl
theorem q2654 : (Jvm.Cond.instanceMethod ({ cls := "BanquetVotes$Kitchen", name := "counts", desc := "(LBanquetVotes$Vote;)V" } : Jvm.MethodName)) ∈ lw_all := lw_g (lw_at lw_m11 147 rfl) rfl
theorem q2655 : (Jvm.Cond.code ({ cls := "BanquetVotes$Kitchen", name := "counts", desc := "(LBanquetVotes$Vote;)V" } : Jvm.MethodName) prog_14_method_34_code (3 : Nat) (Option.none : Option Jvm.ClassFile.FieldType)) ∈ lw_all := lw_g (lw_at lw_m11 148 rfl) rfl
theorem q2656 : (Jvm.Cond.methodLink "BanquetVotes$Kitchen" (300 : Nat) ({ cls := "BanquetVotes$Vote", name := "course", desc := "()I" } : Jvm.MethodName)) ∈ lw_all := lw_g (lw_at lw_m11 149 rfl) rfl
theorem q2657 : (Jvm.Cond.instanceMethod ({ cls := "BanquetVotes$Vote", name := "course", desc := "()I" } : Jvm.MethodName)) ∈ lw_all := lw_g (lw_at lw_m11 150 rfl) rfl
theorem q2658 : (Jvm.Cond.selects "BanquetVotes$Vote" ({ cls := "BanquetVotes$Vote", name := "course", desc := "()I" } : Jvm.MethodName) ({ cls := "BanquetVotes$Vote", name := "course", desc := "()I" } : Jvm.MethodName)) ∈ lw_all := lw_g (lw_at lw_m11 151 rfl) rfl
theorem q2659 : (Jvm.Cond.code ({ cls := "BanquetVotes$Vote", name := "course", desc := "()I" } : Jvm.MethodName) prog_23_method_7_code (1 : Nat) (Option.some Jvm.ClassFile.FieldType.int)) ∈ lw_all := lw_g (lw_at lw_m11 152 rfl) rfl
theorem q2660 : (Jvm.Cond.methodLink "BanquetVotes$Kitchen" (302 : Nat) ({ cls := "BanquetVotes$Vote", name := "isYes", desc := "()Z" } : Jvm.MethodName)) ∈ lw_all := lw_g (lw_at lw_m11 153 rfl) rfl
theorem q2661 : (Jvm.Cond.instanceMethod ({ cls := "BanquetVotes$Vote", name := "isYes", desc := "()Z" } : Jvm.MethodName)) ∈ lw_all := lw_g (lw_at lw_m11 154 rfl) rfl
theorem q2662 : (Jvm.Cond.selects "BanquetVotes$Vote" ({ cls := "BanquetVotes$Vote", name := "isYes", desc := "()Z" } : Jvm.MethodName) ({ cls := "BanquetVotes$Vote", name := "isYes", desc := "()Z" } : Jvm.MethodName)) ∈ lw_all := lw_g (lw_at lw_m11 155 rfl) rfl
theorem q2663 : (Jvm.Cond.code ({ cls := "BanquetVotes$Vote", name := "isYes", desc := "()Z" } : Jvm.MethodName) prog_23_method_9_code (1 : Nat) (Option.some Jvm.ClassFile.FieldType.boolean)) ∈ lw_all := lw_g (lw_at lw_m11 156 rfl) rfl
theorem q2664 : (Jvm.Cond.methodLink "BanquetVotes$Kitchen" (305 : Nat) ({ cls := "BanquetVotes$Vote", name := "cook", desc := "()I" } : Jvm.MethodName)) ∈ lw_all := lw_g (lw_at lw_m11 157 rfl) rfl
theorem q2665 : (Jvm.Cond.methodLink "BanquetVotes$Kitchen" (307 : Nat) ({ cls := "BanquetVotes$Course", name := "countsYes", desc := "(I)V" } : Jvm.MethodName)) ∈ lw_all := lw_g (lw_at lw_m11 158 rfl) rfl
theorem q2666 : (Jvm.Cond.instanceMethod ({ cls := "BanquetVotes$Course", name := "countsYes", desc := "(I)V" } : Jvm.MethodName)) ∈ lw_all := lw_g (lw_at lw_m11 159 rfl) rfl
theorem q2667 : (Jvm.Cond.selects "BanquetVotes$Course" ({ cls := "BanquetVotes$Course", name := "countsYes", desc := "(I)V" } : Jvm.MethodName) ({ cls := "BanquetVotes$Course", name := "countsYes", desc := "(I)V" } : Jvm.MethodName)) ∈ lw_all := lw_g (lw_at lw_m11 160 rfl) rfl
theorem q2668 : (Jvm.Cond.code ({ cls := "BanquetVotes$Course", name := "countsYes", desc := "(I)V" } : Jvm.MethodName) prog_4_method_11_code (2 : Nat) (Option.none : Option Jvm.ClassFile.FieldType)) ∈ lw_all := lw_g (lw_at lw_m11 161 rfl) rfl
theorem q2669 : (Jvm.Cond.methodLink "BanquetVotes$Kitchen" (310 : Nat) ({ cls := "BanquetVotes$Course", name := "votes", desc := "()I" } : Jvm.MethodName)) ∈ lw_all := lw_g (lw_at lw_m11 162 rfl) rfl
theorem q2670 : (Jvm.Cond.methodLink "BanquetVotes$Kitchen" (324 : Nat) ({ cls := "BanquetVotes$Kitchen", name := "answers", desc := "(LBanquetVotes$Question;)V" } : Jvm.MethodName)) ∈ lw_all := lw_g (lw_at lw_m11 163 rfl) rfl
theorem q2672 : (Jvm.Cond.instanceMethod ({ cls := "BanquetVotes$Kitchen", name := "answers", desc := "(LBanquetVotes$Question;)V" } : Jvm.MethodName)) ∈ lw_all := lw_g (lw_at lw_m11 165 rfl) rfl
theorem q2673 : (Jvm.Cond.code ({ cls := "BanquetVotes$Kitchen", name := "answers", desc := "(LBanquetVotes$Question;)V" } : Jvm.MethodName) prog_14_method_35_code (3 : Nat) (Option.none : Option Jvm.ClassFile.FieldType)) ∈ lw_all := lw_g (lw_at lw_m11 166 rfl) rfl
theorem q2674 : (Jvm.Cond.methodLink "BanquetVotes$Kitchen" (313 : Nat) ({ cls := "BanquetVotes$Question", name := "course", desc := "()I" } : Jvm.MethodName)) ∈ lw_all := lw_g (lw_at lw_m11 167 rfl) rfl
theorem q2675 : (Jvm.Cond.instanceMethod ({ cls := "BanquetVotes$Question", name := "course", desc := "()I" } : Jvm.MethodName)) ∈ lw_all := lw_g (lw_at lw_m11 168 rfl) rfl
theorem q2676 : (Jvm.Cond.selects "BanquetVotes$Question" ({ cls := "BanquetVotes$Question", name := "course", desc := "()I" } : Jvm.MethodName) ({ cls := "BanquetVotes$Question", name := "course", desc := "()I" } : Jvm.MethodName)) ∈ lw_all := lw_g (lw_at lw_m11 169 rfl) rfl
theorem q2677 : (Jvm.Cond.code ({ cls := "BanquetVotes$Question", name := "course", desc := "()I" } : Jvm.MethodName) prog_17_method_7_code (1 : Nat) (Option.some Jvm.ClassFile.FieldType.int)) ∈ lw_all := lw_g (lw_at lw_m11 170 rfl) rfl
theorem q2678 : (Jvm.Cond.methodLink "BanquetVotes$Kitchen" (314 : Nat) ({ cls := "BanquetVotes$Question", name := "cook", desc := "()I" } : Jvm.MethodName)) ∈ lw_all := lw_g (lw_at lw_m11 171 rfl) rfl
theorem q2679 : (Jvm.Cond.methodLink "BanquetVotes$Kitchen" (328 : Nat) ({ cls := "BanquetVotes$Verdict", name := "cook", desc := "()I" } : Jvm.MethodName)) ∈ lw_all := lw_g (lw_at lw_m11 172 rfl) rfl
theorem q2680 : (Jvm.Cond.methodLink "BanquetVotes$Kitchen" (329 : Nat) ({ cls := "BanquetVotes$Verdict", name := "course", desc := "()I" } : Jvm.MethodName)) ∈ lw_all := lw_g (lw_at lw_m11 173 rfl) rfl
theorem q2681 : (Jvm.Cond.instanceMethod ({ cls := "BanquetVotes$Verdict", name := "course", desc := "()I" } : Jvm.MethodName)) ∈ lw_all := lw_g (lw_at lw_m11 174 rfl) rfl
theorem q2682 : (Jvm.Cond.selects "BanquetVotes$Verdict" ({ cls := "BanquetVotes$Verdict", name := "course", desc := "()I" } : Jvm.MethodName) ({ cls := "BanquetVotes$Verdict", name := "course", desc := "()I" } : Jvm.MethodName)) ∈ lw_all := lw_g (lw_at lw_m11 175 rfl) rfl
theorem q2683 : (Jvm.Cond.code ({ cls := "BanquetVotes$Verdict", name := "course", desc := "()I" } : Jvm.MethodName) prog_22_method_7_code (1 : Nat) (Option.some Jvm.ClassFile.FieldType.int)) ∈ lw_all := lw_g (lw_at lw_m11 176 rfl) rfl
theorem q2684 : (Jvm.Cond.methodLink "BanquetVotes$Kitchen" (330 : Nat) ({ cls := "BanquetVotes$Verdict", name := "isServing", desc := "()Z" } : Jvm.MethodName)) ∈ lw_all := lw_g (lw_at lw_m11 177 rfl) rfl
theorem q2685 : (Jvm.Cond.instanceMethod ({ cls := "BanquetVotes$Verdict", name := "isServing", desc := "()Z" } : Jvm.MethodName)) ∈ lw_all := lw_g (lw_at lw_m11 178 rfl) rfl
theorem q2686 : (Jvm.Cond.selects "BanquetVotes$Verdict" ({ cls := "BanquetVotes$Verdict", name := "isServing", desc := "()Z" } : Jvm.MethodName) ({ cls := "BanquetVotes$Verdict", name := "isServing", desc := "()Z" } : Jvm.MethodName)) ∈ lw_all := lw_g (lw_at lw_m11 179 rfl) rfl
theorem q2687 : (Jvm.Cond.code ({ cls := "BanquetVotes$Verdict", name := "isServing", desc := "()Z" } : Jvm.MethodName) prog_22_method_9_code (1 : Nat) (Option.some Jvm.ClassFile.FieldType.boolean)) ∈ lw_all := lw_g (lw_at lw_m11 180 rfl) rfl
theorem q2689 : (Jvm.Cond.methodLink "BanquetVotes$Kitchen" (333 : Nat) ({ cls := "BanquetVotes$Message", name := "course", desc := "()I" } : Jvm.MethodName)) ∈ lw_all := lw_g (lw_at lw_m11 182 rfl) rfl
theorem q2692 : (Jvm.Cond.selects "BanquetVotes$Invitation" ({ cls := "BanquetVotes$Message", name := "course", desc := "()I" } : Jvm.MethodName) ({ cls := "BanquetVotes$Invitation", name := "course", desc := "()I" } : Jvm.MethodName)) ∈ lw_all := lw_g (lw_at lw_m11 185 rfl) rfl
theorem q2694 : (Jvm.Cond.instanceMethod ({ cls := "BanquetVotes$Invitation", name := "course", desc := "()I" } : Jvm.MethodName)) ∈ lw_all := lw_g (lw_at lw_m11 187 rfl) rfl
theorem q2696 : (Jvm.Cond.code ({ cls := "BanquetVotes$Invitation", name := "course", desc := "()I" } : Jvm.MethodName) prog_13_method_7_code (1 : Nat) (Option.some Jvm.ClassFile.FieldType.int)) ∈ lw_all := lw_g (lw_at lw_m11 189 rfl) rfl
theorem q2697 : (Jvm.Cond.selects "BanquetVotes$Question" ({ cls := "BanquetVotes$Message", name := "course", desc := "()I" } : Jvm.MethodName) ({ cls := "BanquetVotes$Question", name := "course", desc := "()I" } : Jvm.MethodName)) ∈ lw_all := lw_g (lw_at lw_m11 190 rfl) rfl
theorem q2700 : (Jvm.Cond.selects "BanquetVotes$Verdict" ({ cls := "BanquetVotes$Message", name := "course", desc := "()I" } : Jvm.MethodName) ({ cls := "BanquetVotes$Verdict", name := "course", desc := "()I" } : Jvm.MethodName)) ∈ lw_all := lw_g (lw_at lw_m11 193 rfl) rfl
theorem q2703 : (Jvm.Cond.selects "BanquetVotes$Vote" ({ cls := "BanquetVotes$Message", name := "course", desc := "()I" } : Jvm.MethodName) ({ cls := "BanquetVotes$Vote", name := "course", desc := "()I" } : Jvm.MethodName)) ∈ lw_all := lw_g (lw_at lw_m11 196 rfl) rfl
theorem q2706 : (Jvm.Cond.methodLink "BanquetVotes$Kitchen" (334 : Nat) ({ cls := "BanquetVotes$Kitchen", name := "isInvited", desc := "(II)V" } : Jvm.MethodName)) ∈ lw_all := lw_g (lw_at lw_m11 199 rfl) rfl
theorem q2708 : (Jvm.Cond.instanceMethod ({ cls := "BanquetVotes$Kitchen", name := "isInvited", desc := "(II)V" } : Jvm.MethodName)) ∈ lw_all := lw_g (lw_at lw_m11 201 rfl) rfl
theorem q2709 : (Jvm.Cond.code ({ cls := "BanquetVotes$Kitchen", name := "isInvited", desc := "(II)V" } : Jvm.MethodName) prog_14_method_30_code (5 : Nat) (Option.none : Option Jvm.ClassFile.FieldType)) ∈ lw_all := lw_g (lw_at lw_m11 202 rfl) rfl
theorem q2710 : (Jvm.Cond.fieldLink "BanquetVotes$Kitchen" (254 : Nat) "BanquetVotes$How" "NOT_ASKED" "LBanquetVotes$How;") ∈ lw_all := lw_g (lw_at lw_m11 203 rfl) rfl
theorem q2711 : (Jvm.Cond.methodLink "BanquetVotes$Kitchen" (260 : Nat) ({ cls := "BanquetVotes$Kitchen", name := "free", desc := "(II)I" } : Jvm.MethodName)) ∈ lw_all := lw_g (lw_at lw_m11 204 rfl) rfl
theorem q2712 : (Jvm.Cond.fieldLink "BanquetVotes$Kitchen" (263 : Nat) "BanquetVotes$How" "READY" "LBanquetVotes$How;") ∈ lw_all := lw_g (lw_at lw_m11 205 rfl) rfl
theorem q2713 : (Jvm.Cond.fieldLink "BanquetVotes$Kitchen" (266 : Nat) "BanquetVotes$How" "REFUSED" "LBanquetVotes$How;") ∈ lw_all := lw_g (lw_at lw_m11 206 rfl) rfl
theorem q2715 : (Jvm.Cond.methodLinkNest "BanquetVotes$Kitchen" (274 : Nat) ({ cls := "BanquetVotes$Vote", name := "<init>", desc := "(IIIZ)V" } : Jvm.MethodName) "BanquetVotes") ∈ lw_tbl := lw_at lw_m11 208 rfl
theorem mv2715 : (Jvm.Cond.methodLinkNest "BanquetVotes$Kitchen" (274 : Nat) ({ cls := "BanquetVotes$Vote", name := "<init>", desc := "(IIIZ)V" } : Jvm.MethodName) "BanquetVotes") ∈ lw_mv := List.mem_filter.mpr ⟨q2715, rfl⟩
theorem q2716 : (Jvm.Cond.instanceMethod ({ cls := "BanquetVotes$Vote", name := "<init>", desc := "(IIIZ)V" } : Jvm.MethodName)) ∈ lw_all := lw_g (lw_at lw_m11 209 rfl) rfl
theorem q2717 : (Jvm.Cond.code ({ cls := "BanquetVotes$Vote", name := "<init>", desc := "(IIIZ)V" } : Jvm.MethodName) prog_23_method_1_code (5 : Nat) (Option.none : Option Jvm.ClassFile.FieldType)) ∈ lw_all := lw_g (lw_at lw_m11 210 rfl) rfl
theorem q2718 : (Jvm.Cond.methodLink "BanquetVotes$Vote" (1 : Nat) ({ cls := "java/lang/Record", name := "<init>", desc := "()V" } : Jvm.MethodName)) ∈ lw_all := lw_g (lw_at lw_m11 211 rfl) rfl
theorem q2719 : (Jvm.Cond.fieldLink "BanquetVotes$Vote" (7 : Nat) "BanquetVotes$Vote" "cook" "I") ∈ lw_all := lw_g (lw_at lw_m11 212 rfl) rfl
theorem q2720 : (Jvm.Cond.fieldLink "BanquetVotes$Vote" (13 : Nat) "BanquetVotes$Vote" "course" "I") ∈ lw_all := lw_g (lw_at lw_m11 213 rfl) rfl
theorem q2721 : (Jvm.Cond.fieldLink "BanquetVotes$Vote" (16 : Nat) "BanquetVotes$Vote" "arrives" "I") ∈ lw_all := lw_g (lw_at lw_m11 214 rfl) rfl
theorem q2722 : (Jvm.Cond.fieldLink "BanquetVotes$Vote" (19 : Nat) "BanquetVotes$Vote" "isYes" "Z") ∈ lw_all := lw_g (lw_at lw_m11 215 rfl) rfl
theorem q2732 : (Jvm.Cond.methodLink "BanquetVotes$Kitchen" (362 : Nat) ({ cls := "BanquetVotes$Kitchen", name := "losesPatience", desc := "()V" } : Jvm.MethodName)) ∈ lw_all := lw_g (lw_at lw_m11 225 rfl) rfl
theorem q2734 : (Jvm.Cond.instanceMethod ({ cls := "BanquetVotes$Kitchen", name := "losesPatience", desc := "()V" } : Jvm.MethodName)) ∈ lw_all := lw_g (lw_at lw_m11 227 rfl) rfl
theorem q2735 : (Jvm.Cond.code ({ cls := "BanquetVotes$Kitchen", name := "losesPatience", desc := "()V" } : Jvm.MethodName) prog_14_method_38_code (3 : Nat) (Option.none : Option Jvm.ClassFile.FieldType)) ∈ lw_all := lw_g (lw_at lw_m11 228 rfl) rfl
theorem q2736 : (Jvm.Cond.methodLink "BanquetVotes$Kitchen" (343 : Nat) ({ cls := "BanquetVotes$Course", name := "asked", desc := "()I" } : Jvm.MethodName)) ∈ lw_all := lw_g (lw_at lw_m11 229 rfl) rfl
theorem q2737 : (Jvm.Cond.methodLink "BanquetVotes$Kitchen" (365 : Nat) ({ cls := "BanquetVotes$Kitchen", name := "allAsk", desc := "()V" } : Jvm.MethodName)) ∈ lw_all := lw_g (lw_at lw_m11 230 rfl) rfl
theorem q2739 : (Jvm.Cond.instanceMethod ({ cls := "BanquetVotes$Kitchen", name := "allAsk", desc := "()V" } : Jvm.MethodName)) ∈ lw_all := lw_g (lw_at lw_m11 232 rfl) rfl
theorem q2740 : (Jvm.Cond.code ({ cls := "BanquetVotes$Kitchen", name := "allAsk", desc := "()V" } : Jvm.MethodName) prog_14_method_40_code (3 : Nat) (Option.none : Option Jvm.ClassFile.FieldType)) ∈ lw_all := lw_g (lw_at lw_m11 233 rfl) rfl
theorem q2741 : (Jvm.Cond.methodLink "BanquetVotes$Kitchen" (349 : Nat) ({ cls := "BanquetVotes$Kitchen", name := "isLongInDoubt", desc := "(LBanquetVotes$Dish;)Z" } : Jvm.MethodName)) ∈ lw_all := lw_g (lw_at lw_m11 234 rfl) rfl
theorem q2743 : (Jvm.Cond.instanceMethod ({ cls := "BanquetVotes$Kitchen", name := "isLongInDoubt", desc := "(LBanquetVotes$Dish;)Z" } : Jvm.MethodName)) ∈ lw_all := lw_g (lw_at lw_m11 236 rfl) rfl
theorem q2744 : (Jvm.Cond.code ({ cls := "BanquetVotes$Kitchen", name := "isLongInDoubt", desc := "(LBanquetVotes$Dish;)Z" } : Jvm.MethodName) prog_14_method_39_code (2 : Nat) (Option.some Jvm.ClassFile.FieldType.boolean)) ∈ lw_all := lw_g (lw_at lw_m11 237 rfl) rfl
theorem q2745 : (Jvm.Cond.methodLink "BanquetVotes$Kitchen" (346 : Nat) ({ cls := "BanquetVotes$Dish", name := "since", desc := "()I" } : Jvm.MethodName)) ∈ lw_all := lw_g (lw_at lw_m11 238 rfl) rfl
theorem q2761 : (Jvm.Cond.methodLink "BanquetVotes" (260 : Nat) ({ cls := "BanquetVotes", name := "requireWho", desc := "(I)V" } : Jvm.MethodName)) ∈ lw_all := lw_g (lw_at lw_m12 14 rfl) rfl
theorem q2763 : (Jvm.Cond.instanceMethod ({ cls := "BanquetVotes", name := "requireWho", desc := "(I)V" } : Jvm.MethodName)) ∈ lw_all := lw_g (lw_at lw_m12 16 rfl) rfl
theorem q2764 : (Jvm.Cond.code ({ cls := "BanquetVotes", name := "requireWho", desc := "(I)V" } : Jvm.MethodName) prog_1_method_10_code (2 : Nat) (Option.none : Option Jvm.ClassFile.FieldType)) ∈ lw_all := lw_g (lw_at lw_m12 17 rfl) rfl
theorem q2797 : (Jvm.Cond.methodLink "BanquetVotes" (271 : Nat) ({ cls := "BanquetVotes$Kitchen", name := "passes", desc := "(I)I" } : Jvm.MethodName)) ∈ lw_all := lw_g (lw_at lw_m12 50 rfl) rfl
theorem q2805 : (Jvm.Cond.methodLink "BanquetVotes" (274 : Nat) ({ cls := "BanquetVotes$Kitchen", name := "clearIn", desc := "(I)I" } : Jvm.MethodName)) ∈ lw_all := lw_g (lw_at lw_m12 58 rfl) rfl
theorem q2806 : (Jvm.Cond.instanceMethod ({ cls := "BanquetVotes$Kitchen", name := "clearIn", desc := "(I)I" } : Jvm.MethodName)) ∈ lw_all := lw_g (lw_at lw_m12 59 rfl) rfl
theorem q2807 : (Jvm.Cond.selects "BanquetVotes$Kitchen" ({ cls := "BanquetVotes$Kitchen", name := "clearIn", desc := "(I)I" } : Jvm.MethodName) ({ cls := "BanquetVotes$Kitchen", name := "clearIn", desc := "(I)I" } : Jvm.MethodName)) ∈ lw_all := lw_g (lw_at lw_m12 60 rfl) rfl
theorem q2808 : (Jvm.Cond.code ({ cls := "BanquetVotes$Kitchen", name := "clearIn", desc := "(I)I" } : Jvm.MethodName) prog_14_method_43_code (4 : Nat) (Option.some Jvm.ClassFile.FieldType.int)) ∈ lw_all := lw_g (lw_at lw_m12 61 rfl) rfl
theorem q2809 : (Jvm.Cond.methodLink "BanquetVotes$Kitchen" (368 : Nat) ({ cls := "BanquetVotes$Kitchen", name := "copy", desc := "()LBanquetVotes$Kitchen;" } : Jvm.MethodName)) ∈ lw_all := lw_g (lw_at lw_m12 62 rfl) rfl
theorem q2810 : (Jvm.Cond.methodLink "BanquetVotes$Kitchen" (371 : Nat) ({ cls := "BanquetVotes$Course", name := "those", desc := "(LBanquetVotes$How;)I" } : Jvm.MethodName)) ∈ lw_all := lw_g (lw_at lw_m12 63 rfl) rfl
theorem q2811 : (Jvm.Cond.methodLink "BanquetVotes$Kitchen" (374 : Nat) ({ cls := "BanquetVotes$Kitchen", name := "passes", desc := "(I)I" } : Jvm.MethodName)) ∈ lw_all := lw_g (lw_at lw_m12 64 rfl) rfl
theorem q2819 : (Jvm.Cond.methodLink "BanquetVotes" (280 : Nat) ({ cls := "BanquetVotes$Kitchen", name := "onWay", desc := "()Ljava/util/List;" } : Jvm.MethodName)) ∈ lw_all := lw_g (lw_at lw_m12 72 rfl) rfl
theorem q2820 : (Jvm.Cond.instanceMethod ({ cls := "BanquetVotes$Kitchen", name := "onWay", desc := "()Ljava/util/List;" } : Jvm.MethodName)) ∈ lw_all := lw_g (lw_at lw_m12 73 rfl) rfl
theorem q2821 : (Jvm.Cond.selects "BanquetVotes$Kitchen" ({ cls := "BanquetVotes$Kitchen", name := "onWay", desc := "()Ljava/util/List;" } : Jvm.MethodName) ({ cls := "BanquetVotes$Kitchen", name := "onWay", desc := "()Ljava/util/List;" } : Jvm.MethodName)) ∈ lw_all := lw_g (lw_at lw_m12 74 rfl) rfl
theorem q2822 : (Jvm.Cond.code ({ cls := "BanquetVotes$Kitchen", name := "onWay", desc := "()Ljava/util/List;" } : Jvm.MethodName) prog_14_method_10_code (7 : Nat) (Option.some (Jvm.ClassFile.FieldType.object "java/util/List"))) ∈ lw_all := lw_g (lw_at lw_m12 75 rfl) rfl
theorem q2823 : (Jvm.Cond.methodLink "BanquetVotes$Kitchen" (97 : Nat) ({ cls := "java/util/LinkedList", name := "add", desc := "(ILjava/lang/Object;)V" } : Jvm.MethodName)) ∈ lw_all := lw_g (lw_at lw_m12 76 rfl) rfl
theorem q2824 : (Jvm.Cond.instanceMethod ({ cls := "java/util/LinkedList", name := "add", desc := "(ILjava/lang/Object;)V" } : Jvm.MethodName)) ∈ lw_all := lw_g (lw_at lw_m12 77 rfl) rfl
theorem q2825 : (Jvm.Cond.selects "java/util/LinkedList" ({ cls := "java/util/LinkedList", name := "add", desc := "(ILjava/lang/Object;)V" } : Jvm.MethodName) ({ cls := "java/util/LinkedList", name := "add", desc := "(ILjava/lang/Object;)V" } : Jvm.MethodName)) ∈ lw_all := lw_g (lw_at lw_m12 78 rfl) rfl
theorem q2826 : (Jvm.Cond.code ({ cls := "java/util/LinkedList", name := "add", desc := "(ILjava/lang/Object;)V" } : Jvm.MethodName) prog_74_method_24_code (3 : Nat) (Option.none : Option Jvm.ClassFile.FieldType)) ∈ lw_all := lw_g (lw_at lw_m12 79 rfl) rfl
theorem q2832 : (Jvm.Cond.methodLink "BanquetVotes" (283 : Nat) ({ cls := "java/util/List", name := "get", desc := "(I)Ljava/lang/Object;" } : Jvm.MethodName)) ∈ lw_all := lw_g (lw_at lw_m12 85 rfl) rfl
theorem q2833 : (Jvm.Cond.classLink "BanquetVotes" (287 : Nat) "BanquetVotes$Message") ∈ lw_all := lw_g (lw_at lw_m12 86 rfl) rfl
theorem q2835 : (Jvm.Cond.methodLink "BanquetVotes" (289 : Nat) ({ cls := "BanquetVotes$Message", name := "number", desc := "()I" } : Jvm.MethodName)) ∈ lw_all := lw_g (lw_at lw_m12 88 rfl) rfl
theorem q2838 : (Jvm.Cond.selects "BanquetVotes$Invitation" ({ cls := "BanquetVotes$Message", name := "number", desc := "()I" } : Jvm.MethodName) ({ cls := "BanquetVotes$Invitation", name := "number", desc := "()I" } : Jvm.MethodName)) ∈ lw_all := lw_g (lw_at lw_m12 91 rfl) rfl
theorem q2840 : (Jvm.Cond.instanceMethod ({ cls := "BanquetVotes$Invitation", name := "number", desc := "()I" } : Jvm.MethodName)) ∈ lw_all := lw_g (lw_at lw_m12 93 rfl) rfl
theorem q2842 : (Jvm.Cond.code ({ cls := "BanquetVotes$Invitation", name := "number", desc := "()I" } : Jvm.MethodName) prog_13_method_2_code (1 : Nat) (Option.some Jvm.ClassFile.FieldType.int)) ∈ lw_all := lw_g (lw_at lw_m12 95 rfl) rfl
theorem q2843 : (Jvm.Cond.selects "BanquetVotes$Question" ({ cls := "BanquetVotes$Message", name := "number", desc := "()I" } : Jvm.MethodName) ({ cls := "BanquetVotes$Question", name := "number", desc := "()I" } : Jvm.MethodName)) ∈ lw_all := lw_g (lw_at lw_m12 96 rfl) rfl
theorem q2845 : (Jvm.Cond.instanceMethod ({ cls := "BanquetVotes$Question", name := "number", desc := "()I" } : Jvm.MethodName)) ∈ lw_all := lw_g (lw_at lw_m12 98 rfl) rfl
theorem q2847 : (Jvm.Cond.code ({ cls := "BanquetVotes$Question", name := "number", desc := "()I" } : Jvm.MethodName) prog_17_method_2_code (1 : Nat) (Option.some Jvm.ClassFile.FieldType.int)) ∈ lw_all := lw_g (lw_at lw_m12 100 rfl) rfl
theorem q2848 : (Jvm.Cond.selects "BanquetVotes$Verdict" ({ cls := "BanquetVotes$Message", name := "number", desc := "()I" } : Jvm.MethodName) ({ cls := "BanquetVotes$Verdict", name := "number", desc := "()I" } : Jvm.MethodName)) ∈ lw_all := lw_g (lw_at lw_m12 101 rfl) rfl
theorem q2850 : (Jvm.Cond.instanceMethod ({ cls := "BanquetVotes$Verdict", name := "number", desc := "()I" } : Jvm.MethodName)) ∈ lw_all := lw_g (lw_at lw_m12 103 rfl) rfl
theorem q2852 : (Jvm.Cond.code ({ cls := "BanquetVotes$Verdict", name := "number", desc := "()I" } : Jvm.MethodName) prog_22_method_2_code (1 : Nat) (Option.some Jvm.ClassFile.FieldType.int)) ∈ lw_all := lw_g (lw_at lw_m12 105 rfl) rfl
theorem q2853 : (Jvm.Cond.selects "BanquetVotes$Vote" ({ cls := "BanquetVotes$Message", name := "number", desc := "()I" } : Jvm.MethodName) ({ cls := "BanquetVotes$Vote", name := "number", desc := "()I" } : Jvm.MethodName)) ∈ lw_all := lw_g (lw_at lw_m12 106 rfl) rfl
theorem q2855 : (Jvm.Cond.instanceMethod ({ cls := "BanquetVotes$Vote", name := "number", desc := "()I" } : Jvm.MethodName)) ∈ lw_all := lw_g (lw_at lw_m12 108 rfl) rfl
theorem q2857 : (Jvm.Cond.code ({ cls := "BanquetVotes$Vote", name := "number", desc := "()I" } : Jvm.MethodName) prog_23_method_2_code (1 : Nat) (Option.some Jvm.ClassFile.FieldType.int)) ∈ lw_all := lw_g (lw_at lw_m12 110 rfl) rfl
theorem q2859 : (Jvm.Cond.methodLink "BanquetVotes" (290 : Nat) ({ cls := "BanquetVotes$Message", name := "cook", desc := "()I" } : Jvm.MethodName)) ∈ lw_all := lw_g (lw_at lw_m12 112 rfl) rfl
theorem q2861 : (Jvm.Cond.methodLink "BanquetVotes" (292 : Nat) ({ cls := "BanquetVotes$Message", name := "course", desc := "()I" } : Jvm.MethodName)) ∈ lw_all := lw_g (lw_at lw_m12 114 rfl) rfl
theorem q2863 : (Jvm.Cond.methodLink "BanquetVotes" (294 : Nat) ({ cls := "BanquetVotes$Message", name := "arrives", desc := "()I" } : Jvm.MethodName)) ∈ lw_all := lw_g (lw_at lw_m12 116 rfl) rfl
theorem q2871 : (Jvm.Cond.methodLink "BanquetVotes" (297 : Nat) ({ cls := "BanquetVotes$Kitchen", name := "who", desc := "(I)LBanquetVotes$Somebody;" } : Jvm.MethodName)) ∈ lw_all := lw_g (lw_at lw_m12 124 rfl) rfl
theorem q2872 : (Jvm.Cond.methodLink "BanquetVotes" (301 : Nat) ({ cls := "BanquetVotes$Somebody", name := "log", desc := "()Ljava/util/List;" } : Jvm.MethodName)) ∈ lw_all := lw_g (lw_at lw_m12 125 rfl) rfl
theorem q2873 : (Jvm.Cond.classLink "BanquetVotes" (304 : Nat) "BanquetVotes$Line") ∈ lw_all := lw_g (lw_at lw_m12 126 rfl) rfl
theorem q2874 : (Jvm.Cond.methodLink "BanquetVotes" (306 : Nat) ({ cls := "BanquetVotes$Line", name := "number", desc := "(I)I" } : Jvm.MethodName)) ∈ lw_all := lw_g (lw_at lw_m12 127 rfl) rfl
theorem q2875 : (Jvm.Cond.instanceMethod ({ cls := "BanquetVotes$Line", name := "number", desc := "(I)I" } : Jvm.MethodName)) ∈ lw_all := lw_g (lw_at lw_m12 128 rfl) rfl
theorem q2876 : (Jvm.Cond.selects "BanquetVotes$Line" ({ cls := "BanquetVotes$Line", name := "number", desc := "(I)I" } : Jvm.MethodName) ({ cls := "BanquetVotes$Line", name := "number", desc := "(I)I" } : Jvm.MethodName)) ∈ lw_all := lw_g (lw_at lw_m12 129 rfl) rfl
theorem q2877 : (Jvm.Cond.code ({ cls := "BanquetVotes$Line", name := "number", desc := "(I)I" } : Jvm.MethodName) prog_15_method_2_code (2 : Nat) (Option.some Jvm.ClassFile.FieldType.int)) ∈ lw_all := lw_g (lw_at lw_m12 130 rfl) rfl
theorem q2885 : (Jvm.Cond.methodLink "BanquetVotes" (308 : Nat) ({ cls := "BanquetVotes$Kitchen", name := "ranked", desc := "()Ljava/util/List;" } : Jvm.MethodName)) ∈ lw_all := lw_g (lw_at lw_m12 138 rfl) rfl
theorem q2886 : (Jvm.Cond.instanceMethod ({ cls := "BanquetVotes$Kitchen", name := "ranked", desc := "()Ljava/util/List;" } : Jvm.MethodName)) ∈ lw_all := lw_g (lw_at lw_m12 139 rfl) rfl
theorem q2887 : (Jvm.Cond.selects "BanquetVotes$Kitchen" ({ cls := "BanquetVotes$Kitchen", name := "ranked", desc := "()Ljava/util/List;" } : Jvm.MethodName) ({ cls := "BanquetVotes$Kitchen", name := "ranked", desc := "()Ljava/util/List;" } : Jvm.MethodName)) ∈ lw_all := lw_g (lw_at lw_m12 140 rfl) rfl
theorem q2888 : (Jvm.Cond.code ({ cls := "BanquetVotes$Kitchen", name := "ranked", desc := "()Ljava/util/List;" } : Jvm.MethodName) prog_14_method_51_code (6 : Nat) (Option.some (Jvm.ClassFile.FieldType.object "java/util/List"))) ∈ lw_all := lw_g (lw_at lw_m12 141 rfl) rfl
theorem q2889 : (Jvm.Cond.methodLink "BanquetVotes$Kitchen" (383 : Nat) ({ cls := "BanquetVotes$Kitchen", name := "isAhead", desc := "(II)Z" } : Jvm.MethodName)) ∈ lw_all := lw_g (lw_at lw_m12 142 rfl) rfl
theorem q2891 : (Jvm.Cond.instanceMethod ({ cls := "BanquetVotes$Kitchen", name := "isAhead", desc := "(II)Z" } : Jvm.MethodName)) ∈ lw_all := lw_g (lw_at lw_m12 144 rfl) rfl
theorem q2892 : (Jvm.Cond.code ({ cls := "BanquetVotes$Kitchen", name := "isAhead", desc := "(II)Z" } : Jvm.MethodName) prog_14_method_50_code (4 : Nat) (Option.some Jvm.ClassFile.FieldType.boolean)) ∈ lw_all := lw_g (lw_at lw_m12 145 rfl) rfl
theorem q2893 : (Jvm.Cond.methodLink "BanquetVotes$Kitchen" (377 : Nat) ({ cls := "BanquetVotes$Cook", name := "served", desc := "()I" } : Jvm.MethodName)) ∈ lw_all := lw_g (lw_at lw_m12 146 rfl) rfl
theorem q2894 : (Jvm.Cond.classLink "BanquetVotes" (311 : Nat) "java/lang/Integer") ∈ lw_all := lw_g (lw_at lw_m12 147 rfl) rfl
theorem q2895 : (Jvm.Cond.methodLink "BanquetVotes" (313 : Nat) ({ cls := "java/lang/Integer", name := "intValue", desc := "()I" } : Jvm.MethodName)) ∈ lw_all := lw_g (lw_at lw_m12 148 rfl) rfl
theorem q2904 : (Jvm.Cond.methodLink "BanquetVotes" (316 : Nat) ({ cls := "java/lang/StringBuilder", name := "length", desc := "()I" } : Jvm.MethodName)) ∈ lw_all := lw_g (lw_at lw_m12 157 rfl) rfl
theorem q2905 : (Jvm.Cond.methodLink "BanquetVotes" (319 : Nat) ({ cls := "BanquetVotes", name := "requireState", desc := "(Z)V" } : Jvm.MethodName)) ∈ lw_all := lw_g (lw_at lw_m12 158 rfl) rfl
theorem q2906 : (Jvm.Cond.static ({ cls := "BanquetVotes", name := "requireState", desc := "(Z)V" } : Jvm.MethodName)) ∈ lw_all := lw_g (lw_at lw_m12 159 rfl) rfl
theorem q2907 : (Jvm.Cond.code ({ cls := "BanquetVotes", name := "requireState", desc := "(Z)V" } : Jvm.MethodName) prog_1_method_6_code (1 : Nat) (Option.none : Option Jvm.ClassFile.FieldType)) ∈ lw_all := lw_g (lw_at lw_m12 160 rfl) rfl
theorem q2908 : (Jvm.Cond.classLink "BanquetVotes" (52 : Nat) "java/lang/IllegalStateException") ∈ lw_all := lw_g (lw_at lw_m12 161 rfl) rfl
theorem q2917 : (Jvm.Cond.methodLink "BanquetVotes" (54 : Nat) ({ cls := "java/lang/IllegalStateException", name := "<init>", desc := "()V" } : Jvm.MethodName)) ∈ lw_all := lw_g (lw_at lw_m12 170 rfl) rfl
theorem q2918 : (Jvm.Cond.instanceMethod ({ cls := "java/lang/IllegalStateException", name := "<init>", desc := "()V" } : Jvm.MethodName)) ∈ lw_all := lw_g (lw_at lw_m12 171 rfl) rfl
theorem q2919 : (Jvm.Cond.code ({ cls := "java/lang/IllegalStateException", name := "<init>", desc := "()V" } : Jvm.MethodName) prog_38_method_1_code (1 : Nat) (Option.none : Option Jvm.ClassFile.FieldType)) ∈ lw_all := lw_g (lw_at lw_m12 172 rfl) rfl
theorem q2923 : (Jvm.Cond.methodLink "BanquetVotes" (322 : Nat) ({ cls := "java/lang/StringBuilder", name := "append", desc := "(C)Ljava/lang/StringBuilder;" } : Jvm.MethodName)) ∈ lw_all := lw_g (lw_at lw_m12 176 rfl) rfl
theorem q2924 : (Jvm.Cond.instanceMethod ({ cls := "java/lang/StringBuilder", name := "append", desc := "(C)Ljava/lang/StringBuilder;" } : Jvm.MethodName)) ∈ lw_all := lw_g (lw_at lw_m12 177 rfl) rfl
theorem q2925 : (Jvm.Cond.selects "java/lang/StringBuilder" ({ cls := "java/lang/StringBuilder", name := "append", desc := "(C)Ljava/lang/StringBuilder;" } : Jvm.MethodName) ({ cls := "java/lang/StringBuilder", name := "append", desc := "(C)Ljava/lang/StringBuilder;" } : Jvm.MethodName)) ∈ lw_all := lw_g (lw_at lw_m12 178 rfl) rfl
theorem q2926 : (Jvm.Cond.code ({ cls := "java/lang/StringBuilder", name := "append", desc := "(C)Ljava/lang/StringBuilder;" } : Jvm.MethodName) prog_49_method_14_code (2 : Nat) (Option.some (Jvm.ClassFile.FieldType.object "java/lang/StringBuilder"))) ∈ lw_all := lw_g (lw_at lw_m12 179 rfl) rfl
theorem q3009 : (Jvm.Cond.methodLink "BanquetVotes$Reader" (3 : Nat) ({ cls := "java/lang/Object", name := "<init>", desc := "()V" } : Jvm.MethodName)) ∈ lw_all := lw_g (lw_at lw_m13 22 rfl) rfl
theorem q3010 : (Jvm.Cond.fieldLink "BanquetVotes$Reader" (9 : Nat) "BanquetVotes$Reader" "text" "Ljava/lang/String;") ∈ lw_all := lw_g (lw_at lw_m13 23 rfl) rfl
theorem q3011 : (Jvm.Cond.fieldLink "BanquetVotes$Reader" (15 : Nat) "BanquetVotes$Reader" "at" "I") ∈ lw_all := lw_g (lw_at lw_m13 24 rfl) rfl
theorem q3021 : (Jvm.Cond.classLink "BanquetVotes$Reader" (107 : Nat) "java/util/ArrayList") ∈ lw_all := lw_g (lw_at lw_m13 34 rfl) rfl
theorem q3022 : (Jvm.Cond.methodLink "BanquetVotes$Reader" (109 : Nat) ({ cls := "java/util/ArrayList", name := "<init>", desc := "()V" } : Jvm.MethodName)) ∈ lw_all := lw_g (lw_at lw_m13 35 rfl) rfl
theorem q3023 : (Jvm.Cond.methodLink "BanquetVotes$Reader" (110 : Nat) ({ cls := "BanquetVotes$Reader", name := "command", desc := "()LBanquetVotes$Command;" } : Jvm.MethodName)) ∈ lw_all := lw_g (lw_at lw_m13 36 rfl) rfl
theorem q3025 : (Jvm.Cond.instanceMethod ({ cls := "BanquetVotes$Reader", name := "command", desc := "()LBanquetVotes$Command;" } : Jvm.MethodName)) ∈ lw_all := lw_g (lw_at lw_m13 38 rfl) rfl
theorem q3026 : (Jvm.Cond.code ({ cls := "BanquetVotes$Reader", name := "command", desc := "()LBanquetVotes$Command;" } : Jvm.MethodName) prog_18_method_9_code (7 : Nat) (Option.some (Jvm.ClassFile.FieldType.object "BanquetVotes$Command"))) ∈ lw_all := lw_g (lw_at lw_m13 39 rfl) rfl
theorem q3027 : (Jvm.Cond.methodLink "BanquetVotes$Reader" (81 : Nat) ({ cls := "BanquetVotes$Reader", name := "word", desc := "()Ljava/lang/String;" } : Jvm.MethodName)) ∈ lw_all := lw_g (lw_at lw_m13 40 rfl) rfl
theorem q3029 : (Jvm.Cond.instanceMethod ({ cls := "BanquetVotes$Reader", name := "word", desc := "()Ljava/lang/String;" } : Jvm.MethodName)) ∈ lw_all := lw_g (lw_at lw_m13 42 rfl) rfl
theorem q3030 : (Jvm.Cond.code ({ cls := "BanquetVotes$Reader", name := "word", desc := "()Ljava/lang/String;" } : Jvm.MethodName) prog_18_method_7_code (2 : Nat) (Option.some (Jvm.ClassFile.FieldType.object "java/lang/String"))) ∈ lw_all := lw_g (lw_at lw_m13 43 rfl) rfl
theorem q3031 : (Jvm.Cond.classLink "BanquetVotes$Reader" (46 : Nat) "java/lang/StringBuilder") ∈ lw_all := lw_g (lw_at lw_m13 44 rfl) rfl
theorem q3032 : (Jvm.Cond.methodLink "BanquetVotes$Reader" (48 : Nat) ({ cls := "java/lang/StringBuilder", name := "<init>", desc := "()V" } : Jvm.MethodName)) ∈ lw_all := lw_g (lw_at lw_m13 45 rfl) rfl
theorem q3033 : (Jvm.Cond.methodLink "BanquetVotes$Reader" (34 : Nat) ({ cls := "BanquetVotes$Reader", name := "here", desc := "()C" } : Jvm.MethodName)) ∈ lw_all := lw_g (lw_at lw_m13 46 rfl) rfl
theorem q3035 : (Jvm.Cond.instanceMethod ({ cls := "BanquetVotes$Reader", name := "here", desc := "()C" } : Jvm.MethodName)) ∈ lw_all := lw_g (lw_at lw_m13 48 rfl) rfl
theorem q3036 : (Jvm.Cond.code ({ cls := "BanquetVotes$Reader", name := "here", desc := "()C" } : Jvm.MethodName) prog_18_method_2_code (1 : Nat) (Option.some Jvm.ClassFile.FieldType.char)) ∈ lw_all := lw_g (lw_at lw_m13 49 rfl) rfl
theorem q3037 : (Jvm.Cond.methodLink "BanquetVotes$Reader" (19 : Nat) ({ cls := "java/lang/String", name := "length", desc := "()I" } : Jvm.MethodName)) ∈ lw_all := lw_g (lw_at lw_m13 50 rfl) rfl
theorem q3038 : (Jvm.Cond.methodLink "BanquetVotes$Reader" (25 : Nat) ({ cls := "java/lang/String", name := "charAt", desc := "(I)C" } : Jvm.MethodName)) ∈ lw_all := lw_g (lw_at lw_m13 51 rfl) rfl
theorem q3051 : (Jvm.Cond.methodLink "BanquetVotes$Reader" (53 : Nat) ({ cls := "java/lang/StringBuilder", name := "append", desc := "(Ljava/lang/String;)Ljava/lang/StringBuilder;" } : Jvm.MethodName)) ∈ lw_all := lw_g (lw_at lw_m13 64 rfl) rfl
theorem q3052 : (Jvm.Cond.methodLink "BanquetVotes$Reader" (57 : Nat) ({ cls := "java/lang/StringBuilder", name := "append", desc := "(Ljava/lang/Object;)Ljava/lang/StringBuilder;" } : Jvm.MethodName)) ∈ lw_all := lw_g (lw_at lw_m13 65 rfl) rfl
theorem q3053 : (Jvm.Cond.instanceMethod ({ cls := "java/lang/StringBuilder", name := "append", desc := "(Ljava/lang/Object;)Ljava/lang/StringBuilder;" } : Jvm.MethodName)) ∈ lw_all := lw_g (lw_at lw_m13 66 rfl) rfl
theorem q3054 : (Jvm.Cond.selects "java/lang/StringBuilder" ({ cls := "java/lang/StringBuilder", name := "append", desc := "(Ljava/lang/Object;)Ljava/lang/StringBuilder;" } : Jvm.MethodName) ({ cls := "java/lang/StringBuilder", name := "append", desc := "(Ljava/lang/Object;)Ljava/lang/StringBuilder;" } : Jvm.MethodName)) ∈ lw_all := lw_g (lw_at lw_m13 67 rfl) rfl
theorem q3055 : (Jvm.Cond.code ({ cls := "java/lang/StringBuilder", name := "append", desc := "(Ljava/lang/Object;)Ljava/lang/StringBuilder;" } : Jvm.MethodName) prog_49_method_6_code (2 : Nat) (Option.some (Jvm.ClassFile.FieldType.object "java/lang/StringBuilder"))) ∈ lw_all := lw_g (lw_at lw_m13 68 rfl) rfl
theorem q3111 : (Jvm.Cond.methodLink "BanquetVotes$Reader" (60 : Nat) ({ cls := "java/lang/StringBuilder", name := "append", desc := "(C)Ljava/lang/StringBuilder;" } : Jvm.MethodName)) ∈ lw_all := lw_g (lw_at lw_m13 124 rfl) rfl
theorem q3112 : (Jvm.Cond.methodLink "BanquetVotes$Reader" (63 : Nat) ({ cls := "java/lang/StringBuilder", name := "toString", desc := "()Ljava/lang/String;" } : Jvm.MethodName)) ∈ lw_all := lw_g (lw_at lw_m13 125 rfl) rfl
theorem q3113 : (Jvm.Cond.methodLink "BanquetVotes$Reader" (67 : Nat) ({ cls := "java/lang/String", name := "contains", desc := "(Ljava/lang/CharSequence;)Z" } : Jvm.MethodName)) ∈ lw_all := lw_g (lw_at lw_m13 126 rfl) rfl
theorem q3114 : (Jvm.Cond.instanceMethod ({ cls := "java/lang/String", name := "contains", desc := "(Ljava/lang/CharSequence;)Z" } : Jvm.MethodName)) ∈ lw_all := lw_g (lw_at lw_m13 127 rfl) rfl
theorem q3115 : (Jvm.Cond.selects "java/lang/String" ({ cls := "java/lang/String", name := "contains", desc := "(Ljava/lang/CharSequence;)Z" } : Jvm.MethodName) ({ cls := "java/lang/String", name := "contains", desc := "(Ljava/lang/CharSequence;)Z" } : Jvm.MethodName)) ∈ lw_all := lw_g (lw_at lw_m13 128 rfl) rfl
theorem q3116 : (Jvm.Cond.code ({ cls := "java/lang/String", name := "contains", desc := "(Ljava/lang/CharSequence;)Z" } : Jvm.MethodName) prog_48_method_97_code (2 : Nat) (Option.some Jvm.ClassFile.FieldType.boolean)) ∈ lw_all := lw_g (lw_at lw_m13 129 rfl) rfl
theorem q3151 : (Jvm.Cond.methodLink "BanquetVotes$Reader" (38 : Nat) ({ cls := "BanquetVotes$Reader", name := "need", desc := "(Z)V" } : Jvm.MethodName)) ∈ lw_all := lw_g (lw_at lw_m13 164 rfl) rfl
theorem q3153 : (Jvm.Cond.instanceMethod ({ cls := "BanquetVotes$Reader", name := "need", desc := "(Z)V" } : Jvm.MethodName)) ∈ lw_all := lw_g (lw_at lw_m13 166 rfl) rfl
theorem q3154 : (Jvm.Cond.code ({ cls := "BanquetVotes$Reader", name := "need", desc := "(Z)V" } : Jvm.MethodName) prog_18_method_3_code (2 : Nat) (Option.none : Option Jvm.ClassFile.FieldType)) ∈ lw_all := lw_g (lw_at lw_m13 167 rfl) rfl
theorem q3155 : (Jvm.Cond.classLink "BanquetVotes$Reader" (29 : Nat) "BanquetVotes$TextError") ∈ lw_all := lw_g (lw_at lw_m13 168 rfl) rfl
theorem q3164 : (Jvm.Cond.methodLink "BanquetVotes$Reader" (31 : Nat) ({ cls := "BanquetVotes$TextError", name := "<init>", desc := "(I)V" } : Jvm.MethodName)) ∈ lw_all := lw_g (lw_at lw_m13 177 rfl) rfl
theorem q3165 : (Jvm.Cond.instanceMethod ({ cls := "BanquetVotes$TextError", name := "<init>", desc := "(I)V" } : Jvm.MethodName)) ∈ lw_all := lw_g (lw_at lw_m13 178 rfl) rfl
theorem q3166 : (Jvm.Cond.code ({ cls := "BanquetVotes$TextError", name := "<init>", desc := "(I)V" } : Jvm.MethodName) prog_21_method_1_code (2 : Nat) (Option.none : Option Jvm.ClassFile.FieldType)) ∈ lw_all := lw_g (lw_at lw_m13 179 rfl) rfl
theorem q3167 : (Jvm.Cond.methodLink "BanquetVotes$TextError" (1 : Nat) ({ cls := "java/lang/Exception", name := "<init>", desc := "(Ljava/lang/String;Ljava/lang/Throwable;)V" } : Jvm.MethodName)) ∈ lw_all := lw_g (lw_at lw_m13 180 rfl) rfl
theorem q3168 : (Jvm.Cond.fieldLink "BanquetVotes$TextError" (7 : Nat) "BanquetVotes$TextError" "position" "I") ∈ lw_all := lw_g (lw_at lw_m13 181 rfl) rfl
theorem q3173 : (Jvm.Cond.methodLink "BanquetVotes$Reader" (71 : Nat) ({ cls := "java/lang/StringBuilder", name := "length", desc := "()I" } : Jvm.MethodName)) ∈ lw_all := lw_g (lw_at lw_m13 186 rfl) rfl
theorem q3174 : (Jvm.Cond.methodLink "BanquetVotes$Reader" (77 : Nat) ({ cls := "BanquetVotes$Reader", name := "takeAll", desc := "(Ljava/lang/String;)V" } : Jvm.MethodName)) ∈ lw_all := lw_g (lw_at lw_m13 187 rfl) rfl
theorem q3176 : (Jvm.Cond.instanceMethod ({ cls := "BanquetVotes$Reader", name := "takeAll", desc := "(Ljava/lang/String;)V" } : Jvm.MethodName)) ∈ lw_all := lw_g (lw_at lw_m13 189 rfl) rfl
theorem q3177 : (Jvm.Cond.code ({ cls := "BanquetVotes$Reader", name := "takeAll", desc := "(Ljava/lang/String;)V" } : Jvm.MethodName) prog_18_method_4_code (3 : Nat) (Option.none : Option Jvm.ClassFile.FieldType)) ∈ lw_all := lw_g (lw_at lw_m13 190 rfl) rfl
theorem q3178 : (Jvm.Cond.methodLink "BanquetVotes$Reader" (84 : Nat) ({ cls := "java/lang/String", name := "hashCode", desc := "()I" } : Jvm.MethodName)) ∈ lw_all := lw_g (lw_at lw_m13 191 rfl) rfl
theorem q3180 : (Jvm.Cond.methodLink "BanquetVotes$Reader" (89 : Nat) ({ cls := "java/lang/String", name := "equals", desc := "(Ljava/lang/Object;)Z" } : Jvm.MethodName)) ∈ lw_all := lw_g (lw_at lw_m13 193 rfl) rfl
theorem q3184 : (Jvm.Cond.classLink "BanquetVotes$Reader" (99 : Nat) "BanquetVotes$Command") ∈ lw_all := lw_g (lw_at lw_m13 197 rfl) rfl
theorem q3185 : (Jvm.Cond.methodLink "BanquetVotes$Reader" (101 : Nat) ({ cls := "BanquetVotes$Reader", name := "who", desc := "()I" } : Jvm.MethodName)) ∈ lw_all := lw_g (lw_at lw_m13 198 rfl) rfl
theorem q3187 : (Jvm.Cond.instanceMethod ({ cls := "BanquetVotes$Reader", name := "who", desc := "()I" } : Jvm.MethodName)) ∈ lw_all := lw_g (lw_at lw_m13 200 rfl) rfl
theorem q3188 : (Jvm.Cond.code ({ cls := "BanquetVotes$Reader", name := "who", desc := "()I" } : Jvm.MethodName) prog_18_method_8_code (1 : Nat) (Option.some Jvm.ClassFile.FieldType.int)) ∈ lw_all := lw_g (lw_at lw_m13 201 rfl) rfl
theorem q3189 : (Jvm.Cond.methodLink "BanquetVotes$Reader" (72 : Nat) ({ cls := "BanquetVotes$Reader", name := "digit", desc := "()I" } : Jvm.MethodName)) ∈ lw_all := lw_g (lw_at lw_m13 202 rfl) rfl
theorem q3191 : (Jvm.Cond.instanceMethod ({ cls := "BanquetVotes$Reader", name := "digit", desc := "()I" } : Jvm.MethodName)) ∈ lw_all := lw_g (lw_at lw_m13 204 rfl) rfl
theorem q3192 : (Jvm.Cond.code ({ cls := "BanquetVotes$Reader", name := "digit", desc := "()I" } : Jvm.MethodName) prog_18_method_6_code (1 : Nat) (Option.some Jvm.ClassFile.FieldType.int)) ∈ lw_all := lw_g (lw_at lw_m13 205 rfl) rfl
theorem q3193 : (Jvm.Cond.methodLink "BanquetVotes$Reader" (42 : Nat) ({ cls := "BanquetVotes$Reader", name := "isDigit", desc := "()Z" } : Jvm.MethodName)) ∈ lw_all := lw_g (lw_at lw_m13 206 rfl) rfl
theorem q3195 : (Jvm.Cond.instanceMethod ({ cls := "BanquetVotes$Reader", name := "isDigit", desc := "()Z" } : Jvm.MethodName)) ∈ lw_all := lw_g (lw_at lw_m13 208 rfl) rfl
theorem q3196 : (Jvm.Cond.code ({ cls := "BanquetVotes$Reader", name := "isDigit", desc := "()Z" } : Jvm.MethodName) prog_18_method_5_code (1 : Nat) (Option.some Jvm.ClassFile.FieldType.boolean)) ∈ lw_all := lw_g (lw_at lw_m13 209 rfl) rfl
theorem q3198 : (Jvm.Cond.methodLink "BanquetVotes$Reader" (104 : Nat) ({ cls := "BanquetVotes$Command", name := "<init>", desc := "(Ljava/lang/String;III)V" } : Jvm.MethodName)) ∈ lw_all := lw_g (lw_at lw_m13 211 rfl) rfl
theorem q3200 : (Jvm.Cond.methodLink "BanquetVotes$Reader" (114 : Nat) ({ cls := "java/util/List", name := "add", desc := "(Ljava/lang/Object;)Z" } : Jvm.MethodName)) ∈ lw_all := lw_g (lw_at lw_m13 213 rfl) rfl
theorem q3904 : (Jvm.Cond.selects "BanquetVotes$Vote" ({ cls := "BanquetVotes$Vote", name := "cook", desc := "()I" } : Jvm.MethodName) ({ cls := "BanquetVotes$Vote", name := "cook", desc := "()I" } : Jvm.MethodName)) ∈ lw_all := lw_g (lw_at lw_m16 197 rfl) rfl
theorem q3905 : (Jvm.Cond.selects "BanquetVotes$Question" ({ cls := "BanquetVotes$Question", name := "cook", desc := "()I" } : Jvm.MethodName) ({ cls := "BanquetVotes$Question", name := "cook", desc := "()I" } : Jvm.MethodName)) ∈ lw_all := lw_g (lw_at lw_m16 198 rfl) rfl
theorem q3906 : (Jvm.Cond.selects "BanquetVotes$Verdict" ({ cls := "BanquetVotes$Verdict", name := "cook", desc := "()I" } : Jvm.MethodName) ({ cls := "BanquetVotes$Verdict", name := "cook", desc := "()I" } : Jvm.MethodName)) ∈ lw_all := lw_g (lw_at lw_m16 199 rfl) rfl
theorem q3907 : (Jvm.Cond.sameMethod "BanquetVotes$Somebody" "BanquetVotes$Somebody" "log" "()Ljava/util/List;") ∈ lw_all := lw_g (lw_at lw_m16 200 rfl) rfl
theorem q3908 : (Jvm.Cond.selects "BanquetVotes$Cook" ({ cls := "BanquetVotes$Somebody", name := "log", desc := "()Ljava/util/List;" } : Jvm.MethodName) ({ cls := "BanquetVotes$Somebody", name := "log", desc := "()Ljava/util/List;" } : Jvm.MethodName)) ∈ lw_all := lw_g (lw_at lw_m16 201 rfl) rfl
theorem q3909 : (Jvm.Cond.selects "BanquetVotes$Host" ({ cls := "BanquetVotes$Somebody", name := "log", desc := "()Ljava/util/List;" } : Jvm.MethodName) ({ cls := "BanquetVotes$Somebody", name := "log", desc := "()Ljava/util/List;" } : Jvm.MethodName)) ∈ lw_all := lw_g (lw_at lw_m16 202 rfl) rfl
theorem q3910 : (Jvm.Cond.selects "java/lang/StringBuilder" ({ cls := "java/lang/StringBuilder", name := "length", desc := "()I" } : Jvm.MethodName) ({ cls := "java/lang/StringBuilder", name := "length", desc := "()I" } : Jvm.MethodName)) ∈ lw_all := lw_g (lw_at lw_m16 203 rfl) rfl
abbrev ck_X2_becomes : CK := ("BanquetVotes$Kitchen", prog_14_method_29_code, 5, none, "becomes", [], 9)
def f_X2_becomes (γ : GP) (x0 : Nat) (x1 : Int32) (x2 : Int32) (x3 : Nat) (x4 : Int32) (g : AH) : Option (AH) := bR ((if hK g x0 = 2 then f_X2_course γ x0 x2 g else none)) fun v2 g1 => bR ((if hK g1 v2 = 20 then f_X7_of γ v2 x1 g1 else none)) fun v4 g3 => gI g3 x0 12 fun v5 => bV ((if hK g3 v4 = 22 then f_X8_becomes γ v4 x3 v5 g3 else none)) fun g6 => bR ((if hK g6 x0 = 2 then f_X2_cook γ x0 x1 g6 else none)) fun v8 g7 => gI g7 x0 12 fun v9 => bV ((if hK g7 v8 = 16 then f_X3_writes γ v8 x4 x2 v9 g7 else none)) fun g10 => (some g10)
theorem t_X2_becomes (γ : GP) (l : Launch) (hl : l.stackTraces = false) (x0 : Nat) (x1 : Int32) (x2 : Int32) (x3 : Nat) (x4 : Int32) (g : AH) : TrM ρV γ l ⟨"BanquetVotes$Kitchen", "becomes", "(IILBanquetVotes$How;I)V"⟩ (ws_ ⟨"BanquetVotes$Kitchen", "becomes", "(IILBanquetVotes$How;I)V"⟩ prog_14_method_29_code 5 none) 9 [.ref x0, .int x1, .int x2, .ref x3, .int x4] g (f_X2_becomes γ x0 x1 x2 x3 x4 g) := by
  refine TrM_of (plainFor_of_name (by decide)) (Nat.le_of_ble_eq_true rfl) ?_
  unfold f_X2_becomes
  change AW ρV γ l ck_X2_becomes g 0 [(0, .ref x0), (1, .int x1), (2, .int x2), (3, .ref x3), (4, .int x4)] [] g _
  refine r_aload_n (pc := 0) dX2_becomes_0 rfl 0 rfl ?_
  refine r_iload_n (pc := 1) dX2_becomes_1 rfl 2 rfl ?_
  refine r_cR (pc := 2) (rest := []) (RunOK_chk (fun h => run_V (n := 1) (c9 := 2) (As := [.int x2]) (rest := []) (t_X2_course γ l hl x0 x2 g) dX2_becomes_2 q2127 q2128 q2129 q109 q2130 (by decide +kernel) rfl h ⟨rfl, by decide, by decide⟩ (Nat.le_of_ble_eq_true rfl) (Nat.le_of_ble_eq_true rfl) rfl (Nat.le_of_ble_eq_true rfl))) (fun v2 g1 => ?_)
  refine r_iload_n (pc := 5) dX2_becomes_5 rfl 1 rfl ?_
  refine r_cR (pc := 6) (rest := []) (RunOK_chk (fun h => run_V (n := 1) (c9 := 20) (As := [.int x1]) (rest := []) (t_X7_of γ l hl v2 x1 g1) dX2_becomes_6 q2066 q2067 q2068 q150 q2069 (by decide +kernel) rfl h ⟨rfl, by decide, by decide⟩ (Nat.le_of_ble_eq_true rfl) (Nat.le_of_ble_eq_true rfl) rfl (Nat.le_of_ble_eq_true rfl))) (fun v4 g3 => ?_)
  refine r_aload_n (pc := 9) dX2_becomes_9 rfl 3 rfl ?_
  refine r_aload_n (pc := 10) dX2_becomes_10 rfl 0 rfl ?_
  refine r_getI (f := 12) (pc := 11) dX2_becomes_11 q269 (Or.inl rfl) rfl (fun v5 => ?_)
  refine r_cV (pc := 14) (rest := []) (RunOK_chk (fun h => run_V (n := 2) (c9 := 22) (As := [.ref x3, .int v5]) (rest := []) (t_X8_becomes γ l hl v4 x3 v5 g3) dX2_becomes_14 q2540 q2541 q2542 q157 q2543 (by decide +kernel) rfl h ⟨rfl, by decide, by decide⟩ (Nat.le_of_ble_eq_true rfl) (Nat.le_of_ble_eq_true rfl) rfl (Nat.le_of_ble_eq_true rfl))) (fun g6 => ?_)
  refine r_aload_n (pc := 17) dX2_becomes_17 rfl 0 rfl ?_
  refine r_iload_n (pc := 18) dX2_becomes_18 rfl 1 rfl ?_
  refine r_cR (pc := 19) (rest := []) (RunOK_chk (fun h => run_V (n := 1) (c9 := 2) (As := [.int x1]) (rest := []) (t_X2_cook γ l hl x0 x1 g6) dX2_becomes_19 q2020 q2021 q2022 q109 q2023 (by decide +kernel) rfl h ⟨rfl, by decide, by decide⟩ (Nat.le_of_ble_eq_true rfl) (Nat.le_of_ble_eq_true rfl) rfl (Nat.le_of_ble_eq_true rfl))) (fun v8 g7 => ?_)
  refine r_iload (pc := 22) dX2_becomes_22 4 rfl ?_
  refine r_iload_n (pc := 24) dX2_becomes_24 rfl 2 rfl ?_
  refine r_aload_n (pc := 25) dX2_becomes_25 rfl 0 rfl ?_
  refine r_getI (f := 12) (pc := 26) dX2_becomes_26 q269 (Or.inl rfl) rfl (fun v9 => ?_)
  refine r_cV (pc := 29) (rest := []) (RunOK_chk (fun h => run_U (n := 3) (c9 := 16) (As := [.int x4, .int x2, .int v9]) (rest := []) (owner := "BanquetVotes$Somebody") (t_X3_writes γ l hl v8 x4 x2 v9 g7) dX2_becomes_29 q2544 q2545 q2546 q2381 q113 q2382 rfl ⟨by decide, by decide, by decide +kernel⟩ rfl h ⟨by decide, by decide⟩ (Nat.le_of_ble_eq_true rfl) (Nat.le_of_ble_eq_true rfl) rfl (Nat.le_of_ble_eq_true rfl))) (fun g10 => ?_)
  exact r_vret (pc := 32) dX2_becomes_32 rfl
abbrev ck_X6_serves : CK := ("BanquetVotes$Cook", prog_3_method_7_code, 3, none, "serves", [], 1)
def f_X6_serves (γ : GP) (x0 : Nat) (x1 : Int32) (x2 : Int32) (g : AH) : Option (AH) := gR g x0 77 fun v1 => gA g 101 v1 x1 fun v2 => pA γ g 101 v1 x1 (v2 - x2) fun g3 => gR g3 x0 79 fun v4 => gA g3 101 v4 x1 fun v5 => pA γ g3 101 v4 x1 (v5 + x2) fun g6 => (some g6)
theorem t_X6_serves (γ : GP) (l : Launch) (hl : l.stackTraces = false) (x0 : Nat) (x1 : Int32) (x2 : Int32) (g : AH) : TrM ρV γ l ⟨"BanquetVotes$Cook", "serves", "(II)V"⟩ (ws_ ⟨"BanquetVotes$Cook", "serves", "(II)V"⟩ prog_3_method_7_code 3 none) 1 [.ref x0, .int x1, .int x2] g (f_X6_serves γ x0 x1 x2 g) := by
  refine TrM_of (plainFor_of_name (by decide)) (Nat.le_of_ble_eq_true rfl) ?_
  unfold f_X6_serves
  change AW ρV γ l ck_X6_serves g 0 [(0, .ref x0), (1, .int x1), (2, .int x2)] [] g _
  refine r_aload_n (pc := 0) dX6_serves_0 rfl 0 rfl ?_
  refine r_getR (f := 77) (pc := 1) dX6_serves_1 q1237 (Or.inl rfl) rfl (fun v1 => ?_)
  refine r_iload_n (pc := 4) dX6_serves_4 rfl 1 rfl ?_
  refine r_dup2 (pc := 5) dX6_serves_5 rfl rfl ?_
  refine r_iald (pc := 6) dX6_serves_6 (fun v2 => ?_)
  refine r_iload_n (pc := 7) dX6_serves_7 rfl 2 rfl ?_
  refine r_isub (pc := 8) dX6_serves_8 ?_
  refine r_iast (pc := 9) dX6_serves_9 (fun g3 => ?_)
  refine r_aload_n (pc := 10) dX6_serves_10 rfl 0 rfl ?_
  refine r_getR (f := 79) (pc := 11) dX6_serves_11 q1239 (Or.inl rfl) rfl (fun v4 => ?_)
  refine r_iload_n (pc := 14) dX6_serves_14 rfl 1 rfl ?_
  refine r_dup2 (pc := 15) dX6_serves_15 rfl rfl ?_
  refine r_iald (pc := 16) dX6_serves_16 (fun v5 => ?_)
  refine r_iload_n (pc := 17) dX6_serves_17 rfl 2 rfl ?_
  refine r_iadd (pc := 18) dX6_serves_18 ?_
  refine r_iast (pc := 19) dX6_serves_19 (fun g6 => ?_)
  exact r_vret (pc := 20) dX6_serves_20 rfl
abbrev ck_X9_canBeCancelled : CK := ("BanquetVotes$How", prog_7_method_5_code, 1, (some .boolean), "canBeCancelled", [], 1)
def f_X9_canBeCancelled (γ : GP) (x0 : Nat) (g : AH) : Option (Int32 × AH) := (rtN .boolean (0 : Int32) g)
theorem t_X9_canBeCancelled (γ : GP) (l : Launch) (hl : l.stackTraces = false) (x0 : Nat) (g : AH) : TrM ρI γ l ⟨"BanquetVotes$How", "canBeCancelled", "()Z"⟩ (ws_ ⟨"BanquetVotes$How", "canBeCancelled", "()Z"⟩ prog_7_method_5_code 1 (some .boolean)) 1 [.ref x0] g (f_X9_canBeCancelled γ x0 g) := by
  refine TrM_of (plainFor_of_name (by decide)) (Nat.le_of_ble_eq_true rfl) ?_
  unfold f_X9_canBeCancelled
  change AW ρI γ l ck_X9_canBeCancelled g 0 [(0, .ref x0)] [] g _
  refine r_iconst (v := (0 : Int32)) (pc := 0) dX9_canBeCancelled_0 (by decide) ?_
  exact r_zret (ty := .boolean) (pc := 1) dX9_canBeCancelled_1 rfl
abbrev ck_X2_hears : CK := ("BanquetVotes$Kitchen", prog_14_method_31_code, 5, none, "hears", [], 10)
def f_X2_hears (γ : GP) (x0 : Nat) (x1 : Int32) (x2 : Int32) (x3 : Int32) (g : AH) : Option (AH) := bR ((if hK g x0 = 2 then f_X2_course γ x0 x2 g else none)) fun v2 g1 => bR ((if hK g1 v2 = 20 then f_X7_of γ v2 x1 g1 else none)) fun v4 g3 => jn (fun (g5 : AH) => (if x3 = 0 then bR ((if hK g5 v4 = 22 then f_X8_how γ v4 g5 else none)) fun v8 g7 => bI ((if hK g7 v8 = 37 then some ((1 : Int32), g7) else if hK g7 v8 = 38 then some ((1 : Int32), g7) else if hK g7 v8 = 39 then f_X9_canBeCancelled γ v8 g7 else if hK g7 v8 = 40 then f_X9_canBeCancelled γ v8 g7 else if hK g7 v8 = 41 then f_X9_canBeCancelled γ v8 g7 else none)) fun v10 g9 => (if v10 = 0 then (some g9) else bV ((if hK g9 x0 = 2 then f_X2_becomes γ x0 x1 x2 (γ.1 8) (6 : Int32) g9 else none)) fun g11 => (some g11)) else (some g5))) (fun (j6 : AH → Option (AH)) => (if x3 = 0 then j6 g3 else bI ((if hK g3 v4 = 22 then f_X8_isReady γ v4 g3 else none)) fun v13 g12 => (if v13 = 0 then j6 g12 else bV ((if hK g12 x0 = 2 then f_X2_becomes γ x0 x1 x2 (γ.1 6) (5 : Int32) g12 else none)) fun g14 => bR ((if hK g14 x0 = 2 then f_X2_cook γ x0 x1 g14 else none)) fun v16 g15 => bI ((if hK g15 v4 = 22 then f_X8_ingredient γ v4 g15 else none)) fun v18 g17 => bI ((if hK g17 v4 = 22 then f_X8_amount γ v4 g17 else none)) fun v20 g19 => bV ((if hK g19 v16 = 16 then f_X6_serves γ v16 v18 v20 g19 else none)) fun g21 => (some g21))))
theorem t_X2_hears (γ : GP) (l : Launch) (hl : l.stackTraces = false) (x0 : Nat) (x1 : Int32) (x2 : Int32) (x3 : Int32) (g : AH) : TrM ρV γ l ⟨"BanquetVotes$Kitchen", "hears", "(IIZ)V"⟩ (ws_ ⟨"BanquetVotes$Kitchen", "hears", "(IIZ)V"⟩ prog_14_method_31_code 5 none) 10 [.ref x0, .int x1, .int x2, .int x3] g (f_X2_hears γ x0 x1 x2 x3 g) := by
  refine TrM_of (plainFor_of_name (by decide)) (Nat.le_of_ble_eq_true rfl) ?_
  unfold f_X2_hears
  change AW ρV γ l ck_X2_hears g 0 [(0, .ref x0), (1, .int x1), (2, .int x2), (3, .int x3)] [] g _
  refine r_aload_n (pc := 0) dX2_hears_0 rfl 0 rfl ?_
  refine r_iload_n (pc := 1) dX2_hears_1 rfl 2 rfl ?_
  refine r_cR (pc := 2) (rest := []) (RunOK_chk (fun h => run_V (n := 1) (c9 := 2) (As := [.int x2]) (rest := []) (t_X2_course γ l hl x0 x2 g) dX2_hears_2 q2127 q2128 q2129 q109 q2130 (by decide +kernel) rfl h ⟨rfl, by decide, by decide⟩ (Nat.le_of_ble_eq_true rfl) (Nat.le_of_ble_eq_true rfl) rfl (Nat.le_of_ble_eq_true rfl))) (fun v2 g1 => ?_)
  refine r_iload_n (pc := 5) dX2_hears_5 rfl 1 rfl ?_
  refine r_cR (pc := 6) (rest := []) (RunOK_chk (fun h => run_V (n := 1) (c9 := 20) (As := [.int x1]) (rest := []) (t_X7_of γ l hl v2 x1 g1) dX2_hears_6 q2066 q2067 q2068 q150 q2069 (by decide +kernel) rfl h ⟨rfl, by decide, by decide⟩ (Nat.le_of_ble_eq_true rfl) (Nat.le_of_ble_eq_true rfl) rfl (Nat.le_of_ble_eq_true rfl))) (fun v4 g3 => ?_)
  refine r_astore (pc := 9) dX2_hears_9 (Nat.le_of_ble_eq_true rfl) rfl ?_
  refine r_iload_n (pc := 11) dX2_hears_11 rfl 4 rfl ?_
  refine AW_jn (P := fun (j : AH → Option (AH)) => ∀ (g5 : AH), AW ρV γ l ck_X2_hears g 54 [(0, .ref x0), (1, .int x1), (2, .int x2), (3, .int x3), (4, .ref v4)] [] g5 (j g5)) (fun g5 => ?_) (fun j6 h_j6 => ?_)
  · skip
    refine r_iload_n (pc := 54) dX2_hears_54 rfl 3 rfl ?_
    refine r_if_ne (tgt := 80) (pc := 55) dX2_hears_55 (by decide) ?_ ?_
    · skip
      refine r_aload (pc := 58) dX2_hears_58 4 rfl ?_
      refine r_cR (pc := 60) (rest := []) (RunOK_chk (fun h => run_V (n := 0) (c9 := 22) (As := []) (rest := []) (t_X8_how γ l hl v4 g5) dX2_hears_60 q2070 q1179 q1180 q157 q1181 (by decide +kernel) rfl h ⟨rfl, by decide, by decide⟩ (Nat.le_of_ble_eq_true rfl) (Nat.le_of_ble_eq_true rfl) rfl (Nat.le_of_ble_eq_true rfl))) (fun v8 g7 => ?_)
      refine r_cI (pc := 63) (rest := []) (RunOK_if (fun h => run_K (n9 := 0) (c9 := 37) (As := []) (rest := []) (owner := "BanquetVotes$How") dX2_hears_63 q2551 q2553 q2554 q2555 q2556 (Or.inl ⟨_, _, _, q2552, q2563⟩) (by decide +kernel) dX19_canBeCancelled_0 (Or.inl ⟨rfl, by decide⟩) dX19_canBeCancelled_1 (by decide) ⟨by decide, by decide, by decide +kernel⟩ rfl h ⟨by decide, by decide⟩ (Nat.le_of_ble_eq_true rfl) (Nat.le_of_ble_eq_true rfl) rfl (Nat.le_of_ble_eq_true rfl)) (RunOK_if (fun h => run_K (n9 := 0) (c9 := 38) (As := []) (rest := []) (owner := "BanquetVotes$How") dX2_hears_63 q2551 q2553 q2557 q2558 q2559 (Or.inl ⟨_, _, _, q2552, q2563⟩) (by decide +kernel) dX20_canBeCancelled_0 (Or.inl ⟨rfl, by decide⟩) dX20_canBeCancelled_1 (by decide) ⟨by decide, by decide, by decide +kernel⟩ rfl h ⟨by decide, by decide⟩ (Nat.le_of_ble_eq_true rfl) (Nat.le_of_ble_eq_true rfl) rfl (Nat.le_of_ble_eq_true rfl)) (RunOK_if (fun h => run_U (n := 0) (c9 := 39) (As := []) (rest := []) (owner := "BanquetVotes$How") (t_X9_canBeCancelled γ l hl v8 g7) dX2_hears_63 q2551 q2553 q2560 q2552 q159 q2563 rfl ⟨by decide, by decide, by decide +kernel⟩ rfl h ⟨by decide, by decide⟩ (Nat.le_of_ble_eq_true rfl) (Nat.le_of_ble_eq_true rfl) rfl (Nat.le_of_ble_eq_true rfl)) (RunOK_if (fun h => run_U (n := 0) (c9 := 40) (As := []) (rest := []) (owner := "BanquetVotes$How") (t_X9_canBeCancelled γ l hl v8 g7) dX2_hears_63 q2551 q2553 q2561 q2552 q159 q2563 rfl ⟨by decide, by decide, by decide +kernel⟩ rfl h ⟨by decide, by decide⟩ (Nat.le_of_ble_eq_true rfl) (Nat.le_of_ble_eq_true rfl) rfl (Nat.le_of_ble_eq_true rfl)) (RunOK_chk (fun h => run_U (n := 0) (c9 := 41) (As := []) (rest := []) (owner := "BanquetVotes$How") (t_X9_canBeCancelled γ l hl v8 g7) dX2_hears_63 q2551 q2553 q2562 q2552 q159 q2563 rfl ⟨by decide, by decide, by decide +kernel⟩ rfl h ⟨by decide, by decide⟩ (Nat.le_of_ble_eq_true rfl) (Nat.le_of_ble_eq_true rfl) rfl (Nat.le_of_ble_eq_true rfl))))))) (fun v10 g9 => ?_)
      refine r_if_eq (tgt := 80) (pc := 66) dX2_hears_66 (by decide) ?_ ?_
      · skip
        exact r_vret (pc := 80) dX2_hears_80 rfl
      · skip
        refine r_aload_n (pc := 69) dX2_hears_69 rfl 0 rfl ?_
        refine r_iload_n (pc := 70) dX2_hears_70 rfl 1 rfl ?_
        refine r_iload_n (pc := 71) dX2_hears_71 rfl 2 rfl ?_
        refine r_gets (i := 8) (pc := 72) dX2_hears_72 q2564 (List.mem_of_getElem? (i := 8) rfl) rfl ?_
        refine r_bipush (v := (6 : Int32)) (pc := 75) dX2_hears_75 (by decide) ?_
        refine r_cV (pc := 77) (rest := []) (RunOK_chk (fun h => run_V (n := 4) (c9 := 2) (As := [.int x1, .int x2, .ref (γ.1 8), .int (6 : Int32)]) (rest := []) (t_X2_becomes γ l hl x0 x1 x2 (γ.1 8) (6 : Int32) g9) dX2_hears_77 q2536 q2538 qs31 q109 q2539 (by decide +kernel) rfl h ⟨rfl, by decide, by decide⟩ (Nat.le_of_ble_eq_true rfl) (Nat.le_of_ble_eq_true rfl) rfl (Nat.le_of_ble_eq_true rfl))) (fun g11 => ?_)
        exact r_vret (pc := 80) dX2_hears_80 rfl
    · skip
      exact r_vret (pc := 80) dX2_hears_80 rfl
  · skip
    refine r_if_eq (tgt := 54) (pc := 12) dX2_hears_12 (by decide) ?_ ?_
    · skip
      refine AW_sub [1, 2, 3, 4, 0] rfl ?_
      exact h_j6 g3
    · skip
      refine r_aload (pc := 15) dX2_hears_15 0 rfl ?_
      refine r_cI (pc := 17) (rest := []) (RunOK_chk (fun h => run_V (n := 0) (c9 := 22) (As := []) (rest := []) (t_X8_isReady γ l hl v4 g3) dX2_hears_17 q2225 q2226 q2227 q157 q2228 (by decide +kernel) rfl h ⟨rfl, by decide, by decide⟩ (Nat.le_of_ble_eq_true rfl) (Nat.le_of_ble_eq_true rfl) rfl (Nat.le_of_ble_eq_true rfl))) (fun v13 g12 => ?_)
      refine r_if_eq (tgt := 54) (pc := 20) dX2_hears_20 (by decide) ?_ ?_
      · skip
        refine AW_sub [1, 2, 3, 4, 0] rfl ?_
        exact h_j6 g12
      · skip
        refine r_aload_n (pc := 23) dX2_hears_23 rfl 1 rfl ?_
        refine r_iload_n (pc := 24) dX2_hears_24 rfl 2 rfl ?_
        refine r_iload_n (pc := 25) dX2_hears_25 rfl 3 rfl ?_
        refine r_gets (i := 6) (pc := 26) dX2_hears_26 q2531 (List.mem_of_getElem? (i := 6) rfl) rfl ?_
        refine r_iconst (v := (5 : Int32)) (pc := 29) dX2_hears_29 (by decide) ?_
        refine r_cV (pc := 30) (rest := []) (RunOK_chk (fun h => run_V (n := 4) (c9 := 2) (As := [.int x1, .int x2, .ref (γ.1 6), .int (5 : Int32)]) (rest := []) (t_X2_becomes γ l hl x0 x1 x2 (γ.1 6) (5 : Int32) g12) dX2_hears_30 q2536 q2538 qs31 q109 q2539 (by decide +kernel) rfl h ⟨rfl, by decide, by decide⟩ (Nat.le_of_ble_eq_true rfl) (Nat.le_of_ble_eq_true rfl) rfl (Nat.le_of_ble_eq_true rfl))) (fun g14 => ?_)
        refine r_aload_n (pc := 33) dX2_hears_33 rfl 1 rfl ?_
        refine r_iload_n (pc := 34) dX2_hears_34 rfl 2 rfl ?_
        refine r_cR (pc := 35) (rest := []) (RunOK_chk (fun h => run_V (n := 1) (c9 := 2) (As := [.int x1]) (rest := []) (t_X2_cook γ l hl x0 x1 g14) dX2_hears_35 q2020 q2021 q2022 q109 q2023 (by decide +kernel) rfl h ⟨rfl, by decide, by decide⟩ (Nat.le_of_ble_eq_true rfl) (Nat.le_of_ble_eq_true rfl) rfl (Nat.le_of_ble_eq_true rfl))) (fun v16 g15 => ?_)
        refine r_aload (pc := 38) dX2_hears_38 0 rfl ?_
        refine r_cI (pc := 40) (rest := [.ref v16]) (RunOK_chk (fun h => run_V (n := 0) (c9 := 22) (As := []) (rest := [.ref v16]) (t_X8_ingredient γ l hl v4 g15) dX2_hears_40 q2135 q2136 q2137 q157 q2138 (by decide +kernel) rfl h ⟨rfl, by decide, by decide⟩ (Nat.le_of_ble_eq_true rfl) (Nat.le_of_ble_eq_true rfl) rfl (Nat.le_of_ble_eq_true rfl))) (fun v18 g17 => ?_)
        refine r_aload (pc := 43) dX2_hears_43 0 rfl ?_
        refine r_cI (pc := 45) (rest := [.int v18, .ref v16]) (RunOK_chk (fun h => run_V (n := 0) (c9 := 22) (As := []) (rest := [.int v18, .ref v16]) (t_X8_amount γ l hl v4 g17) dX2_hears_45 q2230 q2189 q2190 q157 q2191 (by decide +kernel) rfl h ⟨rfl, by decide, by decide⟩ (Nat.le_of_ble_eq_true rfl) (Nat.le_of_ble_eq_true rfl) rfl (Nat.le_of_ble_eq_true rfl))) (fun v20 g19 => ?_)
        refine r_cV (pc := 48) (rest := []) (RunOK_chk (fun h => run_V (n := 2) (c9 := 16) (As := [.int v18, .int v20]) (rest := []) (t_X6_serves γ l hl v16 v18 v20 g19) dX2_hears_48 q2547 q2548 q2549 q144 q2550 (by decide +kernel) rfl h ⟨rfl, by decide, by decide⟩ (Nat.le_of_ble_eq_true rfl) (Nat.le_of_ble_eq_true rfl) rfl (Nat.le_of_ble_eq_true rfl))) (fun g21 => ?_)
        refine r_goto (tgt := 80) (pc := 51) dX2_hears_51 (by decide) ?_
        exact r_vret (pc := 80) dX2_hears_80 rfl
abbrev ck_X2_learns : CK := ("BanquetVotes$Kitchen", prog_14_method_33_code, 7, (some .int), "learns", [], 11)
def f_X2_learns (γ : GP) (x0 : Nat) (x1 : Int32) (x2 : Int32) (x3 : Int32) (g : AH) : Option ((Int32 × AH) ⊕ (Nat × AH)) := bXV ((if hK g x0 = 2 then f_X2_checkDish γ x0 x1 x3 g else none)) (fun e2 g3 => (thr e2 g3)) fun g1 => bXV ((if hK g1 x0 = 2 then f_X2_checkDish γ x0 x2 x3 g1 else none)) (fun e5 g6 => (thr e5 g6)) fun g4 => bR ((if hK g4 x0 = 2 then f_X2_course γ x0 x3 g4 else none)) fun v8 g7 => bR ((if hK g7 v8 = 20 then f_X7_of γ v8 x1 g7 else none)) fun v10 g9 => bR ((if hK g9 x0 = 2 then f_X2_course γ x0 x3 g9 else none)) fun v12 g11 => bR ((if hK g11 v12 = 20 then f_X7_of γ v12 x2 g11 else none)) fun v14 g13 => bI ((if hK g13 v10 = 22 then f_X8_isReady γ v10 g13 else none)) fun v16 g15 => bI ((if hK g15 v10 = 22 then f_X8_number γ v10 g15 else none)) fun v18 g17 => bXV (f_X1_meet γ v16 (10 : Int32) v18 g17) (fun e20 g21 => (thr e20 g21)) fun g19 => bR ((if hK g19 x0 = 2 then f_X2_cook γ x0 x1 g19 else none)) fun v23 g22 => bI ((if hK g22 v23 = 16 then f_X3_hasFainted γ v23 g22 else none)) fun v25 g24 => jn (fun (z26 : Int32) (g27 : AH) => bXV (f_X1_meet γ z26 (11 : Int32) x1 g27) (fun e30 g31 => (thr e30 g31)) fun g29 => bR ((if hK g29 x0 = 2 then f_X2_cook γ x0 x2 g29 else none)) fun v33 g32 => bI ((if hK g32 v33 = 16 then f_X3_hasFainted γ v33 g32 else none)) fun v35 g34 => jn (fun (z36 : Int32) (g37 : AH) => bXV (f_X1_meet γ z36 (11 : Int32) x2 g37) (fun e40 g41 => (thr e40 g41)) fun g39 => bR ((if hK g39 v14 = 22 then f_X8_how γ v14 g39 else none)) fun v43 g42 => jn (fun (z44 : Int32) (g45 : AH) => jn (fun (g47 : AH) => bI ((if hK g47 v14 = 22 then f_X8_number γ v14 g47 else none)) fun v50 g49 => bXV (f_X1_meet γ (1 : Int32) (12 : Int32) v50 g49) (fun e52 g53 => (thr e52 g53)) fun g51 => bV ((if hK g51 x0 = 2 then f_X2_hears γ x0 x1 x3 z44 g51 else none)) fun g54 => bI ((if hK g54 v10 = 22 then f_X8_number γ v10 g54 else none)) fun v56 g55 => (some (.inl (v56, g55)))) (fun (j48 : AH → Option ((Int32 × AH) ⊕ (Nat × AH))) => (if z44 = 0 then bR ((if hK g45 v14 = 22 then f_X8_how γ v14 g45 else none)) fun v58 g57 => bI ((if hK g57 v58 = 37 then f_X9_isOff γ v58 g57 else if hK g57 v58 = 38 then f_X9_isOff γ v58 g57 else if hK g57 v58 = 39 then some ((1 : Int32), g57) else if hK g57 v58 = 40 then f_X9_isOff γ v58 g57 else if hK g57 v58 = 41 then some ((1 : Int32), g57) else none)) fun v60 g59 => (if v60 = 0 then bI ((if hK g59 v14 = 22 then f_X8_number γ v14 g59 else none)) fun v62 g61 => bXV (f_X1_meet γ (0 : Int32) (12 : Int32) v62 g61) (fun e64 g65 => (thr e64 g65)) fun g63 => bV ((if hK g63 x0 = 2 then f_X2_hears γ x0 x1 x3 z44 g63 else none)) fun g66 => bI ((if hK g66 v10 = 22 then f_X8_number γ v10 g66 else none)) fun v68 g67 => (some (.inl (v68, g67))) else j48 g59) else j48 g45))) (fun (j46 : Int32 → AH → Option ((Int32 × AH) ⊕ (Nat × AH))) => (if v43 = (γ.1 6) then j46 (1 : Int32) g42 else j46 (0 : Int32) g42))) (fun (j38 : Int32 → AH → Option ((Int32 × AH) ⊕ (Nat × AH))) => (if v35 = 0 then j38 (1 : Int32) g34 else j38 (0 : Int32) g34))) (fun (j28 : Int32 → AH → Option ((Int32 × AH) ⊕ (Nat × AH))) => (if v25 = 0 then j28 (1 : Int32) g24 else j28 (0 : Int32) g24))
theorem t_X2_learns (γ : GP) (l : Launch) (hl : l.stackTraces = false) (x0 : Nat) (x1 : Int32) (x2 : Int32) (x3 : Int32) (g : AH) : TrM (ρX ρI) γ l ⟨"BanquetVotes$Kitchen", "learns", "(III)I"⟩ (ws_ ⟨"BanquetVotes$Kitchen", "learns", "(III)I"⟩ prog_14_method_33_code 7 (some .int)) 11 [.ref x0, .int x1, .int x2, .int x3] g (f_X2_learns γ x0 x1 x2 x3 g) := by
  refine TrM_of (plainFor_of_name (by decide)) (Nat.le_of_ble_eq_true rfl) ?_
  unfold f_X2_learns
  change AW (ρX ρI) γ l ck_X2_learns g 0 [(0, .ref x0), (1, .int x1), (2, .int x2), (3, .int x3)] [] g _
  refine r_aload_n (pc := 0) dX2_learns_0 rfl 0 rfl ?_
  refine r_iload_n (pc := 1) dX2_learns_1 rfl 1 rfl ?_
  refine r_iload_n (pc := 2) dX2_learns_2 rfl 3 rfl ?_
  refine r_cXV (pc := 3) (rest := []) (RunOK_chk (fun h => run_V (n := 2) (c9 := 2) (As := [.int x1, .int x3]) (rest := []) (t_X2_checkDish γ l hl x0 x1 x3 g) dX2_learns_3 q2526 q2528 qs29 q109 q2529 (by decide +kernel) rfl h ⟨rfl, by decide, by decide⟩ (Nat.le_of_ble_eq_true rfl) (Nat.le_of_ble_eq_true rfl) rfl (Nat.le_of_ble_eq_true rfl))) (fun e2 g3 => ?_) (fun g1 => ?_)
  · skip
    exact x_out (by decide)
  · skip
    refine r_aload_n (pc := 6) dX2_learns_6 rfl 0 rfl ?_
    refine r_iload_n (pc := 7) dX2_learns_7 rfl 2 rfl ?_
    refine r_iload_n (pc := 8) dX2_learns_8 rfl 3 rfl ?_
    refine r_cXV (pc := 9) (rest := []) (RunOK_chk (fun h => run_V (n := 2) (c9 := 2) (As := [.int x2, .int x3]) (rest := []) (t_X2_checkDish γ l hl x0 x2 x3 g1) dX2_learns_9 q2526 q2528 qs29 q109 q2529 (by decide +kernel) rfl h ⟨rfl, by decide, by decide⟩ (Nat.le_of_ble_eq_true rfl) (Nat.le_of_ble_eq_true rfl) rfl (Nat.le_of_ble_eq_true rfl))) (fun e5 g6 => ?_) (fun g4 => ?_)
    · skip
      exact x_out (by decide)
    · skip
      refine r_aload_n (pc := 12) dX2_learns_12 rfl 0 rfl ?_
      refine r_iload_n (pc := 13) dX2_learns_13 rfl 3 rfl ?_
      refine r_cR (pc := 14) (rest := []) (RunOK_chk (fun h => run_V (n := 1) (c9 := 2) (As := [.int x3]) (rest := []) (t_X2_course γ l hl x0 x3 g4) dX2_learns_14 q2127 q2128 q2129 q109 q2130 (by decide +kernel) rfl h ⟨rfl, by decide, by decide⟩ (Nat.le_of_ble_eq_true rfl) (Nat.le_of_ble_eq_true rfl) rfl (Nat.le_of_ble_eq_true rfl))) (fun v8 g7 => ?_)
      refine r_iload_n (pc := 17) dX2_learns_17 rfl 1 rfl ?_
      refine r_cR (pc := 18) (rest := []) (RunOK_chk (fun h => run_V (n := 1) (c9 := 20) (As := [.int x1]) (rest := []) (t_X7_of γ l hl v8 x1 g7) dX2_learns_18 q2066 q2067 q2068 q150 q2069 (by decide +kernel) rfl h ⟨rfl, by decide, by decide⟩ (Nat.le_of_ble_eq_true rfl) (Nat.le_of_ble_eq_true rfl) rfl (Nat.le_of_ble_eq_true rfl))) (fun v10 g9 => ?_)
      refine r_astore (pc := 21) dX2_learns_21 (Nat.le_of_ble_eq_true rfl) rfl ?_
      refine r_aload_n (pc := 23) dX2_learns_23 rfl 1 rfl ?_
      refine r_iload_n (pc := 24) dX2_learns_24 rfl 4 rfl ?_
      refine r_cR (pc := 25) (rest := []) (RunOK_chk (fun h => run_V (n := 1) (c9 := 2) (As := [.int x3]) (rest := []) (t_X2_course γ l hl x0 x3 g9) dX2_learns_25 q2127 q2128 q2129 q109 q2130 (by decide +kernel) rfl h ⟨rfl, by decide, by decide⟩ (Nat.le_of_ble_eq_true rfl) (Nat.le_of_ble_eq_true rfl) rfl (Nat.le_of_ble_eq_true rfl))) (fun v12 g11 => ?_)
      refine r_iload_n (pc := 28) dX2_learns_28 rfl 3 rfl ?_
      refine r_cR (pc := 29) (rest := []) (RunOK_chk (fun h => run_V (n := 1) (c9 := 20) (As := [.int x2]) (rest := []) (t_X7_of γ l hl v12 x2 g11) dX2_learns_29 q2066 q2067 q2068 q150 q2069 (by decide +kernel) rfl h ⟨rfl, by decide, by decide⟩ (Nat.le_of_ble_eq_true rfl) (Nat.le_of_ble_eq_true rfl) rfl (Nat.le_of_ble_eq_true rfl))) (fun v14 g13 => ?_)
      refine r_astore (pc := 32) dX2_learns_32 (Nat.le_of_ble_eq_true rfl) rfl ?_
      refine r_aload (pc := 34) dX2_learns_34 1 rfl ?_
      refine r_cI (pc := 36) (rest := []) (RunOK_chk (fun h => run_V (n := 0) (c9 := 22) (As := []) (rest := []) (t_X8_isReady γ l hl v10 g13) dX2_learns_36 q2225 q2226 q2227 q157 q2228 (by decide +kernel) rfl h ⟨rfl, by decide, by decide⟩ (Nat.le_of_ble_eq_true rfl) (Nat.le_of_ble_eq_true rfl) rfl (Nat.le_of_ble_eq_true rfl))) (fun v16 g15 => ?_)
      refine r_bipush (v := (10 : Int32)) (pc := 39) dX2_learns_39 (by decide) ?_
      refine r_aload (pc := 41) dX2_learns_41 1 rfl ?_
      refine r_cI (pc := 43) (rest := [.int (10 : Int32), .int v16]) (RunOK_chk (fun h => run_V (n := 0) (c9 := 22) (As := []) (rest := [.int (10 : Int32), .int v16]) (t_X8_number γ l hl v10 g15) dX2_learns_43 q2530 q2193 q2194 q157 q2195 (by decide +kernel) rfl h ⟨rfl, by decide, by decide⟩ (Nat.le_of_ble_eq_true rfl) (Nat.le_of_ble_eq_true rfl) rfl (Nat.le_of_ble_eq_true rfl))) (fun v18 g17 => ?_)
      refine r_cXV (pc := 46) (rest := []) (run_SN (n := 3) (As := [.int v16, .int (10 : Int32), .int v18]) (rest := []) (t_X1_meet γ l hl v16 (10 : Int32) v18 g17) dX2_learns_46 mv1897 q1898 q108 q1899 (by decide +kernel) rfl (Nat.le_of_ble_eq_true rfl) (Nat.le_of_ble_eq_true rfl) rfl (Nat.le_of_ble_eq_true rfl)) (fun e20 g21 => ?_) (fun g19 => ?_)
      · skip
        exact x_out (by decide)
      · skip
        refine r_aload_n (pc := 49) dX2_learns_49 rfl 2 rfl ?_
        refine r_iload_n (pc := 50) dX2_learns_50 rfl 3 rfl ?_
        refine r_cR (pc := 51) (rest := []) (RunOK_chk (fun h => run_V (n := 1) (c9 := 2) (As := [.int x1]) (rest := []) (t_X2_cook γ l hl x0 x1 g19) dX2_learns_51 q2020 q2021 q2022 q109 q2023 (by decide +kernel) rfl h ⟨rfl, by decide, by decide⟩ (Nat.le_of_ble_eq_true rfl) (Nat.le_of_ble_eq_true rfl) rfl (Nat.le_of_ble_eq_true rfl))) (fun v23 g22 => ?_)
        refine r_cI (pc := 54) (rest := []) (RunOK_chk (fun h => run_U (n := 0) (c9 := 16) (As := []) (rest := []) (owner := "BanquetVotes$Somebody") (t_X3_hasFainted γ l hl v23 g22) dX2_learns_54 q2489 q2055 q2057 q2058 q113 q2059 rfl ⟨by decide, by decide, by decide +kernel⟩ rfl h ⟨by decide, by decide⟩ (Nat.le_of_ble_eq_true rfl) (Nat.le_of_ble_eq_true rfl) rfl (Nat.le_of_ble_eq_true rfl))) (fun v25 g24 => ?_)
        refine AW_jn (P := fun (j : Int32 → AH → Option ((Int32 × AH) ⊕ (Nat × AH))) => ∀ (z26 : Int32) (g27 : AH), AW (ρX ρI) γ l ck_X2_learns g 65 [(0, .ref x0), (1, .int x1), (2, .int x2), (3, .int x3), (4, .ref v10), (5, .ref v14)] [.int z26] g27 (j z26 g27)) (fun z26 g27 => ?_) (fun j28 h_j28 => ?_)
        · skip
          refine r_bipush (v := (11 : Int32)) (pc := 65) dX2_learns_65 (by decide) ?_
          refine r_iload_n (pc := 67) dX2_learns_67 rfl 1 rfl ?_
          refine r_cXV (pc := 68) (rest := []) (run_SN (n := 3) (As := [.int z26, .int (11 : Int32), .int x1]) (rest := []) (t_X1_meet γ l hl z26 (11 : Int32) x1 g27) dX2_learns_68 mv1897 q1898 q108 q1899 (by decide +kernel) rfl (Nat.le_of_ble_eq_true rfl) (Nat.le_of_ble_eq_true rfl) rfl (Nat.le_of_ble_eq_true rfl)) (fun e30 g31 => ?_) (fun g29 => ?_)
          · skip
            exact x_out (by decide)
          · skip
            refine r_aload_n (pc := 71) dX2_learns_71 rfl 0 rfl ?_
            refine r_iload_n (pc := 72) dX2_learns_72 rfl 2 rfl ?_
            refine r_cR (pc := 73) (rest := []) (RunOK_chk (fun h => run_V (n := 1) (c9 := 2) (As := [.int x2]) (rest := []) (t_X2_cook γ l hl x0 x2 g29) dX2_learns_73 q2020 q2021 q2022 q109 q2023 (by decide +kernel) rfl h ⟨rfl, by decide, by decide⟩ (Nat.le_of_ble_eq_true rfl) (Nat.le_of_ble_eq_true rfl) rfl (Nat.le_of_ble_eq_true rfl))) (fun v33 g32 => ?_)
            refine r_cI (pc := 76) (rest := []) (RunOK_chk (fun h => run_U (n := 0) (c9 := 16) (As := []) (rest := []) (owner := "BanquetVotes$Somebody") (t_X3_hasFainted γ l hl v33 g32) dX2_learns_76 q2489 q2055 q2057 q2058 q113 q2059 rfl ⟨by decide, by decide, by decide +kernel⟩ rfl h ⟨by decide, by decide⟩ (Nat.le_of_ble_eq_true rfl) (Nat.le_of_ble_eq_true rfl) rfl (Nat.le_of_ble_eq_true rfl))) (fun v35 g34 => ?_)
            refine AW_jn (P := fun (j : Int32 → AH → Option ((Int32 × AH) ⊕ (Nat × AH))) => ∀ (z36 : Int32) (g37 : AH), AW (ρX ρI) γ l ck_X2_learns g 87 [(0, .ref x0), (1, .int x1), (2, .int x2), (3, .int x3), (4, .ref v10), (5, .ref v14)] [.int z36] g37 (j z36 g37)) (fun z36 g37 => ?_) (fun j38 h_j38 => ?_)
            · skip
              refine r_bipush (v := (11 : Int32)) (pc := 87) dX2_learns_87 (by decide) ?_
              refine r_iload_n (pc := 89) dX2_learns_89 rfl 2 rfl ?_
              refine r_cXV (pc := 90) (rest := []) (run_SN (n := 3) (As := [.int z36, .int (11 : Int32), .int x2]) (rest := []) (t_X1_meet γ l hl z36 (11 : Int32) x2 g37) dX2_learns_90 mv1897 q1898 q108 q1899 (by decide +kernel) rfl (Nat.le_of_ble_eq_true rfl) (Nat.le_of_ble_eq_true rfl) rfl (Nat.le_of_ble_eq_true rfl)) (fun e40 g41 => ?_) (fun g39 => ?_)
              · skip
                exact x_out (by decide)
              · skip
                refine r_aload (pc := 93) dX2_learns_93 5 rfl ?_
                refine r_cR (pc := 95) (rest := []) (RunOK_chk (fun h => run_V (n := 0) (c9 := 22) (As := []) (rest := []) (t_X8_how γ l hl v14 g39) dX2_learns_95 q2070 q1179 q1180 q157 q1181 (by decide +kernel) rfl h ⟨rfl, by decide, by decide⟩ (Nat.le_of_ble_eq_true rfl) (Nat.le_of_ble_eq_true rfl) rfl (Nat.le_of_ble_eq_true rfl))) (fun v43 g42 => ?_)
                refine r_gets (i := 6) (pc := 98) dX2_learns_98 q2531 (List.mem_of_getElem? (i := 6) rfl) rfl ?_
                refine AW_jn (P := fun (j : Int32 → AH → Option ((Int32 × AH) ⊕ (Nat × AH))) => ∀ (z44 : Int32) (g45 : AH), AW (ρX ρI) γ l ck_X2_learns g 109 [(0, .ref x0), (1, .int x1), (3, .int x3), (4, .ref v10), (5, .ref v14)] [.int z44] g45 (j z44 g45)) (fun z44 g45 => ?_) (fun j46 h_j46 => ?_)
                · skip
                  refine r_istore (pc := 109) dX2_learns_109 (Nat.le_of_ble_eq_true rfl) rfl ?_
                  refine r_iload (pc := 111) dX2_learns_111 0 rfl ?_
                  refine AW_jn (P := fun (j : AH → Option ((Int32 × AH) ⊕ (Nat × AH))) => ∀ (g47 : AH), AW (ρX ρI) γ l ck_X2_learns g 127 [(0, .ref x0), (1, .int x1), (3, .int x3), (4, .ref v10), (5, .ref v14), (6, .int z44)] [] g47 (j g47)) (fun g47 => ?_) (fun j48 h_j48 => ?_)
                  · skip
                    refine r_iconst (v := (1 : Int32)) (pc := 127) dX2_learns_127 (by decide) ?_
                    refine r_goto (tgt := 132) (pc := 128) dX2_learns_128 (by decide) ?_
                    refine r_bipush (v := (12 : Int32)) (pc := 132) dX2_learns_132 (by decide) ?_
                    refine r_aload (pc := 134) dX2_learns_134 4 rfl ?_
                    refine r_cI (pc := 136) (rest := [.int (12 : Int32), .int (1 : Int32)]) (RunOK_chk (fun h => run_V (n := 0) (c9 := 22) (As := []) (rest := [.int (12 : Int32), .int (1 : Int32)]) (t_X8_number γ l hl v14 g47) dX2_learns_136 q2530 q2193 q2194 q157 q2195 (by decide +kernel) rfl h ⟨rfl, by decide, by decide⟩ (Nat.le_of_ble_eq_true rfl) (Nat.le_of_ble_eq_true rfl) rfl (Nat.le_of_ble_eq_true rfl))) (fun v50 g49 => ?_)
                    refine r_cXV (pc := 139) (rest := []) (run_SN (n := 3) (As := [.int (1 : Int32), .int (12 : Int32), .int v50]) (rest := []) (t_X1_meet γ l hl (1 : Int32) (12 : Int32) v50 g49) dX2_learns_139 mv1897 q1898 q108 q1899 (by decide +kernel) rfl (Nat.le_of_ble_eq_true rfl) (Nat.le_of_ble_eq_true rfl) rfl (Nat.le_of_ble_eq_true rfl)) (fun e52 g53 => ?_) (fun g51 => ?_)
                    · skip
                      exact x_out (by decide)
                    · skip
                      refine r_aload_n (pc := 142) dX2_learns_142 rfl 0 rfl ?_
                      refine r_iload_n (pc := 143) dX2_learns_143 rfl 1 rfl ?_
                      refine r_iload_n (pc := 144) dX2_learns_144 rfl 2 rfl ?_
                      refine r_iload (pc := 145) dX2_learns_145 5 rfl ?_
                      refine r_cV (pc := 147) (rest := []) (RunOK_chk (fun h => run_V (n := 3) (c9 := 2) (As := [.int x1, .int x3, .int z44]) (rest := []) (t_X2_hears γ l hl x0 x1 x3 z44 g51) dX2_learns_147 q2532 q2534 qs30 q109 q2535 (by decide +kernel) rfl h ⟨rfl, by decide, by decide⟩ (Nat.le_of_ble_eq_true rfl) (Nat.le_of_ble_eq_true rfl) rfl (Nat.le_of_ble_eq_true rfl))) (fun g54 => ?_)
                      refine r_aload (pc := 150) dX2_learns_150 3 rfl ?_
                      refine r_cI (pc := 152) (rest := []) (RunOK_chk (fun h => run_V (n := 0) (c9 := 22) (As := []) (rest := []) (t_X8_number γ l hl v10 g54) dX2_learns_152 q2530 q2193 q2194 q157 q2195 (by decide +kernel) rfl h ⟨rfl, by decide, by decide⟩ (Nat.le_of_ble_eq_true rfl) (Nat.le_of_ble_eq_true rfl) rfl (Nat.le_of_ble_eq_true rfl))) (fun v56 g55 => ?_)
                      exact r_inl (fun _ => rfl) (r_iret (pc := 155) dX2_learns_155 rfl)
                  · skip
                    refine r_if_ne (tgt := 127) (pc := 113) dX2_learns_113 (by decide) ?_ ?_
                    · skip
                      refine r_aload (pc := 116) dX2_learns_116 5 rfl ?_
                      refine r_cR (pc := 118) (rest := []) (RunOK_chk (fun h => run_V (n := 0) (c9 := 22) (As := []) (rest := []) (t_X8_how γ l hl v14 g45) dX2_learns_118 q2070 q1179 q1180 q157 q1181 (by decide +kernel) rfl h ⟨rfl, by decide, by decide⟩ (Nat.le_of_ble_eq_true rfl) (Nat.le_of_ble_eq_true rfl) rfl (Nat.le_of_ble_eq_true rfl))) (fun v58 g57 => ?_)
                      refine r_cI (pc := 121) (rest := []) (RunOK_if (fun h => run_U (n := 0) (c9 := 37) (As := []) (rest := []) (owner := "BanquetVotes$How") (t_X9_isOff γ l hl v58 g57) dX2_learns_121 q2071 q2073 q2074 q2072 q159 q2083 rfl ⟨by decide, by decide, by decide +kernel⟩ rfl h ⟨by decide, by decide⟩ (Nat.le_of_ble_eq_true rfl) (Nat.le_of_ble_eq_true rfl) rfl (Nat.le_of_ble_eq_true rfl)) (RunOK_if (fun h => run_U (n := 0) (c9 := 38) (As := []) (rest := []) (owner := "BanquetVotes$How") (t_X9_isOff γ l hl v58 g57) dX2_learns_121 q2071 q2073 q2075 q2072 q159 q2083 rfl ⟨by decide, by decide, by decide +kernel⟩ rfl h ⟨by decide, by decide⟩ (Nat.le_of_ble_eq_true rfl) (Nat.le_of_ble_eq_true rfl) rfl (Nat.le_of_ble_eq_true rfl)) (RunOK_if (fun h => run_K (n9 := 0) (c9 := 39) (As := []) (rest := []) (owner := "BanquetVotes$How") dX2_learns_121 q2071 q2073 q2076 q2077 q2078 (Or.inl ⟨_, _, _, q2072, q2083⟩) (by decide +kernel) dX21_isOff_0 (Or.inl ⟨rfl, by decide⟩) dX21_isOff_1 (by decide) ⟨by decide, by decide, by decide +kernel⟩ rfl h ⟨by decide, by decide⟩ (Nat.le_of_ble_eq_true rfl) (Nat.le_of_ble_eq_true rfl) rfl (Nat.le_of_ble_eq_true rfl)) (RunOK_if (fun h => run_U (n := 0) (c9 := 40) (As := []) (rest := []) (owner := "BanquetVotes$How") (t_X9_isOff γ l hl v58 g57) dX2_learns_121 q2071 q2073 q2079 q2072 q159 q2083 rfl ⟨by decide, by decide, by decide +kernel⟩ rfl h ⟨by decide, by decide⟩ (Nat.le_of_ble_eq_true rfl) (Nat.le_of_ble_eq_true rfl) rfl (Nat.le_of_ble_eq_true rfl)) (RunOK_chk (fun h => run_K (n9 := 0) (c9 := 41) (As := []) (rest := []) (owner := "BanquetVotes$How") dX2_learns_121 q2071 q2073 q2080 q2081 q2082 (Or.inl ⟨_, _, _, q2072, q2083⟩) (by decide +kernel) dX23_isOff_0 (Or.inl ⟨rfl, by decide⟩) dX23_isOff_1 (by decide) ⟨by decide, by decide, by decide +kernel⟩ rfl h ⟨by decide, by decide⟩ (Nat.le_of_ble_eq_true rfl) (Nat.le_of_ble_eq_true rfl) rfl (Nat.le_of_ble_eq_true rfl))))))) (fun v60 g59 => ?_)
                      refine r_if_eq (tgt := 131) (pc := 124) dX2_learns_124 (by decide) ?_ ?_
                      · skip
                        refine r_iconst (v := (0 : Int32)) (pc := 131) dX2_learns_131 (by decide) ?_
                        refine r_bipush (v := (12 : Int32)) (pc := 132) dX2_learns_132 (by decide) ?_
                        refine r_aload (pc := 134) dX2_learns_134 5 rfl ?_
                        refine r_cI (pc := 136) (rest := [.int (12 : Int32), .int (0 : Int32)]) (RunOK_chk (fun h => run_V (n := 0) (c9 := 22) (As := []) (rest := [.int (12 : Int32), .int (0 : Int32)]) (t_X8_number γ l hl v14 g59) dX2_learns_136 q2530 q2193 q2194 q157 q2195 (by decide +kernel) rfl h ⟨rfl, by decide, by decide⟩ (Nat.le_of_ble_eq_true rfl) (Nat.le_of_ble_eq_true rfl) rfl (Nat.le_of_ble_eq_true rfl))) (fun v62 g61 => ?_)
                        refine r_cXV (pc := 139) (rest := []) (run_SN (n := 3) (As := [.int (0 : Int32), .int (12 : Int32), .int v62]) (rest := []) (t_X1_meet γ l hl (0 : Int32) (12 : Int32) v62 g61) dX2_learns_139 mv1897 q1898 q108 q1899 (by decide +kernel) rfl (Nat.le_of_ble_eq_true rfl) (Nat.le_of_ble_eq_true rfl) rfl (Nat.le_of_ble_eq_true rfl)) (fun e64 g65 => ?_) (fun g63 => ?_)
                        · skip
                          exact x_out (by decide)
                        · skip
                          refine r_aload_n (pc := 142) dX2_learns_142 rfl 1 rfl ?_
                          refine r_iload_n (pc := 143) dX2_learns_143 rfl 2 rfl ?_
                          refine r_iload_n (pc := 144) dX2_learns_144 rfl 3 rfl ?_
                          refine r_iload (pc := 145) dX2_learns_145 0 rfl ?_
                          refine r_cV (pc := 147) (rest := []) (RunOK_chk (fun h => run_V (n := 3) (c9 := 2) (As := [.int x1, .int x3, .int z44]) (rest := []) (t_X2_hears γ l hl x0 x1 x3 z44 g63) dX2_learns_147 q2532 q2534 qs30 q109 q2535 (by decide +kernel) rfl h ⟨rfl, by decide, by decide⟩ (Nat.le_of_ble_eq_true rfl) (Nat.le_of_ble_eq_true rfl) rfl (Nat.le_of_ble_eq_true rfl))) (fun g66 => ?_)
                          refine r_aload (pc := 150) dX2_learns_150 4 rfl ?_
                          refine r_cI (pc := 152) (rest := []) (RunOK_chk (fun h => run_V (n := 0) (c9 := 22) (As := []) (rest := []) (t_X8_number γ l hl v10 g66) dX2_learns_152 q2530 q2193 q2194 q157 q2195 (by decide +kernel) rfl h ⟨rfl, by decide, by decide⟩ (Nat.le_of_ble_eq_true rfl) (Nat.le_of_ble_eq_true rfl) rfl (Nat.le_of_ble_eq_true rfl))) (fun v68 g67 => ?_)
                          exact r_inl (fun _ => rfl) (r_iret (pc := 155) dX2_learns_155 rfl)
                      · skip
                        refine AW_sub [1, 2, 3, 4, 5, 0] rfl ?_
                        exact h_j48 g59
                    · skip
                      refine AW_sub [1, 2, 3, 4, 5, 0] rfl ?_
                      exact h_j48 g45
                · skip
                  refine r_acmp_ne (tgt := 108) (pc := 101) dX2_learns_101 (by decide) ?_ ?_
                  · skip
                    refine r_iconst (v := (1 : Int32)) (pc := 104) dX2_learns_104 (by decide) ?_
                    refine r_goto (tgt := 109) (pc := 105) dX2_learns_105 (by decide) ?_
                    refine AW_sub [0, 1, 3, 4, 5] rfl ?_
                    exact h_j46 (1 : Int32) g42
                  · skip
                    refine r_iconst (v := (0 : Int32)) (pc := 108) dX2_learns_108 (by decide) ?_
                    refine AW_sub [0, 1, 3, 4, 5] rfl ?_
                    exact h_j46 (0 : Int32) g42
            · skip
              refine r_if_ne (tgt := 86) (pc := 79) dX2_learns_79 (by decide) ?_ ?_
              · skip
                refine r_iconst (v := (1 : Int32)) (pc := 82) dX2_learns_82 (by decide) ?_
                refine r_goto (tgt := 87) (pc := 83) dX2_learns_83 (by decide) ?_
                exact h_j38 (1 : Int32) g34
              · skip
                refine r_iconst (v := (0 : Int32)) (pc := 86) dX2_learns_86 (by decide) ?_
                exact h_j38 (0 : Int32) g34
        · skip
          refine r_if_ne (tgt := 64) (pc := 57) dX2_learns_57 (by decide) ?_ ?_
          · skip
            refine r_iconst (v := (1 : Int32)) (pc := 60) dX2_learns_60 (by decide) ?_
            refine r_goto (tgt := 65) (pc := 61) dX2_learns_61 (by decide) ?_
            refine AW_sub [2, 3, 4, 5, 1, 0] rfl ?_
            exact h_j28 (1 : Int32) g24
          · skip
            refine r_iconst (v := (0 : Int32)) (pc := 64) dX2_learns_64 (by decide) ?_
            refine AW_sub [2, 3, 4, 5, 1, 0] rfl ?_
            exact h_j28 (0 : Int32) g24
abbrev ck_X2_those : CK := ("BanquetVotes$Kitchen", prog_14_method_44_code, 5, (some .int), "those", [], 4)
def f_X2_those_L12 (γ : GP) (x1 : Int32) (x3 : Nat) : Nat → Int32 → AH → Option (Int32 × AH)
  | 0, _, _ => none
  | n + 1, x2, g => bI ((if hK g x3 = 10 then f_J13_hasNext γ x3 g else if hK g x3 = 13 then f_J24_hasNext γ x3 g else if hK g x3 = 17 then f_J29_hasNext γ x3 g else if hK g x3 = 18 then f_J29_hasNext γ x3 g else none)) fun v5 g4 => (if v5 = 0 then (some (x2, g4)) else bR ((if hK g4 x3 = 10 then f_J13_next γ x3 g4 else if hK g4 x3 = 13 then f_J24_next γ x3 g4 else if hK g4 x3 = 17 then f_J31_next γ x3 g4 else if hK g4 x3 = 18 then f_J32_next γ x3 g4 else none)) fun v7 g6 => gC g6 [20] v7 (bI ((if hK g6 v7 = 20 then f_X7_phase γ v7 g6 else none)) fun v9 g8 => (if v9 = x1 then f_X2_those_L12 γ x1 x3 n (x2 + (1 : Int32)) g8 else f_X2_those_L12 γ x1 x3 n (x2 + (0 : Int32)) g8)))
def f_X2_those (γ : GP) (x0 : Nat) (x1 : Int32) (g : AH) : Option (Int32 × AH) := gR g x0 9 fun v1 => bR ((if hK g v1 = 3 then f_J2_iterator γ v1 g else none)) fun v3 g2 => f_X2_those_L12 γ x1 v3 FU (0 : Int32) g2
theorem f_X2_those_L12_w (γ : GP) (l : Launch) (hl : l.stackTraces = false) (G0 : AH) (x1 : Int32) (x3 : Nat) : ∀ (n : Nat) (x2 : Int32) (g : AH), AW ρI γ l ck_X2_those G0 12 [(1, .int x1), (2, .int x2), (3, .ref x3)] [] g (f_X2_those_L12 γ x1 x3 n x2 g) := by
  intro n
  induction n with
  | zero => intro x2 g; exact AW_none
  | succ n ih =>
    intro x2 g
    unfold f_X2_those_L12
    refine r_aload_n (pc := 12) dX2_those_12 rfl 2 rfl ?_
    refine r_cI (pc := 13) (rest := []) (RunOK_if (fun h => run_F (n := 0) (c9 := 10) (As := []) (rest := []) (t_J13_hasNext γ l hl x3 g) dX2_those_13 q781 q800 q802 q126 q804 (by decide +kernel) (by decide +kernel) rfl h ⟨by decide, by decide⟩ (Nat.le_of_ble_eq_true rfl) (Nat.le_of_ble_eq_true rfl) rfl (Nat.le_of_ble_eq_true rfl)) (RunOK_if (fun h => run_F (n := 0) (c9 := 13) (As := []) (rest := []) (t_J24_hasNext γ l hl x3 g) dX2_those_13 q781 q809 q811 q139 q813 (by decide +kernel) (by decide +kernel) rfl h ⟨by decide, by decide⟩ (Nat.le_of_ble_eq_true rfl) (Nat.le_of_ble_eq_true rfl) rfl (Nat.le_of_ble_eq_true rfl)) (RunOK_if (fun h => run_F (n := 0) (c9 := 17) (As := []) (rest := []) (t_J29_hasNext γ l hl x3 g) dX2_those_13 q781 q821 q817 q145 q819 (by decide +kernel) (by decide +kernel) rfl h ⟨by decide, by decide⟩ (Nat.le_of_ble_eq_true rfl) (Nat.le_of_ble_eq_true rfl) rfl (Nat.le_of_ble_eq_true rfl)) (RunOK_chk (fun h => run_F (n := 0) (c9 := 18) (As := []) (rest := []) (t_J29_hasNext γ l hl x3 g) dX2_those_13 q781 q824 q817 q145 q819 (by decide +kernel) (by decide +kernel) rfl h ⟨by decide, by decide⟩ (Nat.le_of_ble_eq_true rfl) (Nat.le_of_ble_eq_true rfl) rfl (Nat.le_of_ble_eq_true rfl)))))) (fun v5 g4 => ?_)
    refine r_if_eq (tgt := 52) (pc := 18) dX2_those_18 (by decide) ?_ ?_
    · skip
      refine r_iload_n (pc := 52) dX2_those_52 rfl 1 rfl ?_
      exact r_iret (pc := 53) dX2_those_53 rfl
    · skip
      refine r_aload_n (pc := 21) dX2_those_21 rfl 2 rfl ?_
      refine r_cR (pc := 22) (rest := []) (RunOK_if (fun h => run_F (n := 0) (c9 := 10) (As := []) (rest := []) (t_J13_next γ l hl x3 g4) dX2_those_22 q827 q991 q993 q126 q995 (by decide +kernel) (by decide +kernel) rfl h ⟨by decide, by decide⟩ (Nat.le_of_ble_eq_true rfl) (Nat.le_of_ble_eq_true rfl) rfl (Nat.le_of_ble_eq_true rfl)) (RunOK_if (fun h => run_F (n := 0) (c9 := 13) (As := []) (rest := []) (t_J24_next γ l hl x3 g4) dX2_those_22 q827 q1015 q1017 q139 q1019 (by decide +kernel) (by decide +kernel) rfl h ⟨by decide, by decide⟩ (Nat.le_of_ble_eq_true rfl) (Nat.le_of_ble_eq_true rfl) rfl (Nat.le_of_ble_eq_true rfl)) (RunOK_if (fun h => run_F (n := 0) (c9 := 17) (As := []) (rest := []) (t_J31_next γ l hl x3 g4) dX2_those_22 q827 q1047 q1049 q147 q1051 (by decide +kernel) (by decide +kernel) rfl h ⟨by decide, by decide⟩ (Nat.le_of_ble_eq_true rfl) (Nat.le_of_ble_eq_true rfl) rfl (Nat.le_of_ble_eq_true rfl)) (RunOK_chk (fun h => run_F (n := 0) (c9 := 18) (As := []) (rest := []) (t_J32_next γ l hl x3 g4) dX2_those_22 q827 q1055 q1057 q148 q1059 (by decide +kernel) (by decide +kernel) rfl h ⟨by decide, by decide⟩ (Nat.le_of_ble_eq_true rfl) (Nat.le_of_ble_eq_true rfl) rfl (Nat.le_of_ble_eq_true rfl)))))) (fun v7 g6 => ?_)
      refine r_cast_ (L := [20]) (pc := 27) dX2_those_27 q1063 (List.forall_mem_cons.mpr ⟨⟨by decide, by decide, Or.inl rfl⟩, (fun _ h => absurd h List.not_mem_nil)⟩) ?_
      refine r_astore (pc := 30) dX2_those_30 (Nat.le_of_ble_eq_true rfl) rfl ?_
      refine r_iload_n (pc := 32) dX2_those_32 rfl 2 rfl ?_
      refine r_aload (pc := 33) dX2_those_33 0 rfl ?_
      refine r_cI (pc := 35) (rest := [.int x2]) (RunOK_chk (fun h => run_V (n := 0) (c9 := 20) (As := []) (rest := [.int x2]) (t_X7_phase γ l hl v7 g6) dX2_those_35 q2131 q2132 q2133 q150 q2134 (by decide +kernel) rfl h ⟨rfl, by decide, by decide⟩ (Nat.le_of_ble_eq_true rfl) (Nat.le_of_ble_eq_true rfl) rfl (Nat.le_of_ble_eq_true rfl))) (fun v9 g8 => ?_)
      refine r_iload_n (pc := 38) dX2_those_38 rfl 1 rfl ?_
      refine r_icmp_ne (tgt := 46) (pc := 39) dX2_those_39 (by decide) ?_ ?_
      · skip
        refine r_iconst (v := (1 : Int32)) (pc := 42) dX2_those_42 (by decide) ?_
        refine r_goto (tgt := 47) (pc := 43) dX2_those_43 (by decide) ?_
        refine r_iadd (pc := 47) dX2_those_47 ?_
        refine r_istore_n (pc := 48) dX2_those_48 rfl (Nat.le_of_ble_eq_true rfl) rfl ?_
        refine r_goto (tgt := 12) (pc := 49) dX2_those_49 (by decide) ?_
        refine AW_sub [2, 0, 3] rfl ?_
        exact ih (x2 + (1 : Int32)) g8
      · skip
        refine r_iconst (v := (0 : Int32)) (pc := 46) dX2_those_46 (by decide) ?_
        refine r_iadd (pc := 47) dX2_those_47 ?_
        refine r_istore_n (pc := 48) dX2_those_48 rfl (Nat.le_of_ble_eq_true rfl) rfl ?_
        refine r_goto (tgt := 12) (pc := 49) dX2_those_49 (by decide) ?_
        refine AW_sub [2, 0, 3] rfl ?_
        exact ih (x2 + (0 : Int32)) g8
theorem t_X2_those (γ : GP) (l : Launch) (hl : l.stackTraces = false) (x0 : Nat) (x1 : Int32) (g : AH) : TrM ρI γ l ⟨"BanquetVotes$Kitchen", "those", "(I)I"⟩ (ws_ ⟨"BanquetVotes$Kitchen", "those", "(I)I"⟩ prog_14_method_44_code 5 (some .int)) 4 [.ref x0, .int x1] g (f_X2_those γ x0 x1 g) := by
  refine TrM_of (plainFor_of_name (by decide)) (Nat.le_of_ble_eq_true rfl) ?_
  unfold f_X2_those
  change AW ρI γ l ck_X2_those g 0 [(0, .ref x0), (1, .int x1)] [] g _
  refine r_iconst (v := (0 : Int32)) (pc := 0) dX2_those_0 (by decide) ?_
  refine r_istore_n (pc := 1) dX2_those_1 rfl (Nat.le_of_ble_eq_true rfl) rfl ?_
  refine r_aload_n (pc := 2) dX2_those_2 rfl 1 rfl ?_
  refine r_getR (f := 9) (pc := 3) dX2_those_3 q266 (Or.inl rfl) rfl (fun v1 => ?_)
  refine r_cR (pc := 6) (rest := []) (RunOK_chk (fun h => run_F (n := 0) (c9 := 3) (As := []) (rest := []) (t_J2_iterator γ l hl v1 g) dX2_those_6 q354 q358 q360 q112 q362 (by decide +kernel) (by decide +kernel) rfl h ⟨by decide, by decide⟩ (Nat.le_of_ble_eq_true rfl) (Nat.le_of_ble_eq_true rfl) rfl (Nat.le_of_ble_eq_true rfl))) (fun v3 g2 => ?_)
  refine r_astore_n (pc := 11) dX2_those_11 rfl (Nat.le_of_ble_eq_true rfl) rfl ?_
  refine AW_sub [3, 1, 0] rfl ?_
  refine f_X2_those_L12_w γ l hl _ x1 v3 FU (0 : Int32) g2
abbrev ck_X2_decided : CK := ("BanquetVotes$Kitchen", prog_14_method_41_code, 1, (some .int), "decided", [], 5)
def f_X2_decided (γ : GP) (x0 : Nat) (g : AH) : Option (Int32 × AH) := bI ((if hK g x0 = 2 then f_X2_those γ x0 (2 : Int32) g else none)) fun v2 g1 => bI ((if hK g1 x0 = 2 then f_X2_those γ x0 (3 : Int32) g1 else none)) fun v4 g3 => (some ((v2 + v4), g3))
theorem t_X2_decided (γ : GP) (l : Launch) (hl : l.stackTraces = false) (x0 : Nat) (g : AH) : TrM ρI γ l ⟨"BanquetVotes$Kitchen", "decided", "()I"⟩ (ws_ ⟨"BanquetVotes$Kitchen", "decided", "()I"⟩ prog_14_method_41_code 1 (some .int)) 5 [.ref x0] g (f_X2_decided γ x0 g) := by
  refine TrM_of (plainFor_of_name (by decide)) (Nat.le_of_ble_eq_true rfl) ?_
  unfold f_X2_decided
  change AW ρI γ l ck_X2_decided g 0 [(0, .ref x0)] [] g _
  refine r_aload_n (pc := 0) dX2_decided_0 rfl 0 rfl ?_
  refine r_iconst (v := (2 : Int32)) (pc := 1) dX2_decided_1 (by decide) ?_
  refine r_cI (pc := 2) (rest := []) (RunOK_chk (fun h => run_V (n := 1) (c9 := 2) (As := [.int (2 : Int32)]) (rest := []) (t_X2_those γ l hl x0 (2 : Int32) g) dX2_decided_2 q2573 q2574 q2575 q109 q2576 (by decide +kernel) rfl h ⟨rfl, by decide, by decide⟩ (Nat.le_of_ble_eq_true rfl) (Nat.le_of_ble_eq_true rfl) rfl (Nat.le_of_ble_eq_true rfl))) (fun v2 g1 => ?_)
  refine r_aload_n (pc := 5) dX2_decided_5 rfl 0 rfl ?_
  refine r_iconst (v := (3 : Int32)) (pc := 6) dX2_decided_6 (by decide) ?_
  refine r_cI (pc := 7) (rest := [.int v2]) (RunOK_chk (fun h => run_V (n := 1) (c9 := 2) (As := [.int (3 : Int32)]) (rest := [.int v2]) (t_X2_those γ l hl x0 (3 : Int32) g1) dX2_decided_7 q2573 q2574 q2575 q109 q2576 (by decide +kernel) rfl h ⟨rfl, by decide, by decide⟩ (Nat.le_of_ble_eq_true rfl) (Nat.le_of_ble_eq_true rfl) rfl (Nat.le_of_ble_eq_true rfl))) (fun v4 g3 => ?_)
  refine r_iadd (pc := 10) dX2_decided_10 ?_
  exact r_iret (pc := 11) dX2_decided_11 rfl
abbrev ck_X13_arrives : CK := ("BanquetVotes$Invitation", prog_13_method_8_code, 1, (some .int), "arrives", [], 1)
def f_X13_arrives (γ : GP) (x0 : Nat) (g : AH) : Option (Int32 × AH) := gI g x0 115 fun v1 => (some (v1, g))
theorem t_X13_arrives (γ : GP) (l : Launch) (hl : l.stackTraces = false) (x0 : Nat) (g : AH) : TrM ρI γ l ⟨"BanquetVotes$Invitation", "arrives", "()I"⟩ (ws_ ⟨"BanquetVotes$Invitation", "arrives", "()I"⟩ prog_13_method_8_code 1 (some .int)) 1 [.ref x0] g (f_X13_arrives γ x0 g) := by
  refine TrM_of (plainFor_of_name (by decide)) (Nat.le_of_ble_eq_true rfl) ?_
  unfold f_X13_arrives
  change AW ρI γ l ck_X13_arrives g 0 [(0, .ref x0)] [] g _
  refine r_aload_n (pc := 0) dX13_arrives_0 rfl 0 rfl ?_
  refine r_getI (f := 115) (pc := 1) dX13_arrives_1 q2422 (Or.inl rfl) rfl (fun v1 => ?_)
  exact r_iret (pc := 4) dX13_arrives_4 rfl
abbrev ck_X15_arrives : CK := ("BanquetVotes$Question", prog_17_method_8_code, 1, (some .int), "arrives", [], 1)
def f_X15_arrives (γ : GP) (x0 : Nat) (g : AH) : Option (Int32 × AH) := gI g x0 122 fun v1 => (some (v1, g))
theorem t_X15_arrives (γ : GP) (l : Launch) (hl : l.stackTraces = false) (x0 : Nat) (g : AH) : TrM ρI γ l ⟨"BanquetVotes$Question", "arrives", "()I"⟩ (ws_ ⟨"BanquetVotes$Question", "arrives", "()I"⟩ prog_17_method_8_code 1 (some .int)) 1 [.ref x0] g (f_X15_arrives γ x0 g) := by
  refine TrM_of (plainFor_of_name (by decide)) (Nat.le_of_ble_eq_true rfl) ?_
  unfold f_X15_arrives
  change AW ρI γ l ck_X15_arrives g 0 [(0, .ref x0)] [] g _
  refine r_aload_n (pc := 0) dX15_arrives_0 rfl 0 rfl ?_
  refine r_getI (f := 122) (pc := 1) dX15_arrives_1 q2514 (Or.inl rfl) rfl (fun v1 => ?_)
  exact r_iret (pc := 4) dX15_arrives_4 rfl
abbrev ck_X14_arrives : CK := ("BanquetVotes$Verdict", prog_22_method_8_code, 1, (some .int), "arrives", [], 1)
def f_X14_arrives (γ : GP) (x0 : Nat) (g : AH) : Option (Int32 × AH) := gI g x0 118 fun v1 => (some (v1, g))
theorem t_X14_arrives (γ : GP) (l : Launch) (hl : l.stackTraces = false) (x0 : Nat) (g : AH) : TrM ρI γ l ⟨"BanquetVotes$Verdict", "arrives", "()I"⟩ (ws_ ⟨"BanquetVotes$Verdict", "arrives", "()I"⟩ prog_22_method_8_code 1 (some .int)) 1 [.ref x0] g (f_X14_arrives γ x0 g) := by
  refine TrM_of (plainFor_of_name (by decide)) (Nat.le_of_ble_eq_true rfl) ?_
  unfold f_X14_arrives
  change AW ρI γ l ck_X14_arrives g 0 [(0, .ref x0)] [] g _
  refine r_aload_n (pc := 0) dX14_arrives_0 rfl 0 rfl ?_
  refine r_getI (f := 118) (pc := 1) dX14_arrives_1 q2459 (Or.inl rfl) rfl (fun v1 => ?_)
  exact r_iret (pc := 4) dX14_arrives_4 rfl
abbrev ck_X16_arrives : CK := ("BanquetVotes$Vote", prog_23_method_8_code, 1, (some .int), "arrives", [], 1)
def f_X16_arrives (γ : GP) (x0 : Nat) (g : AH) : Option (Int32 × AH) := gI g x0 125 fun v1 => (some (v1, g))
theorem t_X16_arrives (γ : GP) (l : Launch) (hl : l.stackTraces = false) (x0 : Nat) (g : AH) : TrM ρI γ l ⟨"BanquetVotes$Vote", "arrives", "()I"⟩ (ws_ ⟨"BanquetVotes$Vote", "arrives", "()I"⟩ prog_23_method_8_code 1 (some .int)) 1 [.ref x0] g (f_X16_arrives γ x0 g) := by
  refine TrM_of (plainFor_of_name (by decide)) (Nat.le_of_ble_eq_true rfl) ?_
  unfold f_X16_arrives
  change AW ρI γ l ck_X16_arrives g 0 [(0, .ref x0)] [] g _
  refine r_aload_n (pc := 0) dX16_arrives_0 rfl 0 rfl ?_
  refine r_getI (f := 125) (pc := 1) dX16_arrives_1 q2721 (Or.inl rfl) rfl (fun v1 => ?_)
  exact r_iret (pc := 4) dX16_arrives_4 rfl
abbrev ck_X1_goesToHost : CK := ("BanquetVotes", prog_1_method_3_code, 1, (some .boolean), "goesToHost", [], 1)
def f_X1_goesToHost (γ : GP) (x0 : Nat) (g : AH) : Option (Int32 × AH) := gInst g [32] [29, 30, 31] x0 fun v1 => (if v1 = 0 then gInst g [31] [29, 32, 30] x0 fun v2 => (if v2 = 0 then (rtN .boolean (0 : Int32) g) else (rtN .boolean (1 : Int32) g)) else (rtN .boolean (1 : Int32) g))
theorem t_X1_goesToHost (γ : GP) (l : Launch) (hl : l.stackTraces = false) (x0 : Nat) (g : AH) : TrM ρI γ l ⟨"BanquetVotes", "goesToHost", "(LBanquetVotes$Message;)Z"⟩ (ws_ ⟨"BanquetVotes", "goesToHost", "(LBanquetVotes$Message;)Z"⟩ prog_1_method_3_code 1 (some .boolean)) 1 [.ref x0] g (f_X1_goesToHost γ x0 g) := by
  refine TrM_of (plainFor_of_name (by decide)) (Nat.le_of_ble_eq_true rfl) ?_
  unfold f_X1_goesToHost
  change AW ρI γ l ck_X1_goesToHost g 0 [(0, .ref x0)] [] g _
  refine r_aload_n (pc := 0) dX1_goesToHost_0 rfl 0 rfl ?_
  refine r_inst (L1 := [32]) (L0 := [29, 30, 31]) (pc := 1) dX1_goesToHost_1 q2625 (List.forall_mem_cons.mpr ⟨⟨by decide, by decide, Or.inl rfl⟩, (fun _ h => absurd h List.not_mem_nil)⟩) (List.forall_mem_cons.mpr ⟨⟨by decide, by decide, by decide +kernel⟩, List.forall_mem_cons.mpr ⟨⟨by decide, by decide, by decide +kernel⟩, List.forall_mem_cons.mpr ⟨⟨by decide, by decide, by decide +kernel⟩, (fun _ h => absurd h List.not_mem_nil)⟩⟩⟩) (fun v1 => ?_)
  refine r_if_ne (tgt := 14) (pc := 4) dX1_goesToHost_4 (by decide) ?_ ?_
  · skip
    refine r_aload_n (pc := 7) dX1_goesToHost_7 rfl 0 rfl ?_
    refine r_inst (L1 := [31]) (L0 := [29, 32, 30]) (pc := 8) dX1_goesToHost_8 q2626 (List.forall_mem_cons.mpr ⟨⟨by decide, by decide, Or.inl rfl⟩, (fun _ h => absurd h List.not_mem_nil)⟩) (List.forall_mem_cons.mpr ⟨⟨by decide, by decide, by decide +kernel⟩, List.forall_mem_cons.mpr ⟨⟨by decide, by decide, by decide +kernel⟩, List.forall_mem_cons.mpr ⟨⟨by decide, by decide, by decide +kernel⟩, (fun _ h => absurd h List.not_mem_nil)⟩⟩⟩) (fun v2 => ?_)
    refine r_if_eq (tgt := 18) (pc := 11) dX1_goesToHost_11 (by decide) ?_ ?_
    · skip
      refine r_iconst (v := (0 : Int32)) (pc := 18) dX1_goesToHost_18 (by decide) ?_
      exact r_zret (ty := .boolean) (pc := 19) dX1_goesToHost_19 rfl
    · skip
      refine r_iconst (v := (1 : Int32)) (pc := 14) dX1_goesToHost_14 (by decide) ?_
      refine r_goto (tgt := 19) (pc := 15) dX1_goesToHost_15 (by decide) ?_
      exact r_zret (ty := .boolean) (pc := 19) dX1_goesToHost_19 rfl
  · skip
    refine r_iconst (v := (1 : Int32)) (pc := 14) dX1_goesToHost_14 (by decide) ?_
    refine r_goto (tgt := 19) (pc := 15) dX1_goesToHost_15 (by decide) ?_
    exact r_zret (ty := .boolean) (pc := 19) dX1_goesToHost_19 rfl
abbrev ck_X13_cook : CK := ("BanquetVotes$Invitation", prog_13_method_6_code, 1, (some .int), "cook", [], 1)
def f_X13_cook (γ : GP) (x0 : Nat) (g : AH) : Option (Int32 × AH) := gI g x0 113 fun v1 => (some (v1, g))
theorem t_X13_cook (γ : GP) (l : Launch) (hl : l.stackTraces = false) (x0 : Nat) (g : AH) : TrM ρI γ l ⟨"BanquetVotes$Invitation", "cook", "()I"⟩ (ws_ ⟨"BanquetVotes$Invitation", "cook", "()I"⟩ prog_13_method_6_code 1 (some .int)) 1 [.ref x0] g (f_X13_cook γ x0 g) := by
  refine TrM_of (plainFor_of_name (by decide)) (Nat.le_of_ble_eq_true rfl) ?_
  unfold f_X13_cook
  change AW ρI γ l ck_X13_cook g 0 [(0, .ref x0)] [] g _
  refine r_aload_n (pc := 0) dX13_cook_0 rfl 0 rfl ?_
  refine r_getI (f := 113) (pc := 1) dX13_cook_1 q2420 (Or.inl rfl) rfl (fun v1 => ?_)
  exact r_iret (pc := 4) dX13_cook_4 rfl
abbrev ck_X15_cook : CK := ("BanquetVotes$Question", prog_17_method_6_code, 1, (some .int), "cook", [], 1)
def f_X15_cook (γ : GP) (x0 : Nat) (g : AH) : Option (Int32 × AH) := gI g x0 120 fun v1 => (some (v1, g))
theorem t_X15_cook (γ : GP) (l : Launch) (hl : l.stackTraces = false) (x0 : Nat) (g : AH) : TrM ρI γ l ⟨"BanquetVotes$Question", "cook", "()I"⟩ (ws_ ⟨"BanquetVotes$Question", "cook", "()I"⟩ prog_17_method_6_code 1 (some .int)) 1 [.ref x0] g (f_X15_cook γ x0 g) := by
  refine TrM_of (plainFor_of_name (by decide)) (Nat.le_of_ble_eq_true rfl) ?_
  unfold f_X15_cook
  change AW ρI γ l ck_X15_cook g 0 [(0, .ref x0)] [] g _
  refine r_aload_n (pc := 0) dX15_cook_0 rfl 0 rfl ?_
  refine r_getI (f := 120) (pc := 1) dX15_cook_1 q2512 (Or.inl rfl) rfl (fun v1 => ?_)
  exact r_iret (pc := 4) dX15_cook_4 rfl
abbrev ck_X14_cook : CK := ("BanquetVotes$Verdict", prog_22_method_6_code, 1, (some .int), "cook", [], 1)
def f_X14_cook (γ : GP) (x0 : Nat) (g : AH) : Option (Int32 × AH) := gI g x0 116 fun v1 => (some (v1, g))
theorem t_X14_cook (γ : GP) (l : Launch) (hl : l.stackTraces = false) (x0 : Nat) (g : AH) : TrM ρI γ l ⟨"BanquetVotes$Verdict", "cook", "()I"⟩ (ws_ ⟨"BanquetVotes$Verdict", "cook", "()I"⟩ prog_22_method_6_code 1 (some .int)) 1 [.ref x0] g (f_X14_cook γ x0 g) := by
  refine TrM_of (plainFor_of_name (by decide)) (Nat.le_of_ble_eq_true rfl) ?_
  unfold f_X14_cook
  change AW ρI γ l ck_X14_cook g 0 [(0, .ref x0)] [] g _
  refine r_aload_n (pc := 0) dX14_cook_0 rfl 0 rfl ?_
  refine r_getI (f := 116) (pc := 1) dX14_cook_1 q2457 (Or.inl rfl) rfl (fun v1 => ?_)
  exact r_iret (pc := 4) dX14_cook_4 rfl
abbrev ck_X16_cook : CK := ("BanquetVotes$Vote", prog_23_method_6_code, 1, (some .int), "cook", [], 1)
def f_X16_cook (γ : GP) (x0 : Nat) (g : AH) : Option (Int32 × AH) := gI g x0 123 fun v1 => (some (v1, g))
theorem t_X16_cook (γ : GP) (l : Launch) (hl : l.stackTraces = false) (x0 : Nat) (g : AH) : TrM ρI γ l ⟨"BanquetVotes$Vote", "cook", "()I"⟩ (ws_ ⟨"BanquetVotes$Vote", "cook", "()I"⟩ prog_23_method_6_code 1 (some .int)) 1 [.ref x0] g (f_X16_cook γ x0 g) := by
  refine TrM_of (plainFor_of_name (by decide)) (Nat.le_of_ble_eq_true rfl) ?_
  unfold f_X16_cook
  change AW ρI γ l ck_X16_cook g 0 [(0, .ref x0)] [] g _
  refine r_aload_n (pc := 0) dX16_cook_0 rfl 0 rfl ?_
  refine r_getI (f := 123) (pc := 1) dX16_cook_1 q2719 (Or.inl rfl) rfl (fun v1 => ?_)
  exact r_iret (pc := 4) dX16_cook_4 rfl
abbrev ck_X16_course : CK := ("BanquetVotes$Vote", prog_23_method_7_code, 1, (some .int), "course", [], 1)
def f_X16_course (γ : GP) (x0 : Nat) (g : AH) : Option (Int32 × AH) := gI g x0 124 fun v1 => (some (v1, g))
theorem t_X16_course (γ : GP) (l : Launch) (hl : l.stackTraces = false) (x0 : Nat) (g : AH) : TrM ρI γ l ⟨"BanquetVotes$Vote", "course", "()I"⟩ (ws_ ⟨"BanquetVotes$Vote", "course", "()I"⟩ prog_23_method_7_code 1 (some .int)) 1 [.ref x0] g (f_X16_course γ x0 g) := by
  refine TrM_of (plainFor_of_name (by decide)) (Nat.le_of_ble_eq_true rfl) ?_
  unfold f_X16_course
  change AW ρI γ l ck_X16_course g 0 [(0, .ref x0)] [] g _
  refine r_aload_n (pc := 0) dX16_course_0 rfl 0 rfl ?_
  refine r_getI (f := 124) (pc := 1) dX16_course_1 q2720 (Or.inl rfl) rfl (fun v1 => ?_)
  exact r_iret (pc := 4) dX16_course_4 rfl
abbrev ck_X16_isYes : CK := ("BanquetVotes$Vote", prog_23_method_9_code, 1, (some .boolean), "isYes", [], 1)
def f_X16_isYes (γ : GP) (x0 : Nat) (g : AH) : Option (Int32 × AH) := gI g x0 126 fun v1 => (rtN .boolean v1 g)
theorem t_X16_isYes (γ : GP) (l : Launch) (hl : l.stackTraces = false) (x0 : Nat) (g : AH) : TrM ρI γ l ⟨"BanquetVotes$Vote", "isYes", "()Z"⟩ (ws_ ⟨"BanquetVotes$Vote", "isYes", "()Z"⟩ prog_23_method_9_code 1 (some .boolean)) 1 [.ref x0] g (f_X16_isYes γ x0 g) := by
  refine TrM_of (plainFor_of_name (by decide)) (Nat.le_of_ble_eq_true rfl) ?_
  unfold f_X16_isYes
  change AW ρI γ l ck_X16_isYes g 0 [(0, .ref x0)] [] g _
  refine r_aload_n (pc := 0) dX16_isYes_0 rfl 0 rfl ?_
  refine r_getI (f := 126) (pc := 1) dX16_isYes_1 q2722 (Or.inl rfl) rfl (fun v1 => ?_)
  exact r_zret (ty := .boolean) (pc := 4) dX16_isYes_4 rfl
abbrev ck_X7_countsYes : CK := ("BanquetVotes$Course", prog_4_method_11_code, 2, none, "countsYes", [], 1)
def f_X7_countsYes (γ : GP) (x0 : Nat) (x1 : Int32) (g : AH) : Option (AH) := gI g x0 91 fun v1 => pI γ g x0 91 (v1 ||| ((1 : Int32) <<< (x1 &&& 31))) fun g2 => (some g2)
theorem t_X7_countsYes (γ : GP) (l : Launch) (hl : l.stackTraces = false) (x0 : Nat) (x1 : Int32) (g : AH) : TrM ρV γ l ⟨"BanquetVotes$Course", "countsYes", "(I)V"⟩ (ws_ ⟨"BanquetVotes$Course", "countsYes", "(I)V"⟩ prog_4_method_11_code 2 none) 1 [.ref x0, .int x1] g (f_X7_countsYes γ x0 x1 g) := by
  refine TrM_of (plainFor_of_name (by decide)) (Nat.le_of_ble_eq_true rfl) ?_
  unfold f_X7_countsYes
  change AW ρV γ l ck_X7_countsYes g 0 [(0, .ref x0), (1, .int x1)] [] g _
  refine r_aload_n (pc := 0) dX7_countsYes_0 rfl 0 rfl ?_
  refine r_dup (pc := 1) dX7_countsYes_1 rfl ?_
  refine r_getI (f := 91) (pc := 2) dX7_countsYes_2 q1456 (Or.inl rfl) rfl (fun v1 => ?_)
  refine r_iconst (v := (1 : Int32)) (pc := 5) dX7_countsYes_5 (by decide) ?_
  refine r_iload_n (pc := 6) dX7_countsYes_6 rfl 1 rfl ?_
  refine r_ishl (pc := 7) dX7_countsYes_7 ?_
  refine r_ior (pc := 8) dX7_countsYes_8 ?_
  refine r_putI (f := 91) (pc := 9) dX7_countsYes_9 q1456 (Or.inl rfl) (Or.inl rfl) rfl (fun g2 => ?_)
  exact r_vret (pc := 12) dX7_countsYes_12 rfl
abbrev ck_X2_counts : CK := ("BanquetVotes$Kitchen", prog_14_method_34_code, 3, none, "counts", [], 10)
def f_X2_counts (γ : GP) (x0 : Nat) (x1 : Nat) (g : AH) : Option (AH) := bI ((if hK g x1 = 32 then f_X16_course γ x1 g else none)) fun v2 g1 => bR ((if hK g1 x0 = 2 then f_X2_course γ x0 v2 g1 else none)) fun v4 g3 => bI ((if hK g3 v4 = 20 then f_X7_phase γ v4 g3 else none)) fun v6 g5 => (if v6 = (1 : Int32) then bI ((if hK g5 x1 = 32 then f_X16_isYes γ x1 g5 else none)) fun v8 g7 => (if v8 = 0 then bI ((if hK g7 x1 = 32 then f_X16_course γ x1 g7 else none)) fun v10 g9 => bV ((if hK g9 x0 = 2 then f_X2_settles γ x0 v10 (3 : Int32) g9 else none)) fun g11 => bI ((if hK g11 x1 = 32 then f_X16_course γ x1 g11 else none)) fun v13 g12 => bI ((if hK g12 x0 = 2 then f_X2_sendsAll γ x0 v13 g12 else none)) fun v15 g14 => (some g14) else bI ((if hK g7 x1 = 32 then f_X16_cook γ x1 g7 else none)) fun v17 g16 => bV ((if hK g16 v4 = 20 then f_X7_countsYes γ v4 v17 g16 else none)) fun g18 => bI ((if hK g18 v4 = 20 then f_X7_votes γ v4 g18 else none)) fun v20 g19 => bR ((if hK g19 v4 = 20 then f_X7_dishes γ v4 g19 else none)) fun v22 g21 => bI ((if hK g21 v22 = 15 then f_J28_size γ v22 g21 else none)) fun v24 g23 => (if v20 = v24 then bI ((if hK g23 x1 = 32 then f_X16_course γ x1 g23 else none)) fun v26 g25 => bV ((if hK g25 x0 = 2 then f_X2_settles γ x0 v26 (2 : Int32) g25 else none)) fun g27 => bI ((if hK g27 x1 = 32 then f_X16_course γ x1 g27 else none)) fun v29 g28 => bI ((if hK g28 x0 = 2 then f_X2_sendsAll γ x0 v29 g28 else none)) fun v31 g30 => (some g30) else (some g23))) else (some g5))
theorem t_X2_counts (γ : GP) (l : Launch) (hl : l.stackTraces = false) (x0 : Nat) (x1 : Nat) (g : AH) : TrM ρV γ l ⟨"BanquetVotes$Kitchen", "counts", "(LBanquetVotes$Vote;)V"⟩ (ws_ ⟨"BanquetVotes$Kitchen", "counts", "(LBanquetVotes$Vote;)V"⟩ prog_14_method_34_code 3 none) 10 [.ref x0, .ref x1] g (f_X2_counts γ x0 x1 g) := by
  refine TrM_of (plainFor_of_name (by decide)) (Nat.le_of_ble_eq_true rfl) ?_
  unfold f_X2_counts
  change AW ρV γ l ck_X2_counts g 0 [(0, .ref x0), (1, .ref x1)] [] g _
  refine r_aload_n (pc := 0) dX2_counts_0 rfl 0 rfl ?_
  refine r_aload_n (pc := 1) dX2_counts_1 rfl 1 rfl ?_
  refine r_cI (pc := 2) (rest := [.ref x0]) (RunOK_chk (fun h => run_V (n := 0) (c9 := 32) (As := []) (rest := [.ref x0]) (t_X16_course γ l hl x1 g) dX2_counts_2 q2656 q2657 q2658 q172 q2659 (by decide +kernel) rfl h ⟨rfl, by decide, by decide⟩ (Nat.le_of_ble_eq_true rfl) (Nat.le_of_ble_eq_true rfl) rfl (Nat.le_of_ble_eq_true rfl))) (fun v2 g1 => ?_)
  refine r_cR (pc := 5) (rest := []) (RunOK_chk (fun h => run_V (n := 1) (c9 := 2) (As := [.int v2]) (rest := []) (t_X2_course γ l hl x0 v2 g1) dX2_counts_5 q2127 q2128 q2129 q109 q2130 (by decide +kernel) rfl h ⟨rfl, by decide, by decide⟩ (Nat.le_of_ble_eq_true rfl) (Nat.le_of_ble_eq_true rfl) rfl (Nat.le_of_ble_eq_true rfl))) (fun v4 g3 => ?_)
  refine r_astore_n (pc := 8) dX2_counts_8 rfl (Nat.le_of_ble_eq_true rfl) rfl ?_
  refine r_aload_n (pc := 9) dX2_counts_9 rfl 0 rfl ?_
  refine r_cI (pc := 10) (rest := []) (RunOK_chk (fun h => run_V (n := 0) (c9 := 20) (As := []) (rest := []) (t_X7_phase γ l hl v4 g3) dX2_counts_10 q2131 q2132 q2133 q150 q2134 (by decide +kernel) rfl h ⟨rfl, by decide, by decide⟩ (Nat.le_of_ble_eq_true rfl) (Nat.le_of_ble_eq_true rfl) rfl (Nat.le_of_ble_eq_true rfl))) (fun v6 g5 => ?_)
  refine r_iconst (v := (1 : Int32)) (pc := 13) dX2_counts_13 (by decide) ?_
  refine r_icmp_eq (tgt := 18) (pc := 14) dX2_counts_14 (by decide) ?_ ?_
  · skip
    refine r_aload_n (pc := 18) dX2_counts_18 rfl 2 rfl ?_
    refine r_cI (pc := 19) (rest := []) (RunOK_chk (fun h => run_V (n := 0) (c9 := 32) (As := []) (rest := []) (t_X16_isYes γ l hl x1 g5) dX2_counts_19 q2660 q2661 q2662 q172 q2663 (by decide +kernel) rfl h ⟨rfl, by decide, by decide⟩ (Nat.le_of_ble_eq_true rfl) (Nat.le_of_ble_eq_true rfl) rfl (Nat.le_of_ble_eq_true rfl))) (fun v8 g7 => ?_)
    refine r_if_ne (tgt := 44) (pc := 22) dX2_counts_22 (by decide) ?_ ?_
    · skip
      refine r_aload_n (pc := 25) dX2_counts_25 rfl 1 rfl ?_
      refine r_aload_n (pc := 26) dX2_counts_26 rfl 2 rfl ?_
      refine r_cI (pc := 27) (rest := [.ref x0]) (RunOK_chk (fun h => run_V (n := 0) (c9 := 32) (As := []) (rest := [.ref x0]) (t_X16_course γ l hl x1 g7) dX2_counts_27 q2656 q2657 q2658 q172 q2659 (by decide +kernel) rfl h ⟨rfl, by decide, by decide⟩ (Nat.le_of_ble_eq_true rfl) (Nat.le_of_ble_eq_true rfl) rfl (Nat.le_of_ble_eq_true rfl))) (fun v10 g9 => ?_)
      refine r_iconst (v := (3 : Int32)) (pc := 30) dX2_counts_30 (by decide) ?_
      refine r_cV (pc := 31) (rest := []) (RunOK_chk (fun h => run_V (n := 2) (c9 := 2) (As := [.int v10, .int (3 : Int32)]) (rest := []) (t_X2_settles γ l hl x0 v10 (3 : Int32) g9) dX2_counts_31 q2439 q2441 qs24 q109 q2442 (by decide +kernel) rfl h ⟨rfl, by decide, by decide⟩ (Nat.le_of_ble_eq_true rfl) (Nat.le_of_ble_eq_true rfl) rfl (Nat.le_of_ble_eq_true rfl))) (fun g11 => ?_)
      refine r_aload_n (pc := 34) dX2_counts_34 rfl 1 rfl ?_
      refine r_aload_n (pc := 35) dX2_counts_35 rfl 2 rfl ?_
      refine r_cI (pc := 36) (rest := [.ref x0]) (RunOK_chk (fun h => run_V (n := 0) (c9 := 32) (As := []) (rest := [.ref x0]) (t_X16_course γ l hl x1 g11) dX2_counts_36 q2656 q2657 q2658 q172 q2659 (by decide +kernel) rfl h ⟨rfl, by decide, by decide⟩ (Nat.le_of_ble_eq_true rfl) (Nat.le_of_ble_eq_true rfl) rfl (Nat.le_of_ble_eq_true rfl))) (fun v13 g12 => ?_)
      refine r_cI (pc := 39) (rest := []) (RunOK_chk (fun h => run_V (n := 1) (c9 := 2) (As := [.int v13]) (rest := []) (t_X2_sendsAll γ l hl x0 v13 g12) dX2_counts_39 q2447 q2449 qs25 q109 q2450 (by decide +kernel) rfl h ⟨rfl, by decide, by decide⟩ (Nat.le_of_ble_eq_true rfl) (Nat.le_of_ble_eq_true rfl) rfl (Nat.le_of_ble_eq_true rfl))) (fun v15 g14 => ?_)
      refine r_pop (pc := 42) dX2_counts_42 rfl ?_
      exact r_vret (pc := 43) dX2_counts_43 rfl
    · skip
      refine r_aload_n (pc := 44) dX2_counts_44 rfl 0 rfl ?_
      refine r_aload_n (pc := 45) dX2_counts_45 rfl 2 rfl ?_
      refine r_cI (pc := 46) (rest := [.ref v4]) (RunOK_chk (fun h => run_V (n := 0) (c9 := 32) (As := []) (rest := [.ref v4]) (t_X16_cook γ l hl x1 g7) dX2_counts_46 q2664 q2648 q3904 q172 q2650 (by decide +kernel) rfl h ⟨rfl, by decide, by decide⟩ (Nat.le_of_ble_eq_true rfl) (Nat.le_of_ble_eq_true rfl) rfl (Nat.le_of_ble_eq_true rfl))) (fun v17 g16 => ?_)
      refine r_cV (pc := 49) (rest := []) (RunOK_chk (fun h => run_V (n := 1) (c9 := 20) (As := [.int v17]) (rest := []) (t_X7_countsYes γ l hl v4 v17 g16) dX2_counts_49 q2665 q2666 q2667 q150 q2668 (by decide +kernel) rfl h ⟨rfl, by decide, by decide⟩ (Nat.le_of_ble_eq_true rfl) (Nat.le_of_ble_eq_true rfl) rfl (Nat.le_of_ble_eq_true rfl))) (fun g18 => ?_)
      refine r_aload_n (pc := 52) dX2_counts_52 rfl 0 rfl ?_
      refine r_cI (pc := 53) (rest := []) (RunOK_chk (fun h => run_V (n := 0) (c9 := 20) (As := []) (rest := []) (t_X7_votes γ l hl v4 g18) dX2_counts_53 q2669 q2170 q2171 q150 q2172 (by decide +kernel) rfl h ⟨rfl, by decide, by decide⟩ (Nat.le_of_ble_eq_true rfl) (Nat.le_of_ble_eq_true rfl) rfl (Nat.le_of_ble_eq_true rfl))) (fun v20 g19 => ?_)
      refine r_aload_n (pc := 56) dX2_counts_56 rfl 0 rfl ?_
      refine r_cR (pc := 57) (rest := [.int v20]) (RunOK_chk (fun h => run_V (n := 0) (c9 := 20) (As := []) (rest := [.int v20]) (t_X7_dishes γ l hl v4 g19) dX2_counts_57 q2139 q2140 q2141 q150 q2142 (by decide +kernel) rfl h ⟨rfl, by decide, by decide⟩ (Nat.le_of_ble_eq_true rfl) (Nat.le_of_ble_eq_true rfl) rfl (Nat.le_of_ble_eq_true rfl))) (fun v22 g21 => ?_)
      refine r_cI (pc := 60) (rest := [.int v20]) (RunOK_chk (fun h => run_V (n := 0) (c9 := 15) (As := []) (rest := [.int v20]) (t_J28_size γ l hl v22 g21) dX2_counts_60 q2147 q1301 q1302 q143 q1303 (by decide +kernel) rfl h ⟨rfl, by decide, by decide⟩ (Nat.le_of_ble_eq_true rfl) (Nat.le_of_ble_eq_true rfl) rfl (Nat.le_of_ble_eq_true rfl))) (fun v24 g23 => ?_)
      refine r_icmp_ne (tgt := 84) (pc := 63) dX2_counts_63 (by decide) ?_ ?_
      · skip
        refine r_aload_n (pc := 66) dX2_counts_66 rfl 1 rfl ?_
        refine r_aload_n (pc := 67) dX2_counts_67 rfl 2 rfl ?_
        refine r_cI (pc := 68) (rest := [.ref x0]) (RunOK_chk (fun h => run_V (n := 0) (c9 := 32) (As := []) (rest := [.ref x0]) (t_X16_course γ l hl x1 g23) dX2_counts_68 q2656 q2657 q2658 q172 q2659 (by decide +kernel) rfl h ⟨rfl, by decide, by decide⟩ (Nat.le_of_ble_eq_true rfl) (Nat.le_of_ble_eq_true rfl) rfl (Nat.le_of_ble_eq_true rfl))) (fun v26 g25 => ?_)
        refine r_iconst (v := (2 : Int32)) (pc := 71) dX2_counts_71 (by decide) ?_
        refine r_cV (pc := 72) (rest := []) (RunOK_chk (fun h => run_V (n := 2) (c9 := 2) (As := [.int v26, .int (2 : Int32)]) (rest := []) (t_X2_settles γ l hl x0 v26 (2 : Int32) g25) dX2_counts_72 q2439 q2441 qs24 q109 q2442 (by decide +kernel) rfl h ⟨rfl, by decide, by decide⟩ (Nat.le_of_ble_eq_true rfl) (Nat.le_of_ble_eq_true rfl) rfl (Nat.le_of_ble_eq_true rfl))) (fun g27 => ?_)
        refine r_aload_n (pc := 75) dX2_counts_75 rfl 1 rfl ?_
        refine r_aload_n (pc := 76) dX2_counts_76 rfl 2 rfl ?_
        refine r_cI (pc := 77) (rest := [.ref x0]) (RunOK_chk (fun h => run_V (n := 0) (c9 := 32) (As := []) (rest := [.ref x0]) (t_X16_course γ l hl x1 g27) dX2_counts_77 q2656 q2657 q2658 q172 q2659 (by decide +kernel) rfl h ⟨rfl, by decide, by decide⟩ (Nat.le_of_ble_eq_true rfl) (Nat.le_of_ble_eq_true rfl) rfl (Nat.le_of_ble_eq_true rfl))) (fun v29 g28 => ?_)
        refine r_cI (pc := 80) (rest := []) (RunOK_chk (fun h => run_V (n := 1) (c9 := 2) (As := [.int v29]) (rest := []) (t_X2_sendsAll γ l hl x0 v29 g28) dX2_counts_80 q2447 q2449 qs25 q109 q2450 (by decide +kernel) rfl h ⟨rfl, by decide, by decide⟩ (Nat.le_of_ble_eq_true rfl) (Nat.le_of_ble_eq_true rfl) rfl (Nat.le_of_ble_eq_true rfl))) (fun v31 g30 => ?_)
        refine r_pop (pc := 83) dX2_counts_83 rfl ?_
        exact r_vret (pc := 84) dX2_counts_84 rfl
      · skip
        exact r_vret (pc := 84) dX2_counts_84 rfl
  · skip
    exact r_vret (pc := 17) dX2_counts_17 rfl
abbrev ck_X15_course : CK := ("BanquetVotes$Question", prog_17_method_7_code, 1, (some .int), "course", [], 1)
def f_X15_course (γ : GP) (x0 : Nat) (g : AH) : Option (Int32 × AH) := gI g x0 121 fun v1 => (some (v1, g))
theorem t_X15_course (γ : GP) (l : Launch) (hl : l.stackTraces = false) (x0 : Nat) (g : AH) : TrM ρI γ l ⟨"BanquetVotes$Question", "course", "()I"⟩ (ws_ ⟨"BanquetVotes$Question", "course", "()I"⟩ prog_17_method_7_code 1 (some .int)) 1 [.ref x0] g (f_X15_course γ x0 g) := by
  refine TrM_of (plainFor_of_name (by decide)) (Nat.le_of_ble_eq_true rfl) ?_
  unfold f_X15_course
  change AW ρI γ l ck_X15_course g 0 [(0, .ref x0)] [] g _
  refine r_aload_n (pc := 0) dX15_course_0 rfl 0 rfl ?_
  refine r_getI (f := 121) (pc := 1) dX15_course_1 q2513 (Or.inl rfl) rfl (fun v1 => ?_)
  exact r_iret (pc := 4) dX15_course_4 rfl
abbrev ck_X2_answers : CK := ("BanquetVotes$Kitchen", prog_14_method_35_code, 3, none, "answers", [], 6)
def f_X2_answers (γ : GP) (x0 : Nat) (x1 : Nat) (g : AH) : Option (AH) := bI ((if hK g x1 = 31 then f_X15_course γ x1 g else none)) fun v2 g1 => bR ((if hK g1 x0 = 2 then f_X2_course γ x0 v2 g1 else none)) fun v4 g3 => bI ((if hK g3 v4 = 20 then f_X7_isDecided γ v4 g3 else none)) fun v6 g5 => (if v6 = 0 then (some g5) else gR g5 x0 11 fun v7 => mO g5 30 fun q8 g9 => bI ((if hK g9 x1 = 31 then f_X15_cook γ x1 g9 else none)) fun v11 g10 => bI ((if hK g10 x1 = 31 then f_X15_course γ x1 g10 else none)) fun v13 g12 => bI ((if hK g12 x1 = 31 then f_X15_cook γ x1 g12 else none)) fun v15 g14 => bI ((if hK g14 x0 = 2 then f_X2_arrival γ x0 v15 g14 else none)) fun v17 g16 => bI ((if hK g16 v4 = 20 then f_X7_phase γ v4 g16 else none)) fun v19 g18 => jn (fun (z20 : Int32) (z21 : Int32) (z22 : Int32) (z23 : Int32) (z24 : Nat) (z25 : Nat) (z26 : Nat) (g27 : AH) => bV ((if z24 ≠ 0 then f_X14_init γ z24 z23 z22 z21 z20 g27 else none)) fun g29 => bI ((if hK g29 z26 = 5 then f_J4_add γ z26 z25 g29 else none)) fun v31 g30 => (some g30)) (fun (j28 : Int32 → Int32 → Int32 → Int32 → Nat → Nat → Nat → AH → Option (AH)) => (if v19 = (2 : Int32) then j28 (1 : Int32) v17 v13 v11 q8 q8 v7 g18 else j28 (0 : Int32) v17 v13 v11 q8 q8 v7 g18)))
theorem t_X2_answers (γ : GP) (l : Launch) (hl : l.stackTraces = false) (x0 : Nat) (x1 : Nat) (g : AH) : TrM ρV γ l ⟨"BanquetVotes$Kitchen", "answers", "(LBanquetVotes$Question;)V"⟩ (ws_ ⟨"BanquetVotes$Kitchen", "answers", "(LBanquetVotes$Question;)V"⟩ prog_14_method_35_code 3 none) 6 [.ref x0, .ref x1] g (f_X2_answers γ x0 x1 g) := by
  refine TrM_of (plainFor_of_name (by decide)) (Nat.le_of_ble_eq_true rfl) ?_
  unfold f_X2_answers
  change AW ρV γ l ck_X2_answers g 0 [(0, .ref x0), (1, .ref x1)] [] g _
  refine r_aload_n (pc := 0) dX2_answers_0 rfl 0 rfl ?_
  refine r_aload_n (pc := 1) dX2_answers_1 rfl 1 rfl ?_
  refine r_cI (pc := 2) (rest := [.ref x0]) (RunOK_chk (fun h => run_V (n := 0) (c9 := 31) (As := []) (rest := [.ref x0]) (t_X15_course γ l hl x1 g) dX2_answers_2 q2674 q2675 q2676 q171 q2677 (by decide +kernel) rfl h ⟨rfl, by decide, by decide⟩ (Nat.le_of_ble_eq_true rfl) (Nat.le_of_ble_eq_true rfl) rfl (Nat.le_of_ble_eq_true rfl))) (fun v2 g1 => ?_)
  refine r_cR (pc := 5) (rest := []) (RunOK_chk (fun h => run_V (n := 1) (c9 := 2) (As := [.int v2]) (rest := []) (t_X2_course γ l hl x0 v2 g1) dX2_answers_5 q2127 q2128 q2129 q109 q2130 (by decide +kernel) rfl h ⟨rfl, by decide, by decide⟩ (Nat.le_of_ble_eq_true rfl) (Nat.le_of_ble_eq_true rfl) rfl (Nat.le_of_ble_eq_true rfl))) (fun v4 g3 => ?_)
  refine r_astore_n (pc := 8) dX2_answers_8 rfl (Nat.le_of_ble_eq_true rfl) rfl ?_
  refine r_aload_n (pc := 9) dX2_answers_9 rfl 0 rfl ?_
  refine r_cI (pc := 10) (rest := []) (RunOK_chk (fun h => run_V (n := 0) (c9 := 20) (As := []) (rest := []) (t_X7_isDecided γ l hl v4 g3) dX2_answers_10 q2435 q2436 q2437 q150 q2438 (by decide +kernel) rfl h ⟨rfl, by decide, by decide⟩ (Nat.le_of_ble_eq_true rfl) (Nat.le_of_ble_eq_true rfl) rfl (Nat.le_of_ble_eq_true rfl))) (fun v6 g5 => ?_)
  refine r_if_eq (tgt := 60) (pc := 13) dX2_answers_13 (by decide) ?_ ?_
  · skip
    exact r_vret (pc := 60) dX2_answers_60 rfl
  · skip
    refine r_aload_n (pc := 16) dX2_answers_16 rfl 1 rfl ?_
    refine r_getR (f := 11) (pc := 17) dX2_answers_17 q268 (Or.inl rfl) rfl (fun v7 => ?_)
    refine r_new (c := 30) (pc := 20) dX2_answers_20 q2451 (by decide) (by decide) (fun q8 g9 => ?_)
    refine r_dup (pc := 23) dX2_answers_23 rfl ?_
    refine r_aload_n (pc := 24) dX2_answers_24 rfl 2 rfl ?_
    refine r_cI (pc := 25) (rest := [.ref q8, .ref q8, .ref v7]) (RunOK_chk (fun h => run_V (n := 0) (c9 := 31) (As := []) (rest := [.ref q8, .ref q8, .ref v7]) (t_X15_cook γ l hl x1 g9) dX2_answers_25 q2678 q2638 q3905 q171 q2640 (by decide +kernel) rfl h ⟨rfl, by decide, by decide⟩ (Nat.le_of_ble_eq_true rfl) (Nat.le_of_ble_eq_true rfl) rfl (Nat.le_of_ble_eq_true rfl))) (fun v11 g10 => ?_)
    refine r_aload_n (pc := 28) dX2_answers_28 rfl 2 rfl ?_
    refine r_cI (pc := 29) (rest := [.int v11, .ref q8, .ref q8, .ref v7]) (RunOK_chk (fun h => run_V (n := 0) (c9 := 31) (As := []) (rest := [.int v11, .ref q8, .ref q8, .ref v7]) (t_X15_course γ l hl x1 g10) dX2_answers_29 q2674 q2675 q2676 q171 q2677 (by decide +kernel) rfl h ⟨rfl, by decide, by decide⟩ (Nat.le_of_ble_eq_true rfl) (Nat.le_of_ble_eq_true rfl) rfl (Nat.le_of_ble_eq_true rfl))) (fun v13 g12 => ?_)
    refine r_aload_n (pc := 32) dX2_answers_32 rfl 1 rfl ?_
    refine r_aload_n (pc := 33) dX2_answers_33 rfl 2 rfl ?_
    refine r_cI (pc := 34) (rest := [.ref x0, .int v13, .int v11, .ref q8, .ref q8, .ref v7]) (RunOK_chk (fun h => run_V (n := 0) (c9 := 31) (As := []) (rest := [.ref x0, .int v13, .int v11, .ref q8, .ref q8, .ref v7]) (t_X15_cook γ l hl x1 g12) dX2_answers_34 q2678 q2638 q3905 q171 q2640 (by decide +kernel) rfl h ⟨rfl, by decide, by decide⟩ (Nat.le_of_ble_eq_true rfl) (Nat.le_of_ble_eq_true rfl) rfl (Nat.le_of_ble_eq_true rfl))) (fun v15 g14 => ?_)
    refine r_cI (pc := 37) (rest := [.int v13, .int v11, .ref q8, .ref q8, .ref v7]) (RunOK_chk (fun h => run_V (n := 1) (c9 := 2) (As := [.int v15]) (rest := [.int v13, .int v11, .ref q8, .ref q8, .ref v7]) (t_X2_arrival γ l hl x0 v15 g14) dX2_answers_37 q2408 q2410 qs23 q109 q2411 (by decide +kernel) rfl h ⟨rfl, by decide, by decide⟩ (Nat.le_of_ble_eq_true rfl) (Nat.le_of_ble_eq_true rfl) rfl (Nat.le_of_ble_eq_true rfl))) (fun v17 g16 => ?_)
    refine r_aload_n (pc := 40) dX2_answers_40 rfl 0 rfl ?_
    refine r_cI (pc := 41) (rest := [.int v17, .int v13, .int v11, .ref q8, .ref q8, .ref v7]) (RunOK_chk (fun h => run_V (n := 0) (c9 := 20) (As := []) (rest := [.int v17, .int v13, .int v11, .ref q8, .ref q8, .ref v7]) (t_X7_phase γ l hl v4 g16) dX2_answers_41 q2131 q2132 q2133 q150 q2134 (by decide +kernel) rfl h ⟨rfl, by decide, by decide⟩ (Nat.le_of_ble_eq_true rfl) (Nat.le_of_ble_eq_true rfl) rfl (Nat.le_of_ble_eq_true rfl))) (fun v19 g18 => ?_)
    refine r_iconst (v := (2 : Int32)) (pc := 44) dX2_answers_44 (by decide) ?_
    refine AW_jn (P := fun (j : Int32 → Int32 → Int32 → Int32 → Nat → Nat → Nat → AH → Option (AH)) => ∀ (z20 : Int32) (z21 : Int32) (z22 : Int32) (z23 : Int32) (z24 : Nat) (z25 : Nat) (z26 : Nat) (g27 : AH), AW ρV γ l ck_X2_answers g 53 [] [.int z20, .int z21, .int z22, .int z23, .ref z24, .ref z25, .ref z26] g27 (j z20 z21 z22 z23 z24 z25 z26 g27)) (fun z20 z21 z22 z23 z24 z25 z26 g27 => ?_) (fun j28 h_j28 => ?_)
    · skip
      refine r_cV (pc := 53) (rest := [.ref z25, .ref z26]) (RunOK_chk (fun h => run_IN (n := 4) (As := [.int z23, .int z22, .int z21, .int z20]) (rest := [.ref z25, .ref z26]) (t_X14_init γ l hl z24 z23 z22 z21 z20 g27) dX2_answers_53 mv2453 q2454 q170 q2455 rfl (by decide +kernel) rfl h (Nat.le_of_ble_eq_true rfl) (Nat.le_of_ble_eq_true rfl) rfl (Nat.le_of_ble_eq_true rfl))) (fun g29 => ?_)
      refine r_cI (pc := 56) (rest := []) (RunOK_chk (fun h => run_V (n := 1) (c9 := 5) (As := [.ref z25]) (rest := []) (t_J4_add γ l hl z26 z25 g29) dX2_answers_56 q2430 q1398 q3900 q116 q1400 (by decide +kernel) rfl h ⟨rfl, by decide, by decide⟩ (Nat.le_of_ble_eq_true rfl) (Nat.le_of_ble_eq_true rfl) rfl (Nat.le_of_ble_eq_true rfl))) (fun v31 g30 => ?_)
      refine r_pop (pc := 59) dX2_answers_59 rfl ?_
      exact r_vret (pc := 60) dX2_answers_60 rfl
    · skip
      refine r_icmp_ne (tgt := 52) (pc := 45) dX2_answers_45 (by decide) ?_ ?_
      · skip
        refine r_iconst (v := (1 : Int32)) (pc := 48) dX2_answers_48 (by decide) ?_
        refine r_goto (tgt := 53) (pc := 49) dX2_answers_49 (by decide) ?_
        refine AW_sub [] rfl ?_
        exact h_j28 (1 : Int32) v17 v13 v11 q8 q8 v7 g18
      · skip
        refine r_iconst (v := (0 : Int32)) (pc := 52) dX2_answers_52 (by decide) ?_
        refine AW_sub [] rfl ?_
        exact h_j28 (0 : Int32) v17 v13 v11 q8 q8 v7 g18
abbrev ck_X14_course : CK := ("BanquetVotes$Verdict", prog_22_method_7_code, 1, (some .int), "course", [], 1)
def f_X14_course (γ : GP) (x0 : Nat) (g : AH) : Option (Int32 × AH) := gI g x0 117 fun v1 => (some (v1, g))
theorem t_X14_course (γ : GP) (l : Launch) (hl : l.stackTraces = false) (x0 : Nat) (g : AH) : TrM ρI γ l ⟨"BanquetVotes$Verdict", "course", "()I"⟩ (ws_ ⟨"BanquetVotes$Verdict", "course", "()I"⟩ prog_22_method_7_code 1 (some .int)) 1 [.ref x0] g (f_X14_course γ x0 g) := by
  refine TrM_of (plainFor_of_name (by decide)) (Nat.le_of_ble_eq_true rfl) ?_
  unfold f_X14_course
  change AW ρI γ l ck_X14_course g 0 [(0, .ref x0)] [] g _
  refine r_aload_n (pc := 0) dX14_course_0 rfl 0 rfl ?_
  refine r_getI (f := 117) (pc := 1) dX14_course_1 q2458 (Or.inl rfl) rfl (fun v1 => ?_)
  exact r_iret (pc := 4) dX14_course_4 rfl
abbrev ck_X14_isServing : CK := ("BanquetVotes$Verdict", prog_22_method_9_code, 1, (some .boolean), "isServing", [], 1)
def f_X14_isServing (γ : GP) (x0 : Nat) (g : AH) : Option (Int32 × AH) := gI g x0 119 fun v1 => (rtN .boolean v1 g)
theorem t_X14_isServing (γ : GP) (l : Launch) (hl : l.stackTraces = false) (x0 : Nat) (g : AH) : TrM ρI γ l ⟨"BanquetVotes$Verdict", "isServing", "()Z"⟩ (ws_ ⟨"BanquetVotes$Verdict", "isServing", "()Z"⟩ prog_22_method_9_code 1 (some .boolean)) 1 [.ref x0] g (f_X14_isServing γ x0 g) := by
  refine TrM_of (plainFor_of_name (by decide)) (Nat.le_of_ble_eq_true rfl) ?_
  unfold f_X14_isServing
  change AW ρI γ l ck_X14_isServing g 0 [(0, .ref x0)] [] g _
  refine r_aload_n (pc := 0) dX14_isServing_0 rfl 0 rfl ?_
  refine r_getI (f := 119) (pc := 1) dX14_isServing_1 q2460 (Or.inl rfl) rfl (fun v1 => ?_)
  exact r_zret (ty := .boolean) (pc := 4) dX14_isServing_4 rfl
abbrev ck_X13_course : CK := ("BanquetVotes$Invitation", prog_13_method_7_code, 1, (some .int), "course", [], 1)
def f_X13_course (γ : GP) (x0 : Nat) (g : AH) : Option (Int32 × AH) := gI g x0 114 fun v1 => (some (v1, g))
theorem t_X13_course (γ : GP) (l : Launch) (hl : l.stackTraces = false) (x0 : Nat) (g : AH) : TrM ρI γ l ⟨"BanquetVotes$Invitation", "course", "()I"⟩ (ws_ ⟨"BanquetVotes$Invitation", "course", "()I"⟩ prog_13_method_7_code 1 (some .int)) 1 [.ref x0] g (f_X13_course γ x0 g) := by
  refine TrM_of (plainFor_of_name (by decide)) (Nat.le_of_ble_eq_true rfl) ?_
  unfold f_X13_course
  change AW ρI γ l ck_X13_course g 0 [(0, .ref x0)] [] g _
  refine r_aload_n (pc := 0) dX13_course_0 rfl 0 rfl ?_
  refine r_getI (f := 114) (pc := 1) dX13_course_1 q2421 (Or.inl rfl) rfl (fun v1 => ?_)
  exact r_iret (pc := 4) dX13_course_4 rfl
abbrev ck_X16_init : CK := ("BanquetVotes$Vote", prog_23_method_1_code, 5, none, "<init>", [], 3)
def f_X16_init (γ : GP) (x0 : Nat) (x1 : Int32) (x2 : Int32) (x3 : Int32) (x4 : Int32) (g : AH) : Option (AH) := bV ((if x0 ≠ 0 then f_J44_init γ x0 g else none)) fun g1 => pI γ g1 x0 123 x1 fun g2 => pI γ g2 x0 124 x2 fun g3 => pI γ g3 x0 125 x3 fun g4 => pI γ g4 x0 126 x4 fun g5 => (some g5)
theorem t_X16_init (γ : GP) (l : Launch) (hl : l.stackTraces = false) (x0 : Nat) (x1 : Int32) (x2 : Int32) (x3 : Int32) (x4 : Int32) (g : AH) : TrM ρV γ l ⟨"BanquetVotes$Vote", "<init>", "(IIIZ)V"⟩ (ws_ ⟨"BanquetVotes$Vote", "<init>", "(IIIZ)V"⟩ prog_23_method_1_code 5 none) 3 [.ref x0, .int x1, .int x2, .int x3, .int x4] g (f_X16_init γ x0 x1 x2 x3 x4 g) := by
  refine TrM_of (plainFor_of_name (by decide)) (Nat.le_of_ble_eq_true rfl) ?_
  unfold f_X16_init
  change AW ρV γ l ck_X16_init g 0 [(0, .ref x0), (1, .int x1), (2, .int x2), (3, .int x3), (4, .int x4)] [] g _
  refine r_aload_n (pc := 0) dX16_init_0 rfl 0 rfl ?_
  refine r_cV (pc := 1) (rest := []) (RunOK_chk (fun h => run_I (n := 0) (As := []) (rest := []) (t_J44_init γ l hl x0 g) dX16_init_1 q2718 q2417 q168 q2418 rfl (by decide +kernel) rfl h (Nat.le_of_ble_eq_true rfl) (Nat.le_of_ble_eq_true rfl) rfl (Nat.le_of_ble_eq_true rfl))) (fun g1 => ?_)
  refine r_aload_n (pc := 4) dX16_init_4 rfl 0 rfl ?_
  refine r_iload_n (pc := 5) dX16_init_5 rfl 1 rfl ?_
  refine r_putI (f := 123) (pc := 6) dX16_init_6 q2719 (Or.inl rfl) (Or.inr ⟨rfl, rfl⟩) rfl (fun g2 => ?_)
  refine r_aload_n (pc := 9) dX16_init_9 rfl 0 rfl ?_
  refine r_iload_n (pc := 10) dX16_init_10 rfl 2 rfl ?_
  refine r_putI (f := 124) (pc := 11) dX16_init_11 q2720 (Or.inl rfl) (Or.inr ⟨rfl, rfl⟩) rfl (fun g3 => ?_)
  refine r_aload_n (pc := 14) dX16_init_14 rfl 0 rfl ?_
  refine r_iload_n (pc := 15) dX16_init_15 rfl 3 rfl ?_
  refine r_putI (f := 125) (pc := 16) dX16_init_16 q2721 (Or.inl rfl) (Or.inr ⟨rfl, rfl⟩) rfl (fun g4 => ?_)
  refine r_aload_n (pc := 19) dX16_init_19 rfl 0 rfl ?_
  refine r_iload (pc := 20) dX16_init_20 4 rfl ?_
  refine r_putI (f := 126) (pc := 22) dX16_init_22 q2722 (Or.inl rfl) (Or.inr ⟨rfl, rfl⟩) rfl (fun g5 => ?_)
  exact r_vret (pc := 25) dX16_init_25 rfl
abbrev ck_X2_isInvited : CK := ("BanquetVotes$Kitchen", prog_14_method_30_code, 5, none, "isInvited", [], 10)
def f_X2_isInvited (γ : GP) (x0 : Nat) (x1 : Int32) (x2 : Int32) (g : AH) : Option (AH) := bR ((if hK g x0 = 2 then f_X2_course γ x0 x2 g else none)) fun v2 g1 => bR ((if hK g1 v2 = 20 then f_X7_of γ v2 x1 g1 else none)) fun v4 g3 => bR ((if hK g3 v4 = 22 then f_X8_how γ v4 g3 else none)) fun v6 g5 => (if v6 = (γ.1 10) then bI ((if hK g5 v4 = 22 then f_X8_ingredient γ v4 g5 else none)) fun v8 g7 => bI ((if hK g7 x0 = 2 then f_X2_free γ x0 x1 v8 g7 else none)) fun v10 g9 => bI ((if hK g9 v4 = 22 then f_X8_amount γ v4 g9 else none)) fun v12 g11 => jn (fun (z13 : Int32) (g14 : AH) => jn (fun (z16 : Nat) (z17 : Int32) (z18 : Int32) (z19 : Nat) (g20 : AH) => jn (fun (z22 : Int32) (z23 : Nat) (z24 : Int32) (z25 : Int32) (z26 : Nat) (g27 : AH) => bV ((if hK g27 z26 = 2 then f_X2_becomes γ z26 z25 z24 z23 z22 g27 else none)) fun g29 => gR g29 x0 11 fun v30 => mO g29 32 fun q31 g32 => bI ((if hK g32 x0 = 2 then f_X2_arrival γ x0 x1 g32 else none)) fun v34 g33 => bV ((if q31 ≠ 0 then f_X16_init γ q31 x1 x2 v34 z13 g33 else none)) fun g35 => bI ((if hK g35 v30 = 5 then f_J4_add γ v30 q31 g35 else none)) fun v37 g36 => (some g36)) (fun (j28 : Int32 → Nat → Int32 → Int32 → Nat → AH → Option (AH)) => (if z13 = 0 then j28 (4 : Int32) z16 z17 z18 z19 g20 else j28 (3 : Int32) z16 z17 z18 z19 g20))) (fun (j21 : Nat → Int32 → Int32 → Nat → AH → Option (AH)) => (if z13 = 0 then j21 (γ.1 7) x2 x1 x0 g14 else j21 (γ.1 11) x2 x1 x0 g14))) (fun (j15 : Int32 → AH → Option (AH)) => (if v10 < v12 then j15 (0 : Int32) g11 else j15 (1 : Int32) g11)) else (some g5))
theorem t_X2_isInvited (γ : GP) (l : Launch) (hl : l.stackTraces = false) (x0 : Nat) (x1 : Int32) (x2 : Int32) (g : AH) : TrM ρV γ l ⟨"BanquetVotes$Kitchen", "isInvited", "(II)V"⟩ (ws_ ⟨"BanquetVotes$Kitchen", "isInvited", "(II)V"⟩ prog_14_method_30_code 5 none) 10 [.ref x0, .int x1, .int x2] g (f_X2_isInvited γ x0 x1 x2 g) := by
  refine TrM_of (plainFor_of_name (by decide)) (Nat.le_of_ble_eq_true rfl) ?_
  unfold f_X2_isInvited
  change AW ρV γ l ck_X2_isInvited g 0 [(0, .ref x0), (1, .int x1), (2, .int x2)] [] g _
  refine r_aload_n (pc := 0) dX2_isInvited_0 rfl 0 rfl ?_
  refine r_iload_n (pc := 1) dX2_isInvited_1 rfl 2 rfl ?_
  refine r_cR (pc := 2) (rest := []) (RunOK_chk (fun h => run_V (n := 1) (c9 := 2) (As := [.int x2]) (rest := []) (t_X2_course γ l hl x0 x2 g) dX2_isInvited_2 q2127 q2128 q2129 q109 q2130 (by decide +kernel) rfl h ⟨rfl, by decide, by decide⟩ (Nat.le_of_ble_eq_true rfl) (Nat.le_of_ble_eq_true rfl) rfl (Nat.le_of_ble_eq_true rfl))) (fun v2 g1 => ?_)
  refine r_iload_n (pc := 5) dX2_isInvited_5 rfl 1 rfl ?_
  refine r_cR (pc := 6) (rest := []) (RunOK_chk (fun h => run_V (n := 1) (c9 := 20) (As := [.int x1]) (rest := []) (t_X7_of γ l hl v2 x1 g1) dX2_isInvited_6 q2066 q2067 q2068 q150 q2069 (by decide +kernel) rfl h ⟨rfl, by decide, by decide⟩ (Nat.le_of_ble_eq_true rfl) (Nat.le_of_ble_eq_true rfl) rfl (Nat.le_of_ble_eq_true rfl))) (fun v4 g3 => ?_)
  refine r_astore_n (pc := 9) dX2_isInvited_9 rfl (Nat.le_of_ble_eq_true rfl) rfl ?_
  refine r_aload_n (pc := 10) dX2_isInvited_10 rfl 0 rfl ?_
  refine r_cR (pc := 11) (rest := []) (RunOK_chk (fun h => run_V (n := 0) (c9 := 22) (As := []) (rest := []) (t_X8_how γ l hl v4 g3) dX2_isInvited_11 q2070 q1179 q1180 q157 q1181 (by decide +kernel) rfl h ⟨rfl, by decide, by decide⟩ (Nat.le_of_ble_eq_true rfl) (Nat.le_of_ble_eq_true rfl) rfl (Nat.le_of_ble_eq_true rfl))) (fun v6 g5 => ?_)
  refine r_gets (i := 10) (pc := 14) dX2_isInvited_14 q2710 (List.mem_of_getElem? (i := 10) rfl) rfl ?_
  refine r_acmp_eq (tgt := 21) (pc := 17) dX2_isInvited_17 (by decide) ?_ ?_
  · skip
    refine r_aload_n (pc := 21) dX2_isInvited_21 rfl 1 rfl ?_
    refine r_iload_n (pc := 22) dX2_isInvited_22 rfl 2 rfl ?_
    refine r_aload_n (pc := 23) dX2_isInvited_23 rfl 0 rfl ?_
    refine r_cI (pc := 24) (rest := [.int x1, .ref x0]) (RunOK_chk (fun h => run_V (n := 0) (c9 := 22) (As := []) (rest := [.int x1, .ref x0]) (t_X8_ingredient γ l hl v4 g5) dX2_isInvited_24 q2135 q2136 q2137 q157 q2138 (by decide +kernel) rfl h ⟨rfl, by decide, by decide⟩ (Nat.le_of_ble_eq_true rfl) (Nat.le_of_ble_eq_true rfl) rfl (Nat.le_of_ble_eq_true rfl))) (fun v8 g7 => ?_)
    refine r_cI (pc := 27) (rest := []) (RunOK_chk (fun h => run_V (n := 2) (c9 := 2) (As := [.int x1, .int v8]) (rest := []) (t_X2_free γ l hl x0 x1 v8 g7) dX2_isInvited_27 q2711 q2218 q2219 q109 q2220 (by decide +kernel) rfl h ⟨rfl, by decide, by decide⟩ (Nat.le_of_ble_eq_true rfl) (Nat.le_of_ble_eq_true rfl) rfl (Nat.le_of_ble_eq_true rfl))) (fun v10 g9 => ?_)
    refine r_aload_n (pc := 30) dX2_isInvited_30 rfl 0 rfl ?_
    refine r_cI (pc := 31) (rest := [.int v10]) (RunOK_chk (fun h => run_V (n := 0) (c9 := 22) (As := []) (rest := [.int v10]) (t_X8_amount γ l hl v4 g9) dX2_isInvited_31 q2230 q2189 q2190 q157 q2191 (by decide +kernel) rfl h ⟨rfl, by decide, by decide⟩ (Nat.le_of_ble_eq_true rfl) (Nat.le_of_ble_eq_true rfl) rfl (Nat.le_of_ble_eq_true rfl))) (fun v12 g11 => ?_)
    refine AW_jn (P := fun (j : Int32 → AH → Option (AH)) => ∀ (z13 : Int32) (g14 : AH), AW ρV γ l ck_X2_isInvited g 42 [(0, .ref x0), (1, .int x1), (2, .int x2)] [.int z13] g14 (j z13 g14)) (fun z13 g14 => ?_) (fun j15 h_j15 => ?_)
    · skip
      refine r_istore (pc := 42) dX2_isInvited_42 (Nat.le_of_ble_eq_true rfl) rfl ?_
      refine r_aload_n (pc := 44) dX2_isInvited_44 rfl 1 rfl ?_
      refine r_iload_n (pc := 45) dX2_isInvited_45 rfl 2 rfl ?_
      refine r_iload_n (pc := 46) dX2_isInvited_46 rfl 3 rfl ?_
      refine r_iload (pc := 47) dX2_isInvited_47 0 rfl ?_
      refine AW_jn (P := fun (j : Nat → Int32 → Int32 → Nat → AH → Option (AH)) => ∀ (z16 : Nat) (z17 : Int32) (z18 : Int32) (z19 : Nat) (g20 : AH), AW ρV γ l ck_X2_isInvited g 61 [(0, .ref x0), (1, .int x1), (2, .int x2), (4, .int z13)] [.ref z16, .int z17, .int z18, .ref z19] g20 (j z16 z17 z18 z19 g20)) (fun z16 z17 z18 z19 g20 => ?_) (fun j21 h_j21 => ?_)
      · skip
        refine r_iload (pc := 61) dX2_isInvited_61 3 rfl ?_
        refine AW_jn (P := fun (j : Int32 → Nat → Int32 → Int32 → Nat → AH → Option (AH)) => ∀ (z22 : Int32) (z23 : Nat) (z24 : Int32) (z25 : Int32) (z26 : Nat) (g27 : AH), AW ρV γ l ck_X2_isInvited g 71 [(0, .ref x0), (1, .int x1), (2, .int x2), (4, .int z13)] [.int z22, .ref z23, .int z24, .int z25, .ref z26] g27 (j z22 z23 z24 z25 z26 g27)) (fun z22 z23 z24 z25 z26 g27 => ?_) (fun j28 h_j28 => ?_)
        · skip
          refine r_cV (pc := 71) (rest := []) (RunOK_chk (fun h => run_V (n := 4) (c9 := 2) (As := [.int z25, .int z24, .ref z23, .int z22]) (rest := []) (t_X2_becomes γ l hl z26 z25 z24 z23 z22 g27) dX2_isInvited_71 q2536 q2538 qs31 q109 q2539 (by decide +kernel) rfl h ⟨rfl, by decide, by decide⟩ (Nat.le_of_ble_eq_true rfl) (Nat.le_of_ble_eq_true rfl) rfl (Nat.le_of_ble_eq_true rfl))) (fun g29 => ?_)
          refine r_aload_n (pc := 74) dX2_isInvited_74 rfl 0 rfl ?_
          refine r_getR (f := 11) (pc := 75) dX2_isInvited_75 q268 (Or.inl rfl) rfl (fun v30 => ?_)
          refine r_new (c := 32) (pc := 78) dX2_isInvited_78 q2651 (by decide) (by decide) (fun q31 g32 => ?_)
          refine r_dup (pc := 81) dX2_isInvited_81 rfl ?_
          refine r_iload_n (pc := 82) dX2_isInvited_82 rfl 1 rfl ?_
          refine r_iload_n (pc := 83) dX2_isInvited_83 rfl 2 rfl ?_
          refine r_aload_n (pc := 84) dX2_isInvited_84 rfl 0 rfl ?_
          refine r_iload_n (pc := 85) dX2_isInvited_85 rfl 1 rfl ?_
          refine r_cI (pc := 86) (rest := [.int x2, .int x1, .ref q31, .ref q31, .ref v30]) (RunOK_chk (fun h => run_V (n := 1) (c9 := 2) (As := [.int x1]) (rest := [.int x2, .int x1, .ref q31, .ref q31, .ref v30]) (t_X2_arrival γ l hl x0 x1 g32) dX2_isInvited_86 q2408 q2410 qs23 q109 q2411 (by decide +kernel) rfl h ⟨rfl, by decide, by decide⟩ (Nat.le_of_ble_eq_true rfl) (Nat.le_of_ble_eq_true rfl) rfl (Nat.le_of_ble_eq_true rfl))) (fun v34 g33 => ?_)
          refine r_iload (pc := 89) dX2_isInvited_89 3 rfl ?_
          refine r_cV (pc := 91) (rest := [.ref q31, .ref v30]) (RunOK_chk (fun h => run_IN (n := 4) (As := [.int x1, .int x2, .int v34, .int z13]) (rest := [.ref q31, .ref v30]) (t_X16_init γ l hl q31 x1 x2 v34 z13 g33) dX2_isInvited_91 mv2715 q2716 q172 q2717 rfl (by decide +kernel) rfl h (Nat.le_of_ble_eq_true rfl) (Nat.le_of_ble_eq_true rfl) rfl (Nat.le_of_ble_eq_true rfl))) (fun g35 => ?_)
          refine r_cI (pc := 94) (rest := []) (RunOK_chk (fun h => run_V (n := 1) (c9 := 5) (As := [.ref q31]) (rest := []) (t_J4_add γ l hl v30 q31 g35) dX2_isInvited_94 q2430 q1398 q3900 q116 q1400 (by decide +kernel) rfl h ⟨rfl, by decide, by decide⟩ (Nat.le_of_ble_eq_true rfl) (Nat.le_of_ble_eq_true rfl) rfl (Nat.le_of_ble_eq_true rfl))) (fun v37 g36 => ?_)
          refine r_pop (pc := 97) dX2_isInvited_97 rfl ?_
          exact r_vret (pc := 98) dX2_isInvited_98 rfl
        · skip
          refine r_if_eq (tgt := 70) (pc := 63) dX2_isInvited_63 (by decide) ?_ ?_
          · skip
            refine r_iconst (v := (4 : Int32)) (pc := 70) dX2_isInvited_70 (by decide) ?_
            exact h_j28 (4 : Int32) z16 z17 z18 z19 g20
          · skip
            refine r_iconst (v := (3 : Int32)) (pc := 66) dX2_isInvited_66 (by decide) ?_
            refine r_goto (tgt := 71) (pc := 67) dX2_isInvited_67 (by decide) ?_
            exact h_j28 (3 : Int32) z16 z17 z18 z19 g20
      · skip
        refine r_if_eq (tgt := 58) (pc := 49) dX2_isInvited_49 (by decide) ?_ ?_
        · skip
          refine r_gets (i := 7) (pc := 58) dX2_isInvited_58 q2713 (List.mem_of_getElem? (i := 7) rfl) rfl ?_
          refine AW_sub [1, 2, 3, 0] rfl ?_
          exact h_j21 (γ.1 7) x2 x1 x0 g14
        · skip
          refine r_gets (i := 11) (pc := 52) dX2_isInvited_52 q2712 (List.mem_of_getElem? (i := 11) rfl) rfl ?_
          refine r_goto (tgt := 61) (pc := 55) dX2_isInvited_55 (by decide) ?_
          refine AW_sub [1, 2, 3, 0] rfl ?_
          exact h_j21 (γ.1 11) x2 x1 x0 g14
    · skip
      refine r_icmp_lt (tgt := 41) (pc := 34) dX2_isInvited_34 (by decide) ?_ ?_
      · skip
        refine r_iconst (v := (0 : Int32)) (pc := 41) dX2_isInvited_41 (by decide) ?_
        refine AW_sub [1, 2, 3] rfl ?_
        exact h_j15 (0 : Int32) g11
      · skip
        refine r_iconst (v := (1 : Int32)) (pc := 37) dX2_isInvited_37 (by decide) ?_
        refine r_goto (tgt := 42) (pc := 38) dX2_isInvited_38 (by decide) ?_
        refine AW_sub [1, 2, 3] rfl ?_
        exact h_j15 (1 : Int32) g11
  · skip
    exact r_vret (pc := 20) dX2_isInvited_20 rfl
abbrev ck_X2_arrives : CK := ("BanquetVotes$Kitchen", prog_14_method_36_code, 5, none, "arrives", [], 11)
def f_X2_arrives (γ : GP) (x0 : Nat) (x1 : Nat) (g : AH) : Option (AH) := bI (f_X1_goesToHost γ x1 g) fun v2 g1 => jn (fun (z3 : Int32) (z4 : Nat) (g5 : AH) => bR ((if hK g5 z4 = 2 then f_X2_who γ z4 z3 g5 else none)) fun v8 g7 => bI ((if hK g7 v8 = 16 then f_X3_hasFainted γ v8 g7 else if hK g7 v8 = 4 then f_X3_hasFainted γ v8 g7 else none)) fun v10 g9 => (if v10 = 0 then gInst g9 [32] [29, 30, 31] x1 fun v11 => (if v11 = 0 then gInst g9 [31] [29, 32, 30] x1 fun v12 => (if v12 = 0 then gInst g9 [30] [29, 32, 31] x1 fun v13 => (if v13 = 0 then bI ((if hK g9 x1 = 29 then f_X13_cook γ x1 g9 else if hK g9 x1 = 31 then f_X15_cook γ x1 g9 else if hK g9 x1 = 30 then f_X14_cook γ x1 g9 else if hK g9 x1 = 32 then f_X16_cook γ x1 g9 else none)) fun v15 g14 => bI ((if hK g14 x1 = 29 then f_X13_course γ x1 g14 else if hK g14 x1 = 31 then f_X15_course γ x1 g14 else if hK g14 x1 = 30 then f_X14_course γ x1 g14 else if hK g14 x1 = 32 then f_X16_course γ x1 g14 else none)) fun v17 g16 => bV ((if hK g16 x0 = 2 then f_X2_isInvited γ x0 v15 v17 g16 else none)) fun g18 => (some g18) else gC g9 [30] x1 (bI ((if hK g9 x1 = 30 then f_X14_cook γ x1 g9 else none)) fun v20 g19 => bI ((if hK g19 x1 = 30 then f_X14_course γ x1 g19 else none)) fun v22 g21 => bI ((if hK g21 x1 = 30 then f_X14_isServing γ x1 g21 else none)) fun v24 g23 => bV ((if hK g23 x0 = 2 then f_X2_hears γ x0 v20 v22 v24 g23 else none)) fun g25 => (some g25))) else gC g9 [31] x1 (bV ((if hK g9 x0 = 2 then f_X2_answers γ x0 x1 g9 else none)) fun g26 => (some g26))) else gC g9 [32] x1 (bV ((if hK g9 x0 = 2 then f_X2_counts γ x0 x1 g9 else none)) fun g27 => (some g27))) else gI g9 x0 13 fun v28 => pI γ g9 x0 13 (v28 + (1 : Int32)) fun g29 => (some g29))) (fun (j6 : Int32 → Nat → AH → Option (AH)) => (if v2 = 0 then bI ((if hK g1 x1 = 29 then f_X13_cook γ x1 g1 else if hK g1 x1 = 31 then f_X15_cook γ x1 g1 else if hK g1 x1 = 30 then f_X14_cook γ x1 g1 else if hK g1 x1 = 32 then f_X16_cook γ x1 g1 else none)) fun v31 g30 => j6 v31 x0 g30 else j6 (-1 : Int32) x0 g1))
theorem t_X2_arrives (γ : GP) (l : Launch) (hl : l.stackTraces = false) (x0 : Nat) (x1 : Nat) (g : AH) : TrM ρV γ l ⟨"BanquetVotes$Kitchen", "arrives", "(LBanquetVotes$Message;)V"⟩ (ws_ ⟨"BanquetVotes$Kitchen", "arrives", "(LBanquetVotes$Message;)V"⟩ prog_14_method_36_code 5 none) 11 [.ref x0, .ref x1] g (f_X2_arrives γ x0 x1 g) := by
  refine TrM_of (plainFor_of_name (by decide)) (Nat.le_of_ble_eq_true rfl) ?_
  unfold f_X2_arrives
  change AW ρV γ l ck_X2_arrives g 0 [(0, .ref x0), (1, .ref x1)] [] g _
  refine r_aload_n (pc := 0) dX2_arrives_0 rfl 0 rfl ?_
  refine r_aload_n (pc := 1) dX2_arrives_1 rfl 1 rfl ?_
  refine r_cI (pc := 2) (rest := [.ref x0]) (run_SN (n := 1) (As := [.ref x1]) (rest := [.ref x0]) (t_X1_goesToHost γ l hl x1 g) dX2_arrives_2 mv2622 q2623 q108 q2624 (by decide +kernel) rfl (Nat.le_of_ble_eq_true rfl) (Nat.le_of_ble_eq_true rfl) rfl (Nat.le_of_ble_eq_true rfl)) (fun v2 g1 => ?_)
  refine AW_jn (P := fun (j : Int32 → Nat → AH → Option (AH)) => ∀ (z3 : Int32) (z4 : Nat) (g5 : AH), AW ρV γ l ck_X2_arrives g 18 [(0, .ref x0), (1, .ref x1)] [.int z3, .ref z4] g5 (j z3 z4 g5)) (fun z3 z4 g5 => ?_) (fun j6 h_j6 => ?_)
  · skip
    refine r_cR (pc := 18) (rest := []) (RunOK_chk (fun h => run_V (n := 1) (c9 := 2) (As := [.int z3]) (rest := []) (t_X2_who γ l hl z4 z3 g5) dX2_arrives_18 q2474 q2475 q2476 q109 q2477 (by decide +kernel) rfl h ⟨rfl, by decide, by decide⟩ (Nat.le_of_ble_eq_true rfl) (Nat.le_of_ble_eq_true rfl) rfl (Nat.le_of_ble_eq_true rfl))) (fun v8 g7 => ?_)
    refine r_cI (pc := 21) (rest := []) (RunOK_if (fun h => run_U (n := 0) (c9 := 16) (As := []) (rest := []) (owner := "BanquetVotes$Somebody") (t_X3_hasFainted γ l hl v8 g7) dX2_arrives_21 q2478 q3901 q3902 q2058 q113 q2059 rfl ⟨by decide, by decide, by decide +kernel⟩ rfl h ⟨by decide, by decide⟩ (Nat.le_of_ble_eq_true rfl) (Nat.le_of_ble_eq_true rfl) rfl (Nat.le_of_ble_eq_true rfl)) (RunOK_chk (fun h => run_U (n := 0) (c9 := 4) (As := []) (rest := []) (owner := "BanquetVotes$Somebody") (t_X3_hasFainted γ l hl v8 g7) dX2_arrives_21 q2478 q3901 q3903 q2058 q113 q2059 rfl ⟨by decide, by decide, by decide +kernel⟩ rfl h ⟨by decide, by decide⟩ (Nat.le_of_ble_eq_true rfl) (Nat.le_of_ble_eq_true rfl) rfl (Nat.le_of_ble_eq_true rfl)))) (fun v10 g9 => ?_)
    refine r_if_eq (tgt := 38) (pc := 24) dX2_arrives_24 (by decide) ?_ ?_
    · skip
      refine r_aload_n (pc := 38) dX2_arrives_38 rfl 1 rfl ?_
      refine r_inst (L1 := [32]) (L0 := [29, 30, 31]) (pc := 39) dX2_arrives_39 q2651 (List.forall_mem_cons.mpr ⟨⟨by decide, by decide, Or.inl rfl⟩, (fun _ h => absurd h List.not_mem_nil)⟩) (List.forall_mem_cons.mpr ⟨⟨by decide, by decide, by decide +kernel⟩, List.forall_mem_cons.mpr ⟨⟨by decide, by decide, by decide +kernel⟩, List.forall_mem_cons.mpr ⟨⟨by decide, by decide, by decide +kernel⟩, (fun _ h => absurd h List.not_mem_nil)⟩⟩⟩) (fun v11 => ?_)
      refine r_if_eq (tgt := 58) (pc := 42) dX2_arrives_42 (by decide) ?_ ?_
      · skip
        refine r_aload_n (pc := 58) dX2_arrives_58 rfl 1 rfl ?_
        refine r_inst (L1 := [31]) (L0 := [29, 32, 30]) (pc := 59) dX2_arrives_59 q2506 (List.forall_mem_cons.mpr ⟨⟨by decide, by decide, Or.inl rfl⟩, (fun _ h => absurd h List.not_mem_nil)⟩) (List.forall_mem_cons.mpr ⟨⟨by decide, by decide, by decide +kernel⟩, List.forall_mem_cons.mpr ⟨⟨by decide, by decide, by decide +kernel⟩, List.forall_mem_cons.mpr ⟨⟨by decide, by decide, by decide +kernel⟩, (fun _ h => absurd h List.not_mem_nil)⟩⟩⟩) (fun v12 => ?_)
        refine r_if_eq (tgt := 78) (pc := 62) dX2_arrives_62 (by decide) ?_ ?_
        · skip
          refine r_aload_n (pc := 78) dX2_arrives_78 rfl 1 rfl ?_
          refine r_inst (L1 := [30]) (L0 := [29, 32, 31]) (pc := 79) dX2_arrives_79 q2451 (List.forall_mem_cons.mpr ⟨⟨by decide, by decide, Or.inl rfl⟩, (fun _ h => absurd h List.not_mem_nil)⟩) (List.forall_mem_cons.mpr ⟨⟨by decide, by decide, by decide +kernel⟩, List.forall_mem_cons.mpr ⟨⟨by decide, by decide, by decide +kernel⟩, List.forall_mem_cons.mpr ⟨⟨by decide, by decide, by decide +kernel⟩, (fun _ h => absurd h List.not_mem_nil)⟩⟩⟩) (fun v13 => ?_)
          refine r_if_eq (tgt := 113) (pc := 82) dX2_arrives_82 (by decide) ?_ ?_
          · skip
            refine r_aload_n (pc := 113) dX2_arrives_113 rfl 0 rfl ?_
            refine r_aload_n (pc := 114) dX2_arrives_114 rfl 1 rfl ?_
            refine r_cI (pc := 115) (rest := [.ref x0]) (RunOK_if (fun h => run_F (n := 0) (c9 := 29) (As := []) (rest := [.ref x0]) (t_X13_cook γ l hl x1 g9) dX2_arrives_115 q2628 q2631 q2633 q169 q2635 (by decide +kernel) (by decide +kernel) rfl h ⟨by decide, by decide⟩ (Nat.le_of_ble_eq_true rfl) (Nat.le_of_ble_eq_true rfl) rfl (Nat.le_of_ble_eq_true rfl)) (RunOK_if (fun h => run_F (n := 0) (c9 := 31) (As := []) (rest := [.ref x0]) (t_X15_cook γ l hl x1 g9) dX2_arrives_115 q2628 q2636 q2638 q171 q2640 (by decide +kernel) (by decide +kernel) rfl h ⟨by decide, by decide⟩ (Nat.le_of_ble_eq_true rfl) (Nat.le_of_ble_eq_true rfl) rfl (Nat.le_of_ble_eq_true rfl)) (RunOK_if (fun h => run_F (n := 0) (c9 := 30) (As := []) (rest := [.ref x0]) (t_X14_cook γ l hl x1 g9) dX2_arrives_115 q2628 q2641 q2643 q170 q2645 (by decide +kernel) (by decide +kernel) rfl h ⟨by decide, by decide⟩ (Nat.le_of_ble_eq_true rfl) (Nat.le_of_ble_eq_true rfl) rfl (Nat.le_of_ble_eq_true rfl)) (RunOK_chk (fun h => run_F (n := 0) (c9 := 32) (As := []) (rest := [.ref x0]) (t_X16_cook γ l hl x1 g9) dX2_arrives_115 q2628 q2646 q2648 q172 q2650 (by decide +kernel) (by decide +kernel) rfl h ⟨by decide, by decide⟩ (Nat.le_of_ble_eq_true rfl) (Nat.le_of_ble_eq_true rfl) rfl (Nat.le_of_ble_eq_true rfl)))))) (fun v15 g14 => ?_)
            refine r_aload_n (pc := 120) dX2_arrives_120 rfl 1 rfl ?_
            refine r_cI (pc := 121) (rest := [.int v15, .ref x0]) (RunOK_if (fun h => run_F (n := 0) (c9 := 29) (As := []) (rest := [.int v15, .ref x0]) (t_X13_course γ l hl x1 g14) dX2_arrives_121 q2689 q2692 q2694 q169 q2696 (by decide +kernel) (by decide +kernel) rfl h ⟨by decide, by decide⟩ (Nat.le_of_ble_eq_true rfl) (Nat.le_of_ble_eq_true rfl) rfl (Nat.le_of_ble_eq_true rfl)) (RunOK_if (fun h => run_F (n := 0) (c9 := 31) (As := []) (rest := [.int v15, .ref x0]) (t_X15_course γ l hl x1 g14) dX2_arrives_121 q2689 q2697 q2675 q171 q2677 (by decide +kernel) (by decide +kernel) rfl h ⟨by decide, by decide⟩ (Nat.le_of_ble_eq_true rfl) (Nat.le_of_ble_eq_true rfl) rfl (Nat.le_of_ble_eq_true rfl)) (RunOK_if (fun h => run_F (n := 0) (c9 := 30) (As := []) (rest := [.int v15, .ref x0]) (t_X14_course γ l hl x1 g14) dX2_arrives_121 q2689 q2700 q2681 q170 q2683 (by decide +kernel) (by decide +kernel) rfl h ⟨by decide, by decide⟩ (Nat.le_of_ble_eq_true rfl) (Nat.le_of_ble_eq_true rfl) rfl (Nat.le_of_ble_eq_true rfl)) (RunOK_chk (fun h => run_F (n := 0) (c9 := 32) (As := []) (rest := [.int v15, .ref x0]) (t_X16_course γ l hl x1 g14) dX2_arrives_121 q2689 q2703 q2657 q172 q2659 (by decide +kernel) (by decide +kernel) rfl h ⟨by decide, by decide⟩ (Nat.le_of_ble_eq_true rfl) (Nat.le_of_ble_eq_true rfl) rfl (Nat.le_of_ble_eq_true rfl)))))) (fun v17 g16 => ?_)
            refine r_cV (pc := 126) (rest := []) (RunOK_chk (fun h => run_V (n := 2) (c9 := 2) (As := [.int v15, .int v17]) (rest := []) (t_X2_isInvited γ l hl x0 v15 v17 g16) dX2_arrives_126 q2706 q2708 qs36 q109 q2709 (by decide +kernel) rfl h ⟨rfl, by decide, by decide⟩ (Nat.le_of_ble_eq_true rfl) (Nat.le_of_ble_eq_true rfl) rfl (Nat.le_of_ble_eq_true rfl))) (fun g18 => ?_)
            exact r_vret (pc := 129) dX2_arrives_129 rfl
          · skip
            refine r_aload_n (pc := 85) dX2_arrives_85 rfl 1 rfl ?_
            refine r_cast_ (L := [30]) (pc := 86) dX2_arrives_86 q2451 (List.forall_mem_cons.mpr ⟨⟨by decide, by decide, Or.inl rfl⟩, (fun _ h => absurd h List.not_mem_nil)⟩) ?_
            refine r_astore (pc := 89) dX2_arrives_89 (Nat.le_of_ble_eq_true rfl) rfl ?_
            refine r_aload_n (pc := 91) dX2_arrives_91 rfl 1 rfl ?_
            refine r_aload (pc := 92) dX2_arrives_92 0 rfl ?_
            refine r_cI (pc := 94) (rest := [.ref x0]) (RunOK_chk (fun h => run_V (n := 0) (c9 := 30) (As := []) (rest := [.ref x0]) (t_X14_cook γ l hl x1 g9) dX2_arrives_94 q2679 q2643 q3906 q170 q2645 (by decide +kernel) rfl h ⟨rfl, by decide, by decide⟩ (Nat.le_of_ble_eq_true rfl) (Nat.le_of_ble_eq_true rfl) rfl (Nat.le_of_ble_eq_true rfl))) (fun v20 g19 => ?_)
            refine r_aload (pc := 97) dX2_arrives_97 0 rfl ?_
            refine r_cI (pc := 99) (rest := [.int v20, .ref x0]) (RunOK_chk (fun h => run_V (n := 0) (c9 := 30) (As := []) (rest := [.int v20, .ref x0]) (t_X14_course γ l hl x1 g19) dX2_arrives_99 q2680 q2681 q2682 q170 q2683 (by decide +kernel) rfl h ⟨rfl, by decide, by decide⟩ (Nat.le_of_ble_eq_true rfl) (Nat.le_of_ble_eq_true rfl) rfl (Nat.le_of_ble_eq_true rfl))) (fun v22 g21 => ?_)
            refine r_aload (pc := 102) dX2_arrives_102 0 rfl ?_
            refine r_cI (pc := 104) (rest := [.int v22, .int v20, .ref x0]) (RunOK_chk (fun h => run_V (n := 0) (c9 := 30) (As := []) (rest := [.int v22, .int v20, .ref x0]) (t_X14_isServing γ l hl x1 g21) dX2_arrives_104 q2684 q2685 q2686 q170 q2687 (by decide +kernel) rfl h ⟨rfl, by decide, by decide⟩ (Nat.le_of_ble_eq_true rfl) (Nat.le_of_ble_eq_true rfl) rfl (Nat.le_of_ble_eq_true rfl))) (fun v24 g23 => ?_)
            refine r_cV (pc := 107) (rest := []) (RunOK_chk (fun h => run_V (n := 3) (c9 := 2) (As := [.int v20, .int v22, .int v24]) (rest := []) (t_X2_hears γ l hl x0 v20 v22 v24 g23) dX2_arrives_107 q2532 q2534 qs30 q109 q2535 (by decide +kernel) rfl h ⟨rfl, by decide, by decide⟩ (Nat.le_of_ble_eq_true rfl) (Nat.le_of_ble_eq_true rfl) rfl (Nat.le_of_ble_eq_true rfl))) (fun g25 => ?_)
            refine r_goto (tgt := 129) (pc := 110) dX2_arrives_110 (by decide) ?_
            exact r_vret (pc := 129) dX2_arrives_129 rfl
        · skip
          refine r_aload_n (pc := 65) dX2_arrives_65 rfl 1 rfl ?_
          refine r_cast_ (L := [31]) (pc := 66) dX2_arrives_66 q2506 (List.forall_mem_cons.mpr ⟨⟨by decide, by decide, Or.inl rfl⟩, (fun _ h => absurd h List.not_mem_nil)⟩) ?_
          refine r_astore_n (pc := 69) dX2_arrives_69 rfl (Nat.le_of_ble_eq_true rfl) rfl ?_
          refine r_aload_n (pc := 70) dX2_arrives_70 rfl 1 rfl ?_
          refine r_aload_n (pc := 71) dX2_arrives_71 rfl 0 rfl ?_
          refine r_cV (pc := 72) (rest := []) (RunOK_chk (fun h => run_V (n := 1) (c9 := 2) (As := [.ref x1]) (rest := []) (t_X2_answers γ l hl x0 x1 g9) dX2_arrives_72 q2670 q2672 qs35 q109 q2673 (by decide +kernel) rfl h ⟨rfl, by decide, by decide⟩ (Nat.le_of_ble_eq_true rfl) (Nat.le_of_ble_eq_true rfl) rfl (Nat.le_of_ble_eq_true rfl))) (fun g26 => ?_)
          refine r_goto (tgt := 129) (pc := 75) dX2_arrives_75 (by decide) ?_
          exact r_vret (pc := 129) dX2_arrives_129 rfl
      · skip
        refine r_aload_n (pc := 45) dX2_arrives_45 rfl 1 rfl ?_
        refine r_cast_ (L := [32]) (pc := 46) dX2_arrives_46 q2651 (List.forall_mem_cons.mpr ⟨⟨by decide, by decide, Or.inl rfl⟩, (fun _ h => absurd h List.not_mem_nil)⟩) ?_
        refine r_astore_n (pc := 49) dX2_arrives_49 rfl (Nat.le_of_ble_eq_true rfl) rfl ?_
        refine r_aload_n (pc := 50) dX2_arrives_50 rfl 1 rfl ?_
        refine r_aload_n (pc := 51) dX2_arrives_51 rfl 0 rfl ?_
        refine r_cV (pc := 52) (rest := []) (RunOK_chk (fun h => run_V (n := 1) (c9 := 2) (As := [.ref x1]) (rest := []) (t_X2_counts γ l hl x0 x1 g9) dX2_arrives_52 q2652 q2654 qs34 q109 q2655 (by decide +kernel) rfl h ⟨rfl, by decide, by decide⟩ (Nat.le_of_ble_eq_true rfl) (Nat.le_of_ble_eq_true rfl) rfl (Nat.le_of_ble_eq_true rfl))) (fun g27 => ?_)
        refine r_goto (tgt := 129) (pc := 55) dX2_arrives_55 (by decide) ?_
        exact r_vret (pc := 129) dX2_arrives_129 rfl
    · skip
      refine r_aload_n (pc := 27) dX2_arrives_27 rfl 0 rfl ?_
      refine r_dup (pc := 28) dX2_arrives_28 rfl ?_
      refine r_getI (f := 13) (pc := 29) dX2_arrives_29 q270 (Or.inl rfl) rfl (fun v28 => ?_)
      refine r_iconst (v := (1 : Int32)) (pc := 32) dX2_arrives_32 (by decide) ?_
      refine r_iadd (pc := 33) dX2_arrives_33 ?_
      refine r_putI (f := 13) (pc := 34) dX2_arrives_34 q270 (Or.inl rfl) (Or.inl rfl) rfl (fun g29 => ?_)
      exact r_vret (pc := 37) dX2_arrives_37 rfl
  · skip
    refine r_if_eq (tgt := 12) (pc := 5) dX2_arrives_5 (by decide) ?_ ?_
    · skip
      refine r_aload_n (pc := 12) dX2_arrives_12 rfl 1 rfl ?_
      refine r_cI (pc := 13) (rest := [.ref x0]) (RunOK_if (fun h => run_F (n := 0) (c9 := 29) (As := []) (rest := [.ref x0]) (t_X13_cook γ l hl x1 g1) dX2_arrives_13 q2628 q2631 q2633 q169 q2635 (by decide +kernel) (by decide +kernel) rfl h ⟨by decide, by decide⟩ (Nat.le_of_ble_eq_true rfl) (Nat.le_of_ble_eq_true rfl) rfl (Nat.le_of_ble_eq_true rfl)) (RunOK_if (fun h => run_F (n := 0) (c9 := 31) (As := []) (rest := [.ref x0]) (t_X15_cook γ l hl x1 g1) dX2_arrives_13 q2628 q2636 q2638 q171 q2640 (by decide +kernel) (by decide +kernel) rfl h ⟨by decide, by decide⟩ (Nat.le_of_ble_eq_true rfl) (Nat.le_of_ble_eq_true rfl) rfl (Nat.le_of_ble_eq_true rfl)) (RunOK_if (fun h => run_F (n := 0) (c9 := 30) (As := []) (rest := [.ref x0]) (t_X14_cook γ l hl x1 g1) dX2_arrives_13 q2628 q2641 q2643 q170 q2645 (by decide +kernel) (by decide +kernel) rfl h ⟨by decide, by decide⟩ (Nat.le_of_ble_eq_true rfl) (Nat.le_of_ble_eq_true rfl) rfl (Nat.le_of_ble_eq_true rfl)) (RunOK_chk (fun h => run_F (n := 0) (c9 := 32) (As := []) (rest := [.ref x0]) (t_X16_cook γ l hl x1 g1) dX2_arrives_13 q2628 q2646 q2648 q172 q2650 (by decide +kernel) (by decide +kernel) rfl h ⟨by decide, by decide⟩ (Nat.le_of_ble_eq_true rfl) (Nat.le_of_ble_eq_true rfl) rfl (Nat.le_of_ble_eq_true rfl)))))) (fun v31 g30 => ?_)
      exact h_j6 v31 x0 g30
    · skip
      refine r_iconst (v := (-1 : Int32)) (pc := 8) dX2_arrives_8 (by decide) ?_
      refine r_goto (tgt := 18) (pc := 9) dX2_arrives_9 (by decide) ?_
      exact h_j6 (-1 : Int32) x0 g1
abbrev ck_X2_allArrive : CK := ("BanquetVotes$Kitchen", prog_14_method_37_code, 5, none, "allArrive", [], 12)
def f_X2_allArrive_L24 (γ : GP) (x0 : Nat) (x1 : Nat) (x2 : Nat) (x3 : Nat) (K82 : AH → Option (AH)) : Nat → AH → Option (AH)
  | 0, _ => none
  | n + 1, g => bI ((if hK g x3 = 10 then f_J13_hasNext γ x3 g else if hK g x3 = 13 then f_J24_hasNext γ x3 g else if hK g x3 = 17 then f_J29_hasNext γ x3 g else if hK g x3 = 18 then f_J29_hasNext γ x3 g else none)) fun v11 g10 => (if v11 = 0 then K82 g10 else bR ((if hK g10 x3 = 10 then f_J13_next γ x3 g10 else if hK g10 x3 = 13 then f_J24_next γ x3 g10 else if hK g10 x3 = 17 then f_J31_next γ x3 g10 else if hK g10 x3 = 18 then f_J32_next γ x3 g10 else none)) fun v13 g12 => gC g12 [29, 30, 31, 32] v13 (bI ((if hK g12 v13 = 29 then f_X13_arrives γ v13 g12 else if hK g12 v13 = 31 then f_X15_arrives γ v13 g12 else if hK g12 v13 = 30 then f_X14_arrives γ v13 g12 else if hK g12 v13 = 32 then f_X16_arrives γ v13 g12 else none)) fun v15 g14 => gI g14 x0 12 fun v16 => (if v15 = v16 then bI ((if hK g14 x1 = 3 then f_J2_add γ x1 v13 g14 else none)) fun v18 g17 => f_X2_allArrive_L24 γ x0 x1 x2 x3 K82 n g17 else bI ((if hK g14 x2 = 3 then f_J2_add γ x2 v13 g14 else none)) fun v20 g19 => f_X2_allArrive_L24 γ x0 x1 x2 x3 K82 n g19)))
def f_X2_allArrive_L105 (γ : GP) (x0 : Nat) (x3 : Nat) : Nat → AH → Option (AH)
  | 0, _ => none
  | n + 1, g => bI ((if hK g x3 = 10 then f_J13_hasNext γ x3 g else if hK g x3 = 13 then f_J24_hasNext γ x3 g else if hK g x3 = 17 then f_J29_hasNext γ x3 g else if hK g x3 = 18 then f_J29_hasNext γ x3 g else none)) fun v30 g29 => (if v30 = 0 then (some g29) else bR ((if hK g29 x3 = 10 then f_J13_next γ x3 g29 else if hK g29 x3 = 13 then f_J24_next γ x3 g29 else if hK g29 x3 = 17 then f_J31_next γ x3 g29 else if hK g29 x3 = 18 then f_J32_next γ x3 g29 else none)) fun v32 g31 => gC g31 [29, 30, 31, 32] v32 (bV ((if hK g31 x0 = 2 then f_X2_arrives γ x0 v32 g31 else none)) fun g33 => f_X2_allArrive_L105 γ x0 x3 n g33))
def f_X2_allArrive (γ : GP) (x0 : Nat) (g : AH) : Option (AH) := mO g 3 fun q1 g2 => bV ((if q1 ≠ 0 then f_J2_init γ q1 g2 else none)) fun g3 => mO g3 3 fun q4 g5 => bV ((if q4 ≠ 0 then f_J2_init γ q4 g5 else none)) fun g6 => gR g6 x0 11 fun v7 => bR ((if hK g6 v7 = 5 then f_J3_iterator γ v7 g6 else none)) fun v9 g8 => f_X2_allArrive_L24 γ x0 q1 q4 v9 (fun (g21 : AH) => gR g21 x0 11 fun v22 => bV ((if hK g21 v22 = 5 then f_J4_clear γ v22 g21 else none)) fun g23 => gR g23 x0 11 fun v24 => bI ((if hK g23 v24 = 5 then f_J4_addAll γ v24 q4 g23 else none)) fun v26 g25 => bR ((if hK g25 q1 = 3 then f_J2_iterator γ q1 g25 else none)) fun v28 g27 => f_X2_allArrive_L105 γ x0 v28 FU g27) FU g8
theorem f_X2_allArrive_L24_w (γ : GP) (l : Launch) (hl : l.stackTraces = false) (G0 : AH) (x0 : Nat) (x1 : Nat) (x2 : Nat) (x3 : Nat) (K82 : AH → Option (AH)) (h_K82 : ∀ (g : AH), AW ρV γ l ck_X2_allArrive G0 82 [(0, .ref x0), (1, .ref x1), (2, .ref x2)] [] g (K82 g)) : ∀ (n : Nat) (g : AH), AW ρV γ l ck_X2_allArrive G0 24 [(0, .ref x0), (1, .ref x1), (2, .ref x2), (3, .ref x3)] [] g (f_X2_allArrive_L24 γ x0 x1 x2 x3 K82 n g) := by
  intro n
  induction n with
  | zero => intro g; exact AW_none
  | succ n ih =>
    intro g
    unfold f_X2_allArrive_L24
    refine r_aload_n (pc := 24) dX2_allArrive_24 rfl 3 rfl ?_
    refine r_cI (pc := 25) (rest := []) (RunOK_if (fun h => run_F (n := 0) (c9 := 10) (As := []) (rest := []) (t_J13_hasNext γ l hl x3 g) dX2_allArrive_25 q781 q800 q802 q126 q804 (by decide +kernel) (by decide +kernel) rfl h ⟨by decide, by decide⟩ (Nat.le_of_ble_eq_true rfl) (Nat.le_of_ble_eq_true rfl) rfl (Nat.le_of_ble_eq_true rfl)) (RunOK_if (fun h => run_F (n := 0) (c9 := 13) (As := []) (rest := []) (t_J24_hasNext γ l hl x3 g) dX2_allArrive_25 q781 q809 q811 q139 q813 (by decide +kernel) (by decide +kernel) rfl h ⟨by decide, by decide⟩ (Nat.le_of_ble_eq_true rfl) (Nat.le_of_ble_eq_true rfl) rfl (Nat.le_of_ble_eq_true rfl)) (RunOK_if (fun h => run_F (n := 0) (c9 := 17) (As := []) (rest := []) (t_J29_hasNext γ l hl x3 g) dX2_allArrive_25 q781 q821 q817 q145 q819 (by decide +kernel) (by decide +kernel) rfl h ⟨by decide, by decide⟩ (Nat.le_of_ble_eq_true rfl) (Nat.le_of_ble_eq_true rfl) rfl (Nat.le_of_ble_eq_true rfl)) (RunOK_chk (fun h => run_F (n := 0) (c9 := 18) (As := []) (rest := []) (t_J29_hasNext γ l hl x3 g) dX2_allArrive_25 q781 q824 q817 q145 q819 (by decide +kernel) (by decide +kernel) rfl h ⟨by decide, by decide⟩ (Nat.le_of_ble_eq_true rfl) (Nat.le_of_ble_eq_true rfl) rfl (Nat.le_of_ble_eq_true rfl)))))) (fun v11 g10 => ?_)
    refine r_if_eq (tgt := 82) (pc := 30) dX2_allArrive_30 (by decide) ?_ ?_
    · skip
      refine AW_sub [0, 1, 2] rfl ?_
      exact h_K82 g10
    · skip
      refine r_aload_n (pc := 33) dX2_allArrive_33 rfl 3 rfl ?_
      refine r_cR (pc := 34) (rest := []) (RunOK_if (fun h => run_F (n := 0) (c9 := 10) (As := []) (rest := []) (t_J13_next γ l hl x3 g10) dX2_allArrive_34 q827 q991 q993 q126 q995 (by decide +kernel) (by decide +kernel) rfl h ⟨by decide, by decide⟩ (Nat.le_of_ble_eq_true rfl) (Nat.le_of_ble_eq_true rfl) rfl (Nat.le_of_ble_eq_true rfl)) (RunOK_if (fun h => run_F (n := 0) (c9 := 13) (As := []) (rest := []) (t_J24_next γ l hl x3 g10) dX2_allArrive_34 q827 q1015 q1017 q139 q1019 (by decide +kernel) (by decide +kernel) rfl h ⟨by decide, by decide⟩ (Nat.le_of_ble_eq_true rfl) (Nat.le_of_ble_eq_true rfl) rfl (Nat.le_of_ble_eq_true rfl)) (RunOK_if (fun h => run_F (n := 0) (c9 := 17) (As := []) (rest := []) (t_J31_next γ l hl x3 g10) dX2_allArrive_34 q827 q1047 q1049 q147 q1051 (by decide +kernel) (by decide +kernel) rfl h ⟨by decide, by decide⟩ (Nat.le_of_ble_eq_true rfl) (Nat.le_of_ble_eq_true rfl) rfl (Nat.le_of_ble_eq_true rfl)) (RunOK_chk (fun h => run_F (n := 0) (c9 := 18) (As := []) (rest := []) (t_J32_next γ l hl x3 g10) dX2_allArrive_34 q827 q1055 q1057 q148 q1059 (by decide +kernel) (by decide +kernel) rfl h ⟨by decide, by decide⟩ (Nat.le_of_ble_eq_true rfl) (Nat.le_of_ble_eq_true rfl) rfl (Nat.le_of_ble_eq_true rfl)))))) (fun v13 g12 => ?_)
      refine r_cast_ (L := [29, 30, 31, 32]) (pc := 39) dX2_allArrive_39 q2585 (List.forall_mem_cons.mpr ⟨⟨by decide, by decide, Or.inr mv2590⟩, List.forall_mem_cons.mpr ⟨⟨by decide, by decide, Or.inr mv2602⟩, List.forall_mem_cons.mpr ⟨⟨by decide, by decide, Or.inr mv2596⟩, List.forall_mem_cons.mpr ⟨⟨by decide, by decide, Or.inr mv2608⟩, (fun _ h => absurd h List.not_mem_nil)⟩⟩⟩⟩) ?_
      refine r_astore (pc := 42) dX2_allArrive_42 (Nat.le_of_ble_eq_true rfl) rfl ?_
      refine r_aload (pc := 44) dX2_allArrive_44 0 rfl ?_
      refine r_cI (pc := 46) (rest := []) (RunOK_if (fun h => run_F (n := 0) (c9 := 29) (As := []) (rest := []) (t_X13_arrives γ l hl v13 g12) dX2_allArrive_46 q2587 q2591 q2593 q169 q2595 (by decide +kernel) (by decide +kernel) rfl h ⟨by decide, by decide⟩ (Nat.le_of_ble_eq_true rfl) (Nat.le_of_ble_eq_true rfl) rfl (Nat.le_of_ble_eq_true rfl)) (RunOK_if (fun h => run_F (n := 0) (c9 := 31) (As := []) (rest := []) (t_X15_arrives γ l hl v13 g12) dX2_allArrive_46 q2587 q2597 q2599 q171 q2601 (by decide +kernel) (by decide +kernel) rfl h ⟨by decide, by decide⟩ (Nat.le_of_ble_eq_true rfl) (Nat.le_of_ble_eq_true rfl) rfl (Nat.le_of_ble_eq_true rfl)) (RunOK_if (fun h => run_F (n := 0) (c9 := 30) (As := []) (rest := []) (t_X14_arrives γ l hl v13 g12) dX2_allArrive_46 q2587 q2603 q2605 q170 q2607 (by decide +kernel) (by decide +kernel) rfl h ⟨by decide, by decide⟩ (Nat.le_of_ble_eq_true rfl) (Nat.le_of_ble_eq_true rfl) rfl (Nat.le_of_ble_eq_true rfl)) (RunOK_chk (fun h => run_F (n := 0) (c9 := 32) (As := []) (rest := []) (t_X16_arrives γ l hl v13 g12) dX2_allArrive_46 q2587 q2609 q2611 q172 q2613 (by decide +kernel) (by decide +kernel) rfl h ⟨by decide, by decide⟩ (Nat.le_of_ble_eq_true rfl) (Nat.le_of_ble_eq_true rfl) rfl (Nat.le_of_ble_eq_true rfl)))))) (fun v15 g14 => ?_)
      refine r_aload_n (pc := 51) dX2_allArrive_51 rfl 1 rfl ?_
      refine r_getI (f := 12) (pc := 52) dX2_allArrive_52 q269 (Or.inl rfl) rfl (fun v16 => ?_)
      refine r_icmp_ne (tgt := 70) (pc := 55) dX2_allArrive_55 (by decide) ?_ ?_
      · skip
        refine r_aload_n (pc := 58) dX2_allArrive_58 rfl 2 rfl ?_
        refine r_aload (pc := 59) dX2_allArrive_59 0 rfl ?_
        refine r_cI (pc := 61) (rest := []) (RunOK_chk (fun h => run_F (n := 1) (c9 := 3) (As := [.ref v13]) (rest := []) (t_J2_add γ l hl x1 v13 g14) dX2_allArrive_61 q1380 q1383 q1385 q112 q1387 (by decide +kernel) (by decide +kernel) rfl h ⟨by decide, by decide⟩ (Nat.le_of_ble_eq_true rfl) (Nat.le_of_ble_eq_true rfl) rfl (Nat.le_of_ble_eq_true rfl))) (fun v18 g17 => ?_)
        refine r_pop (pc := 66) dX2_allArrive_66 rfl ?_
        refine r_goto (tgt := 79) (pc := 67) dX2_allArrive_67 (by decide) ?_
        refine r_goto (tgt := 24) (pc := 79) dX2_allArrive_79 (by decide) ?_
        refine AW_sub [1, 2, 3, 4] rfl ?_
        exact ih g17
      · skip
        refine r_aload_n (pc := 70) dX2_allArrive_70 rfl 3 rfl ?_
        refine r_aload (pc := 71) dX2_allArrive_71 0 rfl ?_
        refine r_cI (pc := 73) (rest := []) (RunOK_chk (fun h => run_F (n := 1) (c9 := 3) (As := [.ref v13]) (rest := []) (t_J2_add γ l hl x2 v13 g14) dX2_allArrive_73 q1380 q1383 q1385 q112 q1387 (by decide +kernel) (by decide +kernel) rfl h ⟨by decide, by decide⟩ (Nat.le_of_ble_eq_true rfl) (Nat.le_of_ble_eq_true rfl) rfl (Nat.le_of_ble_eq_true rfl))) (fun v20 g19 => ?_)
        refine r_pop (pc := 78) dX2_allArrive_78 rfl ?_
        refine r_goto (tgt := 24) (pc := 79) dX2_allArrive_79 (by decide) ?_
        refine AW_sub [1, 2, 3, 4] rfl ?_
        exact ih g19
theorem f_X2_allArrive_L105_w (γ : GP) (l : Launch) (hl : l.stackTraces = false) (G0 : AH) (x0 : Nat) (x3 : Nat) : ∀ (n : Nat) (g : AH), AW ρV γ l ck_X2_allArrive G0 105 [(0, .ref x0), (3, .ref x3)] [] g (f_X2_allArrive_L105 γ x0 x3 n g) := by
  intro n
  induction n with
  | zero => intro g; exact AW_none
  | succ n ih =>
    intro g
    unfold f_X2_allArrive_L105
    refine r_aload_n (pc := 105) dX2_allArrive_105 rfl 1 rfl ?_
    refine r_cI (pc := 106) (rest := []) (RunOK_if (fun h => run_F (n := 0) (c9 := 10) (As := []) (rest := []) (t_J13_hasNext γ l hl x3 g) dX2_allArrive_106 q781 q800 q802 q126 q804 (by decide +kernel) (by decide +kernel) rfl h ⟨by decide, by decide⟩ (Nat.le_of_ble_eq_true rfl) (Nat.le_of_ble_eq_true rfl) rfl (Nat.le_of_ble_eq_true rfl)) (RunOK_if (fun h => run_F (n := 0) (c9 := 13) (As := []) (rest := []) (t_J24_hasNext γ l hl x3 g) dX2_allArrive_106 q781 q809 q811 q139 q813 (by decide +kernel) (by decide +kernel) rfl h ⟨by decide, by decide⟩ (Nat.le_of_ble_eq_true rfl) (Nat.le_of_ble_eq_true rfl) rfl (Nat.le_of_ble_eq_true rfl)) (RunOK_if (fun h => run_F (n := 0) (c9 := 17) (As := []) (rest := []) (t_J29_hasNext γ l hl x3 g) dX2_allArrive_106 q781 q821 q817 q145 q819 (by decide +kernel) (by decide +kernel) rfl h ⟨by decide, by decide⟩ (Nat.le_of_ble_eq_true rfl) (Nat.le_of_ble_eq_true rfl) rfl (Nat.le_of_ble_eq_true rfl)) (RunOK_chk (fun h => run_F (n := 0) (c9 := 18) (As := []) (rest := []) (t_J29_hasNext γ l hl x3 g) dX2_allArrive_106 q781 q824 q817 q145 q819 (by decide +kernel) (by decide +kernel) rfl h ⟨by decide, by decide⟩ (Nat.le_of_ble_eq_true rfl) (Nat.le_of_ble_eq_true rfl) rfl (Nat.le_of_ble_eq_true rfl)))))) (fun v30 g29 => ?_)
    refine r_if_eq (tgt := 134) (pc := 111) dX2_allArrive_111 (by decide) ?_ ?_
    · skip
      exact r_vret (pc := 134) dX2_allArrive_134 rfl
    · skip
      refine r_aload_n (pc := 114) dX2_allArrive_114 rfl 1 rfl ?_
      refine r_cR (pc := 115) (rest := []) (RunOK_if (fun h => run_F (n := 0) (c9 := 10) (As := []) (rest := []) (t_J13_next γ l hl x3 g29) dX2_allArrive_115 q827 q991 q993 q126 q995 (by decide +kernel) (by decide +kernel) rfl h ⟨by decide, by decide⟩ (Nat.le_of_ble_eq_true rfl) (Nat.le_of_ble_eq_true rfl) rfl (Nat.le_of_ble_eq_true rfl)) (RunOK_if (fun h => run_F (n := 0) (c9 := 13) (As := []) (rest := []) (t_J24_next γ l hl x3 g29) dX2_allArrive_115 q827 q1015 q1017 q139 q1019 (by decide +kernel) (by decide +kernel) rfl h ⟨by decide, by decide⟩ (Nat.le_of_ble_eq_true rfl) (Nat.le_of_ble_eq_true rfl) rfl (Nat.le_of_ble_eq_true rfl)) (RunOK_if (fun h => run_F (n := 0) (c9 := 17) (As := []) (rest := []) (t_J31_next γ l hl x3 g29) dX2_allArrive_115 q827 q1047 q1049 q147 q1051 (by decide +kernel) (by decide +kernel) rfl h ⟨by decide, by decide⟩ (Nat.le_of_ble_eq_true rfl) (Nat.le_of_ble_eq_true rfl) rfl (Nat.le_of_ble_eq_true rfl)) (RunOK_chk (fun h => run_F (n := 0) (c9 := 18) (As := []) (rest := []) (t_J32_next γ l hl x3 g29) dX2_allArrive_115 q827 q1055 q1057 q148 q1059 (by decide +kernel) (by decide +kernel) rfl h ⟨by decide, by decide⟩ (Nat.le_of_ble_eq_true rfl) (Nat.le_of_ble_eq_true rfl) rfl (Nat.le_of_ble_eq_true rfl)))))) (fun v32 g31 => ?_)
      refine r_cast_ (L := [29, 30, 31, 32]) (pc := 120) dX2_allArrive_120 q2585 (List.forall_mem_cons.mpr ⟨⟨by decide, by decide, Or.inr mv2590⟩, List.forall_mem_cons.mpr ⟨⟨by decide, by decide, Or.inr mv2602⟩, List.forall_mem_cons.mpr ⟨⟨by decide, by decide, Or.inr mv2596⟩, List.forall_mem_cons.mpr ⟨⟨by decide, by decide, Or.inr mv2608⟩, (fun _ h => absurd h List.not_mem_nil)⟩⟩⟩⟩) ?_
      refine r_astore (pc := 123) dX2_allArrive_123 (Nat.le_of_ble_eq_true rfl) rfl ?_
      refine r_aload_n (pc := 125) dX2_allArrive_125 rfl 1 rfl ?_
      refine r_aload (pc := 126) dX2_allArrive_126 0 rfl ?_
      refine r_cV (pc := 128) (rest := []) (RunOK_chk (fun h => run_V (n := 1) (c9 := 2) (As := [.ref v32]) (rest := []) (t_X2_arrives γ l hl x0 v32 g31) dX2_allArrive_128 q2618 q2620 qs33 q109 q2621 (by decide +kernel) rfl h ⟨rfl, by decide, by decide⟩ (Nat.le_of_ble_eq_true rfl) (Nat.le_of_ble_eq_true rfl) rfl (Nat.le_of_ble_eq_true rfl))) (fun g33 => ?_)
      refine r_goto (tgt := 105) (pc := 131) dX2_allArrive_131 (by decide) ?_
      refine AW_sub [1, 2] rfl ?_
      exact ih g33
theorem t_X2_allArrive (γ : GP) (l : Launch) (hl : l.stackTraces = false) (x0 : Nat) (g : AH) : TrM ρV γ l ⟨"BanquetVotes$Kitchen", "allArrive", "()V"⟩ (ws_ ⟨"BanquetVotes$Kitchen", "allArrive", "()V"⟩ prog_14_method_37_code 5 none) 12 [.ref x0] g (f_X2_allArrive γ x0 g) := by
  refine TrM_of (plainFor_of_name (by decide)) (Nat.le_of_ble_eq_true rfl) ?_
  unfold f_X2_allArrive
  change AW ρV γ l ck_X2_allArrive g 0 [(0, .ref x0)] [] g _
  refine r_new (c := 3) (pc := 0) dX2_allArrive_0 q193 (by decide) (by decide) (fun q1 g2 => ?_)
  refine r_dup (pc := 3) dX2_allArrive_3 rfl ?_
  refine r_cV (pc := 4) (rest := [.ref q1]) (RunOK_chk (fun h => run_I (n := 0) (As := []) (rest := [.ref q1]) (t_J2_init γ l hl q1 g2) dX2_allArrive_4 q195 q196 q112 q197 rfl (by decide +kernel) rfl h (Nat.le_of_ble_eq_true rfl) (Nat.le_of_ble_eq_true rfl) rfl (Nat.le_of_ble_eq_true rfl))) (fun g3 => ?_)
  refine r_astore_n (pc := 7) dX2_allArrive_7 rfl (Nat.le_of_ble_eq_true rfl) rfl ?_
  refine r_new (c := 3) (pc := 8) dX2_allArrive_8 q193 (by decide) (by decide) (fun q4 g5 => ?_)
  refine r_dup (pc := 11) dX2_allArrive_11 rfl ?_
  refine r_cV (pc := 12) (rest := [.ref q4]) (RunOK_chk (fun h => run_I (n := 0) (As := []) (rest := [.ref q4]) (t_J2_init γ l hl q4 g5) dX2_allArrive_12 q195 q196 q112 q197 rfl (by decide +kernel) rfl h (Nat.le_of_ble_eq_true rfl) (Nat.le_of_ble_eq_true rfl) rfl (Nat.le_of_ble_eq_true rfl))) (fun g6 => ?_)
  refine r_astore_n (pc := 15) dX2_allArrive_15 rfl (Nat.le_of_ble_eq_true rfl) rfl ?_
  refine r_aload_n (pc := 16) dX2_allArrive_16 rfl 2 rfl ?_
  refine r_getR (f := 11) (pc := 17) dX2_allArrive_17 q268 (Or.inl rfl) rfl (fun v7 => ?_)
  refine r_cR (pc := 20) (rest := []) (RunOK_chk (fun h => run_U (n := 0) (c9 := 5) (As := []) (rest := []) (owner := "java/util/AbstractSequentialList") (t_J3_iterator γ l hl v7 g6) dX2_allArrive_20 q2581 q2582 q2584 q387 q115 q389 rfl ⟨by decide, by decide, by decide +kernel⟩ rfl h ⟨by decide, by decide⟩ (Nat.le_of_ble_eq_true rfl) (Nat.le_of_ble_eq_true rfl) rfl (Nat.le_of_ble_eq_true rfl))) (fun v9 g8 => ?_)
  refine r_astore_n (pc := 23) dX2_allArrive_23 rfl (Nat.le_of_ble_eq_true rfl) rfl ?_
  refine AW_sub [3, 2, 1, 0] rfl ?_
  refine f_X2_allArrive_L24_w γ l hl _ x0 q1 q4 v9 _ ?_ FU g8
  · intro g21
    refine r_aload_n (pc := 82) dX2_allArrive_82 rfl 0 rfl ?_
    refine r_getR (f := 11) (pc := 83) dX2_allArrive_83 q268 (Or.inl rfl) rfl (fun v22 => ?_)
    refine r_cV (pc := 86) (rest := []) (RunOK_chk (fun h => run_V (n := 0) (c9 := 5) (As := []) (rest := []) (t_J4_clear γ l hl v22 g21) dX2_allArrive_86 q2614 q2615 q2616 q116 q2617 (by decide +kernel) rfl h ⟨rfl, by decide, by decide⟩ (Nat.le_of_ble_eq_true rfl) (Nat.le_of_ble_eq_true rfl) rfl (Nat.le_of_ble_eq_true rfl))) (fun g23 => ?_)
    refine r_aload_n (pc := 89) dX2_allArrive_89 rfl 0 rfl ?_
    refine r_getR (f := 11) (pc := 90) dX2_allArrive_90 q268 (Or.inl rfl) rfl (fun v24 => ?_)
    refine r_aload_n (pc := 93) dX2_allArrive_93 rfl 2 rfl ?_
    refine r_cI (pc := 94) (rest := []) (RunOK_chk (fun h => run_V (n := 1) (c9 := 5) (As := [.ref q4]) (rest := []) (t_J4_addAll γ l hl v24 q4 g23) dX2_allArrive_94 q1882 q1348 q3898 q116 q1350 (by decide +kernel) rfl h ⟨rfl, by decide, by decide⟩ (Nat.le_of_ble_eq_true rfl) (Nat.le_of_ble_eq_true rfl) rfl (Nat.le_of_ble_eq_true rfl))) (fun v26 g25 => ?_)
    refine r_pop (pc := 97) dX2_allArrive_97 rfl ?_
    refine r_aload_n (pc := 98) dX2_allArrive_98 rfl 1 rfl ?_
    refine r_cR (pc := 99) (rest := []) (RunOK_chk (fun h => run_F (n := 0) (c9 := 3) (As := []) (rest := []) (t_J2_iterator γ l hl q1 g25) dX2_allArrive_99 q354 q358 q360 q112 q362 (by decide +kernel) (by decide +kernel) rfl h ⟨by decide, by decide⟩ (Nat.le_of_ble_eq_true rfl) (Nat.le_of_ble_eq_true rfl) rfl (Nat.le_of_ble_eq_true rfl))) (fun v28 g27 => ?_)
    refine r_astore_n (pc := 104) dX2_allArrive_104 rfl (Nat.le_of_ble_eq_true rfl) rfl ?_
    refine AW_sub [1, 0] rfl ?_
    refine f_X2_allArrive_L105_w γ l hl _ x0 v28 FU g27
abbrev ck_X2_losesPatience : CK := ("BanquetVotes$Kitchen", prog_14_method_38_code, 3, none, "losesPatience", [], 10)
def f_X2_losesPatience_L2 (γ : GP) (x0 : Nat) : Nat → Int32 → AH → Option (AH)
  | 0, _, _ => none
  | n + 1, x1, g => gR g x0 9 fun v1 => bI ((if hK g v1 = 3 then f_J2_size γ v1 g else if hK g v1 = 5 then f_J4_size γ v1 g else none)) fun v3 g2 => (if v3 ≤ x1 then (some g2) else gR g2 x0 10 fun v4 => bI ((if hK g2 v4 = 4 then f_X3_hasFainted γ v4 g2 else none)) fun v6 g5 => (if v6 = 0 then bR ((if hK g5 x0 = 2 then f_X2_course γ x0 x1 g5 else none)) fun v8 g7 => bI ((if hK g7 v8 = 20 then f_X7_phase γ v8 g7 else none)) fun v10 g9 => (if v10 = (1 : Int32) then gI g9 x0 12 fun v11 => bI ((if hK g9 v8 = 20 then f_X7_asked γ v8 g9 else none)) fun v13 g12 => (if (v11 - v13) < (12 : Int32) then f_X2_losesPatience_L2 γ x0 n (x1 + (1 : Int32)) g12 else bV ((if hK g12 x0 = 2 then f_X2_settles γ x0 x1 (3 : Int32) g12 else none)) fun g14 => bI ((if hK g14 x0 = 2 then f_X2_sendsAll γ x0 x1 g14 else none)) fun v16 g15 => f_X2_losesPatience_L2 γ x0 n (x1 + (1 : Int32)) g15) else f_X2_losesPatience_L2 γ x0 n (x1 + (1 : Int32)) g9) else (some g5)))
def f_X2_losesPatience (γ : GP) (x0 : Nat) (g : AH) : Option (AH) := f_X2_losesPatience_L2 γ x0 FU (0 : Int32) g
theorem f_X2_losesPatience_L2_w (γ : GP) (l : Launch) (hl : l.stackTraces = false) (G0 : AH) (x0 : Nat) : ∀ (n : Nat) (x1 : Int32) (g : AH), AW ρV γ l ck_X2_losesPatience G0 2 [(0, .ref x0), (1, .int x1)] [] g (f_X2_losesPatience_L2 γ x0 n x1 g) := by
  intro n
  induction n with
  | zero => intro x1 g; exact AW_none
  | succ n ih =>
    intro x1 g
    unfold f_X2_losesPatience_L2
    refine r_iload_n (pc := 2) dX2_losesPatience_2 rfl 1 rfl ?_
    refine r_aload_n (pc := 3) dX2_losesPatience_3 rfl 0 rfl ?_
    refine r_getR (f := 9) (pc := 4) dX2_losesPatience_4 q266 (Or.inl rfl) rfl (fun v1 => ?_)
    refine r_cI (pc := 7) (rest := [.int x1]) (RunOK_if (fun h => run_F (n := 0) (c9 := 3) (As := []) (rest := [.int x1]) (t_J2_size γ l hl v1 g) dX2_losesPatience_7 q1888 q1891 q794 q112 q795 (by decide +kernel) (by decide +kernel) rfl h ⟨by decide, by decide⟩ (Nat.le_of_ble_eq_true rfl) (Nat.le_of_ble_eq_true rfl) rfl (Nat.le_of_ble_eq_true rfl)) (RunOK_chk (fun h => run_F (n := 0) (c9 := 5) (As := []) (rest := [.int x1]) (t_J4_size γ l hl v1 g) dX2_losesPatience_7 q1888 q1894 q797 q116 q798 (by decide +kernel) (by decide +kernel) rfl h ⟨by decide, by decide⟩ (Nat.le_of_ble_eq_true rfl) (Nat.le_of_ble_eq_true rfl) rfl (Nat.le_of_ble_eq_true rfl)))) (fun v3 g2 => ?_)
    refine r_icmp_ge (tgt := 71) (pc := 12) dX2_losesPatience_12 (by decide) ?_ ?_
    · skip
      exact r_vret (pc := 71) dX2_losesPatience_71 rfl
    · skip
      refine r_aload_n (pc := 15) dX2_losesPatience_15 rfl 0 rfl ?_
      refine r_getR (f := 10) (pc := 16) dX2_losesPatience_16 q267 (Or.inl rfl) rfl (fun v4 => ?_)
      refine r_cI (pc := 19) (rest := []) (RunOK_chk (fun h => run_U (n := 0) (c9 := 4) (As := []) (rest := []) (owner := "BanquetVotes$Somebody") (t_X3_hasFainted γ l hl v4 g2) dX2_losesPatience_19 q2359 q2360 q2361 q2058 q113 q2059 rfl ⟨by decide, by decide, by decide +kernel⟩ rfl h ⟨by decide, by decide⟩ (Nat.le_of_ble_eq_true rfl) (Nat.le_of_ble_eq_true rfl) rfl (Nat.le_of_ble_eq_true rfl))) (fun v6 g5 => ?_)
      refine r_if_ne (tgt := 71) (pc := 22) dX2_losesPatience_22 (by decide) ?_ ?_
      · skip
        refine r_aload_n (pc := 25) dX2_losesPatience_25 rfl 0 rfl ?_
        refine r_iload_n (pc := 26) dX2_losesPatience_26 rfl 1 rfl ?_
        refine r_cR (pc := 27) (rest := []) (RunOK_chk (fun h => run_V (n := 1) (c9 := 2) (As := [.int x1]) (rest := []) (t_X2_course γ l hl x0 x1 g5) dX2_losesPatience_27 q2127 q2128 q2129 q109 q2130 (by decide +kernel) rfl h ⟨rfl, by decide, by decide⟩ (Nat.le_of_ble_eq_true rfl) (Nat.le_of_ble_eq_true rfl) rfl (Nat.le_of_ble_eq_true rfl))) (fun v8 g7 => ?_)
        refine r_astore_n (pc := 30) dX2_losesPatience_30 rfl (Nat.le_of_ble_eq_true rfl) rfl ?_
        refine r_aload_n (pc := 31) dX2_losesPatience_31 rfl 0 rfl ?_
        refine r_cI (pc := 32) (rest := []) (RunOK_chk (fun h => run_V (n := 0) (c9 := 20) (As := []) (rest := []) (t_X7_phase γ l hl v8 g7) dX2_losesPatience_32 q2131 q2132 q2133 q150 q2134 (by decide +kernel) rfl h ⟨rfl, by decide, by decide⟩ (Nat.le_of_ble_eq_true rfl) (Nat.le_of_ble_eq_true rfl) rfl (Nat.le_of_ble_eq_true rfl))) (fun v10 g9 => ?_)
        refine r_iconst (v := (1 : Int32)) (pc := 35) dX2_losesPatience_35 (by decide) ?_
        refine r_icmp_ne (tgt := 65) (pc := 36) dX2_losesPatience_36 (by decide) ?_ ?_
        · skip
          refine r_aload_n (pc := 39) dX2_losesPatience_39 rfl 1 rfl ?_
          refine r_getI (f := 12) (pc := 40) dX2_losesPatience_40 q269 (Or.inl rfl) rfl (fun v11 => ?_)
          refine r_aload_n (pc := 43) dX2_losesPatience_43 rfl 0 rfl ?_
          refine r_cI (pc := 44) (rest := [.int v11]) (RunOK_chk (fun h => run_V (n := 0) (c9 := 20) (As := []) (rest := [.int v11]) (t_X7_asked γ l hl v8 g9) dX2_losesPatience_44 q2736 q2162 q2163 q150 q2164 (by decide +kernel) rfl h ⟨rfl, by decide, by decide⟩ (Nat.le_of_ble_eq_true rfl) (Nat.le_of_ble_eq_true rfl) rfl (Nat.le_of_ble_eq_true rfl))) (fun v13 g12 => ?_)
          refine r_isub (pc := 47) dX2_losesPatience_47 ?_
          refine r_bipush (v := (12 : Int32)) (pc := 48) dX2_losesPatience_48 (by decide) ?_
          refine r_icmp_lt (tgt := 65) (pc := 50) dX2_losesPatience_50 (by decide) ?_ ?_
          · skip
            refine r_iinc (j := 2) (v := (x1 + (1 : Int32))) (pc := 65) dX2_losesPatience_65 rfl rfl (Nat.le_of_ble_eq_true rfl) rfl ?_
            refine r_goto (tgt := 2) (pc := 68) dX2_losesPatience_68 (by decide) ?_
            refine AW_sub [2, 0] rfl ?_
            exact ih (x1 + (1 : Int32)) g12
          · skip
            refine r_aload_n (pc := 53) dX2_losesPatience_53 rfl 1 rfl ?_
            refine r_iload_n (pc := 54) dX2_losesPatience_54 rfl 2 rfl ?_
            refine r_iconst (v := (3 : Int32)) (pc := 55) dX2_losesPatience_55 (by decide) ?_
            refine r_cV (pc := 56) (rest := []) (RunOK_chk (fun h => run_V (n := 2) (c9 := 2) (As := [.int x1, .int (3 : Int32)]) (rest := []) (t_X2_settles γ l hl x0 x1 (3 : Int32) g12) dX2_losesPatience_56 q2439 q2441 qs24 q109 q2442 (by decide +kernel) rfl h ⟨rfl, by decide, by decide⟩ (Nat.le_of_ble_eq_true rfl) (Nat.le_of_ble_eq_true rfl) rfl (Nat.le_of_ble_eq_true rfl))) (fun g14 => ?_)
            refine r_aload_n (pc := 59) dX2_losesPatience_59 rfl 1 rfl ?_
            refine r_iload_n (pc := 60) dX2_losesPatience_60 rfl 2 rfl ?_
            refine r_cI (pc := 61) (rest := []) (RunOK_chk (fun h => run_V (n := 1) (c9 := 2) (As := [.int x1]) (rest := []) (t_X2_sendsAll γ l hl x0 x1 g14) dX2_losesPatience_61 q2447 q2449 qs25 q109 q2450 (by decide +kernel) rfl h ⟨rfl, by decide, by decide⟩ (Nat.le_of_ble_eq_true rfl) (Nat.le_of_ble_eq_true rfl) rfl (Nat.le_of_ble_eq_true rfl))) (fun v16 g15 => ?_)
            refine r_pop (pc := 64) dX2_losesPatience_64 rfl ?_
            refine r_iinc (j := 2) (v := (x1 + (1 : Int32))) (pc := 65) dX2_losesPatience_65 rfl rfl (Nat.le_of_ble_eq_true rfl) rfl ?_
            refine r_goto (tgt := 2) (pc := 68) dX2_losesPatience_68 (by decide) ?_
            refine AW_sub [2, 0] rfl ?_
            exact ih (x1 + (1 : Int32)) g15
        · skip
          refine r_iinc (j := 2) (v := (x1 + (1 : Int32))) (pc := 65) dX2_losesPatience_65 rfl rfl (Nat.le_of_ble_eq_true rfl) rfl ?_
          refine r_goto (tgt := 2) (pc := 68) dX2_losesPatience_68 (by decide) ?_
          refine AW_sub [2, 0] rfl ?_
          exact ih (x1 + (1 : Int32)) g9
      · skip
        exact r_vret (pc := 71) dX2_losesPatience_71 rfl
theorem t_X2_losesPatience (γ : GP) (l : Launch) (hl : l.stackTraces = false) (x0 : Nat) (g : AH) : TrM ρV γ l ⟨"BanquetVotes$Kitchen", "losesPatience", "()V"⟩ (ws_ ⟨"BanquetVotes$Kitchen", "losesPatience", "()V"⟩ prog_14_method_38_code 3 none) 10 [.ref x0] g (f_X2_losesPatience γ x0 g) := by
  refine TrM_of (plainFor_of_name (by decide)) (Nat.le_of_ble_eq_true rfl) ?_
  unfold f_X2_losesPatience
  change AW ρV γ l ck_X2_losesPatience g 0 [(0, .ref x0)] [] g _
  refine r_iconst (v := (0 : Int32)) (pc := 0) dX2_losesPatience_0 (by decide) ?_
  refine r_istore_n (pc := 1) dX2_losesPatience_1 rfl (Nat.le_of_ble_eq_true rfl) rfl ?_
  refine AW_sub [1, 0] rfl ?_
  refine f_X2_losesPatience_L2_w γ l hl _ x0 FU (0 : Int32) g
abbrev ck_X2_isLongInDoubt : CK := ("BanquetVotes$Kitchen", prog_14_method_39_code, 2, (some .boolean), "isLongInDoubt", [], 2)
def f_X2_isLongInDoubt (γ : GP) (x0 : Nat) (x1 : Nat) (g : AH) : Option (Int32 × AH) := (if x1 = 0 then (rtN .boolean (0 : Int32) g) else bI ((if hK g x1 = 22 then f_X8_isReady γ x1 g else none)) fun v2 g1 => (if v2 = 0 then (rtN .boolean (0 : Int32) g1) else gI g1 x0 12 fun v3 => bI ((if hK g1 x1 = 22 then f_X8_since γ x1 g1 else none)) fun v5 g4 => (if v3 ≤ v5 then (rtN .boolean (0 : Int32) g4) else gI g4 x0 12 fun v6 => bI ((if hK g4 x1 = 22 then f_X8_since γ x1 g4 else none)) fun v8 g7 => (if ¬ (8 : Int32) = 0 then (if ((v6 - v8) - (v6 - v8) / (8 : Int32) * (8 : Int32)) = 0 then (rtN .boolean (1 : Int32) g7) else (rtN .boolean (0 : Int32) g7)) else none))))
theorem t_X2_isLongInDoubt (γ : GP) (l : Launch) (hl : l.stackTraces = false) (x0 : Nat) (x1 : Nat) (g : AH) : TrM ρI γ l ⟨"BanquetVotes$Kitchen", "isLongInDoubt", "(LBanquetVotes$Dish;)Z"⟩ (ws_ ⟨"BanquetVotes$Kitchen", "isLongInDoubt", "(LBanquetVotes$Dish;)Z"⟩ prog_14_method_39_code 2 (some .boolean)) 2 [.ref x0, .ref x1] g (f_X2_isLongInDoubt γ x0 x1 g) := by
  refine TrM_of (plainFor_of_name (by decide)) (Nat.le_of_ble_eq_true rfl) ?_
  unfold f_X2_isLongInDoubt
  change AW ρI γ l ck_X2_isLongInDoubt g 0 [(0, .ref x0), (1, .ref x1)] [] g _
  refine r_aload_n (pc := 0) dX2_isLongInDoubt_0 rfl 1 rfl ?_
  refine r_ifnull (tgt := 41) (pc := 1) dX2_isLongInDoubt_1 (by decide) ?_ ?_
  · skip
    refine r_iconst (v := (0 : Int32)) (pc := 41) dX2_isLongInDoubt_41 (by decide) ?_
    exact r_zret (ty := .boolean) (pc := 42) dX2_isLongInDoubt_42 rfl
  · skip
    refine r_aload_n (pc := 4) dX2_isLongInDoubt_4 rfl 1 rfl ?_
    refine r_cI (pc := 5) (rest := []) (RunOK_chk (fun h => run_V (n := 0) (c9 := 22) (As := []) (rest := []) (t_X8_isReady γ l hl x1 g) dX2_isLongInDoubt_5 q2225 q2226 q2227 q157 q2228 (by decide +kernel) rfl h ⟨rfl, by decide, by decide⟩ (Nat.le_of_ble_eq_true rfl) (Nat.le_of_ble_eq_true rfl) rfl (Nat.le_of_ble_eq_true rfl))) (fun v2 g1 => ?_)
    refine r_if_eq (tgt := 41) (pc := 8) dX2_isLongInDoubt_8 (by decide) ?_ ?_
    · skip
      refine r_iconst (v := (0 : Int32)) (pc := 41) dX2_isLongInDoubt_41 (by decide) ?_
      exact r_zret (ty := .boolean) (pc := 42) dX2_isLongInDoubt_42 rfl
    · skip
      refine r_aload_n (pc := 11) dX2_isLongInDoubt_11 rfl 0 rfl ?_
      refine r_getI (f := 12) (pc := 12) dX2_isLongInDoubt_12 q269 (Or.inl rfl) rfl (fun v3 => ?_)
      refine r_aload_n (pc := 15) dX2_isLongInDoubt_15 rfl 1 rfl ?_
      refine r_cI (pc := 16) (rest := [.int v3]) (RunOK_chk (fun h => run_V (n := 0) (c9 := 22) (As := []) (rest := [.int v3]) (t_X8_since γ l hl x1 g1) dX2_isLongInDoubt_16 q2745 q2207 q2208 q157 q2209 (by decide +kernel) rfl h ⟨rfl, by decide, by decide⟩ (Nat.le_of_ble_eq_true rfl) (Nat.le_of_ble_eq_true rfl) rfl (Nat.le_of_ble_eq_true rfl))) (fun v5 g4 => ?_)
      refine r_icmp_le (tgt := 41) (pc := 19) dX2_isLongInDoubt_19 (by decide) ?_ ?_
      · skip
        refine r_iconst (v := (0 : Int32)) (pc := 41) dX2_isLongInDoubt_41 (by decide) ?_
        exact r_zret (ty := .boolean) (pc := 42) dX2_isLongInDoubt_42 rfl
      · skip
        refine r_aload_n (pc := 22) dX2_isLongInDoubt_22 rfl 0 rfl ?_
        refine r_getI (f := 12) (pc := 23) dX2_isLongInDoubt_23 q269 (Or.inl rfl) rfl (fun v6 => ?_)
        refine r_aload_n (pc := 26) dX2_isLongInDoubt_26 rfl 1 rfl ?_
        refine r_cI (pc := 27) (rest := [.int v6]) (RunOK_chk (fun h => run_V (n := 0) (c9 := 22) (As := []) (rest := [.int v6]) (t_X8_since γ l hl x1 g4) dX2_isLongInDoubt_27 q2745 q2207 q2208 q157 q2209 (by decide +kernel) rfl h ⟨rfl, by decide, by decide⟩ (Nat.le_of_ble_eq_true rfl) (Nat.le_of_ble_eq_true rfl) rfl (Nat.le_of_ble_eq_true rfl))) (fun v8 g7 => ?_)
        refine r_isub (pc := 30) dX2_isLongInDoubt_30 ?_
        refine r_bipush (v := (8 : Int32)) (pc := 31) dX2_isLongInDoubt_31 (by decide) ?_
        refine r_irem (pc := 33) dX2_isLongInDoubt_33 ?_
        refine r_if_ne (tgt := 41) (pc := 34) dX2_isLongInDoubt_34 (by decide) ?_ ?_
        · skip
          refine r_iconst (v := (1 : Int32)) (pc := 37) dX2_isLongInDoubt_37 (by decide) ?_
          refine r_goto (tgt := 42) (pc := 38) dX2_isLongInDoubt_38 (by decide) ?_
          exact r_zret (ty := .boolean) (pc := 42) dX2_isLongInDoubt_42 rfl
        · skip
          refine r_iconst (v := (0 : Int32)) (pc := 41) dX2_isLongInDoubt_41 (by decide) ?_
          exact r_zret (ty := .boolean) (pc := 42) dX2_isLongInDoubt_42 rfl
abbrev ck_X2_allAsk : CK := ("BanquetVotes$Kitchen", prog_14_method_40_code, 3, none, "allAsk", [], 7)
def f_X2_allAsk_L17 (γ : GP) (x0 : Nat) (x1 : Int32) (K69 : AH → Option (AH)) : Nat → Int32 → AH → Option (AH)
  | 0, _, _ => none
  | n + 1, x2, g => gR g x0 9 fun v4 => bI ((if hK g v4 = 3 then f_J2_size γ v4 g else if hK g v4 = 5 then f_J4_size γ v4 g else none)) fun v6 g5 => (if v6 ≤ x2 then K69 g5 else bR ((if hK g5 x0 = 2 then f_X2_cook γ x0 x1 g5 else none)) fun v8 g7 => bI ((if hK g7 v8 = 16 then f_X3_hasFainted γ v8 g7 else none)) fun v10 g9 => (if v10 = 0 then bR ((if hK g9 x0 = 2 then f_X2_course γ x0 x2 g9 else none)) fun v12 g11 => bR ((if hK g11 v12 = 20 then f_X7_of γ v12 x1 g11 else none)) fun v14 g13 => bI ((if hK g13 x0 = 2 then f_X2_isLongInDoubt γ x0 v14 g13 else none)) fun v16 g15 => (if v16 = 0 then f_X2_allAsk_L17 γ x0 x1 K69 n (x2 + (1 : Int32)) g15 else bV ((if hK g15 x0 = 2 then f_X2_asksHost γ x0 x1 x2 g15 else none)) fun g17 => f_X2_allAsk_L17 γ x0 x1 K69 n (x2 + (1 : Int32)) g17) else K69 g9))
def f_X2_allAsk_L2 (γ : GP) (x0 : Nat) : Nat → Int32 → AH → Option (AH)
  | 0, _, _ => none
  | n + 1, x1, g => gR g x0 8 fun v1 => bI ((if hK g v1 = 3 then f_J2_size γ v1 g else if hK g v1 = 5 then f_J4_size γ v1 g else none)) fun v3 g2 => (if v3 ≤ x1 then (some g2) else f_X2_allAsk_L17 γ x0 x1 (fun (g18 : AH) => f_X2_allAsk_L2 γ x0 n (x1 + (1 : Int32)) g18) FU (0 : Int32) g2)
def f_X2_allAsk (γ : GP) (x0 : Nat) (g : AH) : Option (AH) := f_X2_allAsk_L2 γ x0 FU (0 : Int32) g
theorem f_X2_allAsk_L17_w (γ : GP) (l : Launch) (hl : l.stackTraces = false) (G0 : AH) (x0 : Nat) (x1 : Int32) (K69 : AH → Option (AH)) (h_K69 : ∀ (g : AH), AW ρV γ l ck_X2_allAsk G0 69 [(0, .ref x0), (1, .int x1)] [] g (K69 g)) : ∀ (n : Nat) (x2 : Int32) (g : AH), AW ρV γ l ck_X2_allAsk G0 17 [(0, .ref x0), (1, .int x1), (2, .int x2)] [] g (f_X2_allAsk_L17 γ x0 x1 K69 n x2 g) := by
  intro n
  induction n with
  | zero => intro x2 g; exact AW_none
  | succ n ih =>
    intro x2 g
    unfold f_X2_allAsk_L17
    refine r_iload_n (pc := 17) dX2_allAsk_17 rfl 2 rfl ?_
    refine r_aload_n (pc := 18) dX2_allAsk_18 rfl 0 rfl ?_
    refine r_getR (f := 9) (pc := 19) dX2_allAsk_19 q266 (Or.inl rfl) rfl (fun v4 => ?_)
    refine r_cI (pc := 22) (rest := [.int x2]) (RunOK_if (fun h => run_F (n := 0) (c9 := 3) (As := []) (rest := [.int x2]) (t_J2_size γ l hl v4 g) dX2_allAsk_22 q1888 q1891 q794 q112 q795 (by decide +kernel) (by decide +kernel) rfl h ⟨by decide, by decide⟩ (Nat.le_of_ble_eq_true rfl) (Nat.le_of_ble_eq_true rfl) rfl (Nat.le_of_ble_eq_true rfl)) (RunOK_chk (fun h => run_F (n := 0) (c9 := 5) (As := []) (rest := [.int x2]) (t_J4_size γ l hl v4 g) dX2_allAsk_22 q1888 q1894 q797 q116 q798 (by decide +kernel) (by decide +kernel) rfl h ⟨by decide, by decide⟩ (Nat.le_of_ble_eq_true rfl) (Nat.le_of_ble_eq_true rfl) rfl (Nat.le_of_ble_eq_true rfl)))) (fun v6 g5 => ?_)
    refine r_icmp_ge (tgt := 69) (pc := 27) dX2_allAsk_27 (by decide) ?_ ?_
    · skip
      refine AW_sub [0, 1] rfl ?_
      exact h_K69 g5
    · skip
      refine r_aload_n (pc := 30) dX2_allAsk_30 rfl 0 rfl ?_
      refine r_iload_n (pc := 31) dX2_allAsk_31 rfl 1 rfl ?_
      refine r_cR (pc := 32) (rest := []) (RunOK_chk (fun h => run_V (n := 1) (c9 := 2) (As := [.int x1]) (rest := []) (t_X2_cook γ l hl x0 x1 g5) dX2_allAsk_32 q2020 q2021 q2022 q109 q2023 (by decide +kernel) rfl h ⟨rfl, by decide, by decide⟩ (Nat.le_of_ble_eq_true rfl) (Nat.le_of_ble_eq_true rfl) rfl (Nat.le_of_ble_eq_true rfl))) (fun v8 g7 => ?_)
      refine r_cI (pc := 35) (rest := []) (RunOK_chk (fun h => run_U (n := 0) (c9 := 16) (As := []) (rest := []) (owner := "BanquetVotes$Somebody") (t_X3_hasFainted γ l hl v8 g7) dX2_allAsk_35 q2489 q2055 q2057 q2058 q113 q2059 rfl ⟨by decide, by decide, by decide +kernel⟩ rfl h ⟨by decide, by decide⟩ (Nat.le_of_ble_eq_true rfl) (Nat.le_of_ble_eq_true rfl) rfl (Nat.le_of_ble_eq_true rfl))) (fun v10 g9 => ?_)
      refine r_if_ne (tgt := 69) (pc := 38) dX2_allAsk_38 (by decide) ?_ ?_
      · skip
        refine r_aload_n (pc := 41) dX2_allAsk_41 rfl 0 rfl ?_
        refine r_aload_n (pc := 42) dX2_allAsk_42 rfl 0 rfl ?_
        refine r_iload_n (pc := 43) dX2_allAsk_43 rfl 2 rfl ?_
        refine r_cR (pc := 44) (rest := [.ref x0]) (RunOK_chk (fun h => run_V (n := 1) (c9 := 2) (As := [.int x2]) (rest := [.ref x0]) (t_X2_course γ l hl x0 x2 g9) dX2_allAsk_44 q2127 q2128 q2129 q109 q2130 (by decide +kernel) rfl h ⟨rfl, by decide, by decide⟩ (Nat.le_of_ble_eq_true rfl) (Nat.le_of_ble_eq_true rfl) rfl (Nat.le_of_ble_eq_true rfl))) (fun v12 g11 => ?_)
        refine r_iload_n (pc := 47) dX2_allAsk_47 rfl 1 rfl ?_
        refine r_cR (pc := 48) (rest := [.ref x0]) (RunOK_chk (fun h => run_V (n := 1) (c9 := 20) (As := [.int x1]) (rest := [.ref x0]) (t_X7_of γ l hl v12 x1 g11) dX2_allAsk_48 q2066 q2067 q2068 q150 q2069 (by decide +kernel) rfl h ⟨rfl, by decide, by decide⟩ (Nat.le_of_ble_eq_true rfl) (Nat.le_of_ble_eq_true rfl) rfl (Nat.le_of_ble_eq_true rfl))) (fun v14 g13 => ?_)
        refine r_cI (pc := 51) (rest := []) (RunOK_chk (fun h => run_V (n := 1) (c9 := 2) (As := [.ref v14]) (rest := []) (t_X2_isLongInDoubt γ l hl x0 v14 g13) dX2_allAsk_51 q2741 q2743 qs39 q109 q2744 (by decide +kernel) rfl h ⟨rfl, by decide, by decide⟩ (Nat.le_of_ble_eq_true rfl) (Nat.le_of_ble_eq_true rfl) rfl (Nat.le_of_ble_eq_true rfl))) (fun v16 g15 => ?_)
        refine r_if_eq (tgt := 63) (pc := 54) dX2_allAsk_54 (by decide) ?_ ?_
        · skip
          refine r_iinc (j := 2) (v := (x2 + (1 : Int32))) (pc := 63) dX2_allAsk_63 rfl rfl (Nat.le_of_ble_eq_true rfl) rfl ?_
          refine r_goto (tgt := 17) (pc := 66) dX2_allAsk_66 (by decide) ?_
          refine AW_sub [1, 2, 0] rfl ?_
          exact ih (x2 + (1 : Int32)) g15
        · skip
          refine r_aload_n (pc := 57) dX2_allAsk_57 rfl 0 rfl ?_
          refine r_iload_n (pc := 58) dX2_allAsk_58 rfl 1 rfl ?_
          refine r_iload_n (pc := 59) dX2_allAsk_59 rfl 2 rfl ?_
          refine r_cV (pc := 60) (rest := []) (RunOK_chk (fun h => run_V (n := 2) (c9 := 2) (As := [.int x1, .int x2]) (rest := []) (t_X2_asksHost γ l hl x0 x1 x2 g15) dX2_allAsk_60 q2502 q2504 qs28 q109 q2505 (by decide +kernel) rfl h ⟨rfl, by decide, by decide⟩ (Nat.le_of_ble_eq_true rfl) (Nat.le_of_ble_eq_true rfl) rfl (Nat.le_of_ble_eq_true rfl))) (fun g17 => ?_)
          refine r_iinc (j := 2) (v := (x2 + (1 : Int32))) (pc := 63) dX2_allAsk_63 rfl rfl (Nat.le_of_ble_eq_true rfl) rfl ?_
          refine r_goto (tgt := 17) (pc := 66) dX2_allAsk_66 (by decide) ?_
          refine AW_sub [1, 2, 0] rfl ?_
          exact ih (x2 + (1 : Int32)) g17
      · skip
        refine AW_sub [0, 1] rfl ?_
        exact h_K69 g9
theorem f_X2_allAsk_L2_w (γ : GP) (l : Launch) (hl : l.stackTraces = false) (G0 : AH) (x0 : Nat) : ∀ (n : Nat) (x1 : Int32) (g : AH), AW ρV γ l ck_X2_allAsk G0 2 [(0, .ref x0), (1, .int x1)] [] g (f_X2_allAsk_L2 γ x0 n x1 g) := by
  intro n
  induction n with
  | zero => intro x1 g; exact AW_none
  | succ n ih =>
    intro x1 g
    unfold f_X2_allAsk_L2
    refine r_iload_n (pc := 2) dX2_allAsk_2 rfl 1 rfl ?_
    refine r_aload_n (pc := 3) dX2_allAsk_3 rfl 0 rfl ?_
    refine r_getR (f := 8) (pc := 4) dX2_allAsk_4 q265 (Or.inl rfl) rfl (fun v1 => ?_)
    refine r_cI (pc := 7) (rest := [.int x1]) (RunOK_if (fun h => run_F (n := 0) (c9 := 3) (As := []) (rest := [.int x1]) (t_J2_size γ l hl v1 g) dX2_allAsk_7 q1888 q1891 q794 q112 q795 (by decide +kernel) (by decide +kernel) rfl h ⟨by decide, by decide⟩ (Nat.le_of_ble_eq_true rfl) (Nat.le_of_ble_eq_true rfl) rfl (Nat.le_of_ble_eq_true rfl)) (RunOK_chk (fun h => run_F (n := 0) (c9 := 5) (As := []) (rest := [.int x1]) (t_J4_size γ l hl v1 g) dX2_allAsk_7 q1888 q1894 q797 q116 q798 (by decide +kernel) (by decide +kernel) rfl h ⟨by decide, by decide⟩ (Nat.le_of_ble_eq_true rfl) (Nat.le_of_ble_eq_true rfl) rfl (Nat.le_of_ble_eq_true rfl)))) (fun v3 g2 => ?_)
    refine r_icmp_ge (tgt := 75) (pc := 12) dX2_allAsk_12 (by decide) ?_ ?_
    · skip
      exact r_vret (pc := 75) dX2_allAsk_75 rfl
    · skip
      refine r_iconst (v := (0 : Int32)) (pc := 15) dX2_allAsk_15 (by decide) ?_
      refine r_istore_n (pc := 16) dX2_allAsk_16 rfl (Nat.le_of_ble_eq_true rfl) rfl ?_
      refine AW_sub [1, 2, 0] rfl ?_
      refine f_X2_allAsk_L17_w γ l hl _ x0 x1 _ ?_ FU (0 : Int32) g2
      · intro g18
        refine r_iinc (j := 1) (v := (x1 + (1 : Int32))) (pc := 69) dX2_allAsk_69 rfl rfl (Nat.le_of_ble_eq_true rfl) rfl ?_
        refine r_goto (tgt := 2) (pc := 72) dX2_allAsk_72 (by decide) ?_
        refine AW_sub [1, 0] rfl ?_
        exact ih (x1 + (1 : Int32)) g18
theorem t_X2_allAsk (γ : GP) (l : Launch) (hl : l.stackTraces = false) (x0 : Nat) (g : AH) : TrM ρV γ l ⟨"BanquetVotes$Kitchen", "allAsk", "()V"⟩ (ws_ ⟨"BanquetVotes$Kitchen", "allAsk", "()V"⟩ prog_14_method_40_code 3 none) 7 [.ref x0] g (f_X2_allAsk γ x0 g) := by
  refine TrM_of (plainFor_of_name (by decide)) (Nat.le_of_ble_eq_true rfl) ?_
  unfold f_X2_allAsk
  change AW ρV γ l ck_X2_allAsk g 0 [(0, .ref x0)] [] g _
  refine r_iconst (v := (0 : Int32)) (pc := 0) dX2_allAsk_0 (by decide) ?_
  refine r_istore_n (pc := 1) dX2_allAsk_1 rfl (Nat.le_of_ble_eq_true rfl) rfl ?_
  refine AW_sub [1, 0] rfl ?_
  refine f_X2_allAsk_L2_w γ l hl _ x0 FU (0 : Int32) g
abbrev ck_X2_passes : CK := ("BanquetVotes$Kitchen", prog_14_method_42_code, 4, (some .int), "passes", [], 13)
def f_X2_passes_L7 (γ : GP) (x0 : Nat) (x1 : Int32) (x2 : Int32) (K40 : AH → Option (Int32 × AH)) : Nat → Int32 → AH → Option (Int32 × AH)
  | 0, _, _ => none
  | n + 1, x3, g => (if x1 ≤ x3 then K40 g else gI g x0 12 fun v3 => pI γ g x0 12 (v3 + (1 : Int32)) fun g4 => bV ((if hK g4 x0 = 2 then f_X2_allArrive γ x0 g4 else none)) fun g5 => bV ((if hK g5 x0 = 2 then f_X2_losesPatience γ x0 g5 else none)) fun g6 => bV ((if hK g6 x0 = 2 then f_X2_allAsk γ x0 g6 else none)) fun g7 => f_X2_passes_L7 γ x0 x1 x2 K40 n (x3 + (1 : Int32)) g7)
def f_X2_passes (γ : GP) (x0 : Nat) (x1 : Int32) (g : AH) : Option (Int32 × AH) := bI ((if hK g x0 = 2 then f_X2_decided γ x0 g else none)) fun v2 g1 => f_X2_passes_L7 γ x0 x1 v2 (fun (g8 : AH) => bI ((if hK g8 x0 = 2 then f_X2_decided γ x0 g8 else none)) fun v10 g9 => (some ((v10 - v2), g9))) FU (0 : Int32) g1
theorem f_X2_passes_L7_w (γ : GP) (l : Launch) (hl : l.stackTraces = false) (G0 : AH) (x0 : Nat) (x1 : Int32) (x2 : Int32) (K40 : AH → Option (Int32 × AH)) (h_K40 : ∀ (g : AH), AW ρI γ l ck_X2_passes G0 40 [(0, .ref x0), (2, .int x2)] [] g (K40 g)) : ∀ (n : Nat) (x3 : Int32) (g : AH), AW ρI γ l ck_X2_passes G0 7 [(0, .ref x0), (1, .int x1), (2, .int x2), (3, .int x3)] [] g (f_X2_passes_L7 γ x0 x1 x2 K40 n x3 g) := by
  intro n
  induction n with
  | zero => intro x3 g; exact AW_none
  | succ n ih =>
    intro x3 g
    unfold f_X2_passes_L7
    refine r_iload_n (pc := 7) dX2_passes_7 rfl 3 rfl ?_
    refine r_iload_n (pc := 8) dX2_passes_8 rfl 1 rfl ?_
    refine r_icmp_ge (tgt := 40) (pc := 9) dX2_passes_9 (by decide) ?_ ?_
    · skip
      refine AW_sub [0, 2] rfl ?_
      exact h_K40 g
    · skip
      refine r_aload_n (pc := 12) dX2_passes_12 rfl 0 rfl ?_
      refine r_dup (pc := 13) dX2_passes_13 rfl ?_
      refine r_getI (f := 12) (pc := 14) dX2_passes_14 q269 (Or.inl rfl) rfl (fun v3 => ?_)
      refine r_iconst (v := (1 : Int32)) (pc := 17) dX2_passes_17 (by decide) ?_
      refine r_iadd (pc := 18) dX2_passes_18 ?_
      refine r_putI (f := 12) (pc := 19) dX2_passes_19 q269 (Or.inl rfl) (Or.inl rfl) rfl (fun g4 => ?_)
      refine r_aload_n (pc := 22) dX2_passes_22 rfl 0 rfl ?_
      refine r_cV (pc := 23) (rest := []) (RunOK_chk (fun h => run_V (n := 0) (c9 := 2) (As := []) (rest := []) (t_X2_allArrive γ l hl x0 g4) dX2_passes_23 q2577 q2579 qs32 q109 q2580 (by decide +kernel) rfl h ⟨rfl, by decide, by decide⟩ (Nat.le_of_ble_eq_true rfl) (Nat.le_of_ble_eq_true rfl) rfl (Nat.le_of_ble_eq_true rfl))) (fun g5 => ?_)
      refine r_aload_n (pc := 26) dX2_passes_26 rfl 0 rfl ?_
      refine r_cV (pc := 27) (rest := []) (RunOK_chk (fun h => run_V (n := 0) (c9 := 2) (As := []) (rest := []) (t_X2_losesPatience γ l hl x0 g5) dX2_passes_27 q2732 q2734 qs37 q109 q2735 (by decide +kernel) rfl h ⟨rfl, by decide, by decide⟩ (Nat.le_of_ble_eq_true rfl) (Nat.le_of_ble_eq_true rfl) rfl (Nat.le_of_ble_eq_true rfl))) (fun g6 => ?_)
      refine r_aload_n (pc := 30) dX2_passes_30 rfl 0 rfl ?_
      refine r_cV (pc := 31) (rest := []) (RunOK_chk (fun h => run_V (n := 0) (c9 := 2) (As := []) (rest := []) (t_X2_allAsk γ l hl x0 g6) dX2_passes_31 q2737 q2739 qs38 q109 q2740 (by decide +kernel) rfl h ⟨rfl, by decide, by decide⟩ (Nat.le_of_ble_eq_true rfl) (Nat.le_of_ble_eq_true rfl) rfl (Nat.le_of_ble_eq_true rfl))) (fun g7 => ?_)
      refine r_iinc (j := 3) (v := (x3 + (1 : Int32))) (pc := 34) dX2_passes_34 rfl rfl (Nat.le_of_ble_eq_true rfl) rfl ?_
      refine r_goto (tgt := 7) (pc := 37) dX2_passes_37 (by decide) ?_
      refine AW_sub [1, 2, 3, 0] rfl ?_
      exact ih (x3 + (1 : Int32)) g7
theorem t_X2_passes (γ : GP) (l : Launch) (hl : l.stackTraces = false) (x0 : Nat) (x1 : Int32) (g : AH) : TrM ρI γ l ⟨"BanquetVotes$Kitchen", "passes", "(I)I"⟩ (ws_ ⟨"BanquetVotes$Kitchen", "passes", "(I)I"⟩ prog_14_method_42_code 4 (some .int)) 13 [.ref x0, .int x1] g (f_X2_passes γ x0 x1 g) := by
  refine TrM_of (plainFor_of_name (by decide)) (Nat.le_of_ble_eq_true rfl) ?_
  unfold f_X2_passes
  change AW ρI γ l ck_X2_passes g 0 [(0, .ref x0), (1, .int x1)] [] g _
  refine r_aload_n (pc := 0) dX2_passes_0 rfl 0 rfl ?_
  refine r_cI (pc := 1) (rest := []) (RunOK_chk (fun h => run_V (n := 0) (c9 := 2) (As := []) (rest := []) (t_X2_decided γ l hl x0 g) dX2_passes_1 q2569 q2570 q2571 q109 q2572 (by decide +kernel) rfl h ⟨rfl, by decide, by decide⟩ (Nat.le_of_ble_eq_true rfl) (Nat.le_of_ble_eq_true rfl) rfl (Nat.le_of_ble_eq_true rfl))) (fun v2 g1 => ?_)
  refine r_istore_n (pc := 4) dX2_passes_4 rfl (Nat.le_of_ble_eq_true rfl) rfl ?_
  refine r_iconst (v := (0 : Int32)) (pc := 5) dX2_passes_5 (by decide) ?_
  refine r_istore_n (pc := 6) dX2_passes_6 rfl (Nat.le_of_ble_eq_true rfl) rfl ?_
  refine AW_sub [2, 3, 1, 0] rfl ?_
  refine f_X2_passes_L7_w γ l hl _ x0 x1 v2 _ ?_ FU (0 : Int32) g1
  · intro g8
    refine r_aload_n (pc := 40) dX2_passes_40 rfl 0 rfl ?_
    refine r_cI (pc := 41) (rest := []) (RunOK_chk (fun h => run_V (n := 0) (c9 := 2) (As := []) (rest := []) (t_X2_decided γ l hl x0 g8) dX2_passes_41 q2569 q2570 q2571 q109 q2572 (by decide +kernel) rfl h ⟨rfl, by decide, by decide⟩ (Nat.le_of_ble_eq_true rfl) (Nat.le_of_ble_eq_true rfl) rfl (Nat.le_of_ble_eq_true rfl))) (fun v10 g9 => ?_)
    refine r_iload_n (pc := 44) dX2_passes_44 rfl 1 rfl ?_
    refine r_isub (pc := 45) dX2_passes_45 ?_
    exact r_iret (pc := 46) dX2_passes_46 rfl
abbrev ck_X11_does : CK := ("BanquetVotes$Command", prog_2_method_3_code, 4, (some .int), "does", [], 14)
def f_X11_does (γ : GP) (x0 : Nat) (x1 : Nat) (g : AH) : Option ((Int32 × AH) ⊕ (Nat × AH)) := gR g x0 106 fun v1 => bI ((if hK g v1 = 7 then f_J7_hashCode γ v1 g else none)) fun v3 g2 => jn (fun (y4 : Int32) (g5 : AH) => (if y4 = (0 : Int32) then gI g5 x0 107 fun v7 => bXI ((if hK g5 x1 = 2 then f_X2_asks γ x1 v7 g5 else none)) (fun e10 g11 => (thr e10 g11)) fun v9 g8 => (some (.inl (v9, g8))) else (if y4 = (1 : Int32) then gI g5 x0 107 fun v12 => bXI ((if hK g5 x1 = 2 then f_X2_cancels γ x1 v12 g5 else none)) (fun e15 g16 => (thr e15 g16)) fun v14 g13 => (some (.inl (v14, g13))) else (if y4 = (2 : Int32) then gI g5 x0 107 fun v17 => bXI ((if hK g5 x1 = 2 then f_X2_faints γ x1 v17 g5 else none)) (fun e20 g21 => (thr e20 g21)) fun v19 g18 => (some (.inl (v19, g18))) else (if y4 = (3 : Int32) then gI g5 x0 107 fun v22 => bXI ((if hK g5 x1 = 2 then f_X2_wakes γ x1 v22 g5 else none)) (fun e25 g26 => (thr e25 g26)) fun v24 g23 => (some (.inl (v24, g23))) else (if y4 = (4 : Int32) then gI g5 x0 107 fun v27 => gI g5 x0 108 fun v28 => gI g5 x0 109 fun v29 => bXI ((if hK g5 x1 = 2 then f_X2_learns γ x1 v27 v28 v29 g5 else none)) (fun e32 g33 => (thr e32 g33)) fun v31 g30 => (some (.inl (v31, g30))) else gI g5 x0 107 fun v34 => bI ((if hK g5 x1 = 2 then f_X2_passes γ x1 v34 g5 else none)) fun v36 g35 => (some (.inl (v36, g35))))))))) (fun (j6 : Int32 → AH → Option ((Int32 × AH) ⊕ (Nat × AH))) => (if v3 = (-1367724422 : Int32) then bI ((if hK g2 v1 = 7 then f_J7_equals γ v1 (γ.1 15) g2 else none)) fun v38 g37 => (if v38 = 0 then j6 (-1 : Int32) g37 else j6 (1 : Int32) g37) else (if v3 = (96889 : Int32) then bI ((if hK g2 v1 = 7 then f_J7_equals γ v1 (γ.1 14) g2 else none)) fun v40 g39 => (if v40 = 0 then j6 (-1 : Int32) g39 else j6 (0 : Int32) g39) else (if v3 = (3641764 : Int32) then bI ((if hK g2 v1 = 7 then f_J7_equals γ v1 (γ.1 17) g2 else none)) fun v42 g41 => (if v42 = 0 then j6 (-1 : Int32) g41 else j6 (3 : Int32) g41) else (if v3 = (97193300 : Int32) then bI ((if hK g2 v1 = 7 then f_J7_equals γ v1 (γ.1 16) g2 else none)) fun v44 g43 => (if v44 = 0 then j6 (-1 : Int32) g43 else j6 (2 : Int32) g43) else (if v3 = (102846020 : Int32) then bI ((if hK g2 v1 = 7 then f_J7_equals γ v1 (γ.1 18) g2 else none)) fun v46 g45 => (if v46 = 0 then j6 (-1 : Int32) g45 else j6 (4 : Int32) g45) else j6 (-1 : Int32) g2))))))
theorem t_X11_does (γ : GP) (l : Launch) (hl : l.stackTraces = false) (x0 : Nat) (x1 : Nat) (g : AH) : TrM (ρX ρI) γ l ⟨"BanquetVotes$Command", "does", "(LBanquetVotes$Kitchen;)I"⟩ (ws_ ⟨"BanquetVotes$Command", "does", "(LBanquetVotes$Kitchen;)I"⟩ prog_2_method_3_code 4 (some .int)) 14 [.ref x0, .ref x1] g (f_X11_does γ x0 x1 g) := by
  refine TrM_of (plainFor_of_name (by decide)) (Nat.le_of_ble_eq_true rfl) ?_
  unfold f_X11_does
  change AW (ρX ρI) γ l ck_X11_does g 0 [(0, .ref x0), (1, .ref x1)] [] g _
  refine r_aload_n (pc := 0) dX11_does_0 rfl 0 rfl ?_
  refine r_getR (f := 106) (pc := 1) dX11_does_1 q2265 (Or.inl rfl) rfl (fun v1 => ?_)
  refine r_astore_n (pc := 4) dX11_does_4 rfl (Nat.le_of_ble_eq_true rfl) rfl ?_
  refine r_iconst (v := (-1 : Int32)) (pc := 5) dX11_does_5 (by decide) ?_
  refine r_istore_n (pc := 6) dX11_does_6 rfl (Nat.le_of_ble_eq_true rfl) rfl ?_
  refine r_aload_n (pc := 7) dX11_does_7 rfl 1 rfl ?_
  refine r_cI (pc := 8) (rest := []) (RunOK_chk (fun h => run_V (n := 0) (c9 := 7) (As := []) (rest := []) (t_J7_hashCode γ l hl v1 g) dX11_does_8 q2282 q2283 q2284 q119 q2285 (by decide +kernel) rfl h ⟨rfl, by decide, by decide⟩ (Nat.le_of_ble_eq_true rfl) (Nat.le_of_ble_eq_true rfl) rfl (Nat.le_of_ble_eq_true rfl))) (fun v3 g2 => ?_)
  refine AW_jn (P := fun (j : Int32 → AH → Option ((Int32 × AH) ⊕ (Nat × AH))) => ∀ (y4 : Int32) (g5 : AH), AW (ρX ρI) γ l ck_X11_does g 127 [(0, .ref x0), (1, .ref x1), (3, .int y4)] [] g5 (j y4 g5)) (fun y4 g5 => ?_) (fun j6 h_j6 => ?_)
  · skip
    refine r_iload_n (pc := 127) dX11_does_127 rfl 2 rfl ?_
    refine r_tabC (v := (0 : Int32)) (tgt := 164) (pc := 128) dX11_does_128 (by decide) (by decide) rfl (by decide) ?_ (fun c0 => ?_)
    · skip
      refine r_aload_n (pc := 164) dX11_does_164 rfl 1 rfl ?_
      refine r_aload_n (pc := 165) dX11_does_165 rfl 0 rfl ?_
      refine r_getI (f := 107) (pc := 166) dX11_does_166 q2266 (Or.inl rfl) rfl (fun v7 => ?_)
      refine r_cXI (pc := 169) (rest := []) (RunOK_chk (fun h => run_V (n := 1) (c9 := 2) (As := [.int v7]) (rest := []) (t_X2_asks γ l hl x1 v7 g5) dX11_does_169 q2355 q2356 q2357 q109 q2358 (by decide +kernel) rfl h ⟨rfl, by decide, by decide⟩ (Nat.le_of_ble_eq_true rfl) (Nat.le_of_ble_eq_true rfl) rfl (Nat.le_of_ble_eq_true rfl))) (fun e10 g11 => ?_) (fun v9 g8 => ?_)
      · skip
        exact x_out (by decide)
      · skip
        exact r_inl (fun _ => rfl) (r_iret (pc := 172) dX11_does_172 rfl)
    · skip
      refine r_tabC (v := (1 : Int32)) (tgt := 173) (pc := 128) dX11_does_128 (by decide) (by decide) rfl (by decide) ?_ (fun c1 => ?_)
      · skip
        refine r_aload_n (pc := 173) dX11_does_173 rfl 1 rfl ?_
        refine r_aload_n (pc := 174) dX11_does_174 rfl 0 rfl ?_
        refine r_getI (f := 107) (pc := 175) dX11_does_175 q2266 (Or.inl rfl) rfl (fun v12 => ?_)
        refine r_cXI (pc := 178) (rest := []) (RunOK_chk (fun h => run_V (n := 1) (c9 := 2) (As := [.int v12]) (rest := []) (t_X2_cancels γ l hl x1 v12 g5) dX11_does_178 q2431 q2432 q2433 q109 q2434 (by decide +kernel) rfl h ⟨rfl, by decide, by decide⟩ (Nat.le_of_ble_eq_true rfl) (Nat.le_of_ble_eq_true rfl) rfl (Nat.le_of_ble_eq_true rfl))) (fun e15 g16 => ?_) (fun v14 g13 => ?_)
        · skip
          exact x_out (by decide)
        · skip
          exact r_inl (fun _ => rfl) (r_iret (pc := 181) dX11_does_181 rfl)
      · skip
        refine r_tabC (v := (2 : Int32)) (tgt := 182) (pc := 128) dX11_does_128 (by decide) (by decide) rfl (by decide) ?_ (fun c2 => ?_)
        · skip
          refine r_aload_n (pc := 182) dX11_does_182 rfl 1 rfl ?_
          refine r_aload_n (pc := 183) dX11_does_183 rfl 0 rfl ?_
          refine r_getI (f := 107) (pc := 184) dX11_does_184 q2266 (Or.inl rfl) rfl (fun v17 => ?_)
          refine r_cXI (pc := 187) (rest := []) (RunOK_chk (fun h => run_V (n := 1) (c9 := 2) (As := [.int v17]) (rest := []) (t_X2_faints γ l hl x1 v17 g5) dX11_does_187 q2470 q2471 q2472 q109 q2473 (by decide +kernel) rfl h ⟨rfl, by decide, by decide⟩ (Nat.le_of_ble_eq_true rfl) (Nat.le_of_ble_eq_true rfl) rfl (Nat.le_of_ble_eq_true rfl))) (fun e20 g21 => ?_) (fun v19 g18 => ?_)
          · skip
            exact x_out (by decide)
          · skip
            exact r_inl (fun _ => rfl) (r_iret (pc := 190) dX11_does_190 rfl)
        · skip
          refine r_tabC (v := (3 : Int32)) (tgt := 191) (pc := 128) dX11_does_128 (by decide) (by decide) rfl (by decide) ?_ (fun c3 => ?_)
          · skip
            refine r_aload_n (pc := 191) dX11_does_191 rfl 1 rfl ?_
            refine r_aload_n (pc := 192) dX11_does_192 rfl 0 rfl ?_
            refine r_getI (f := 107) (pc := 193) dX11_does_193 q2266 (Or.inl rfl) rfl (fun v22 => ?_)
            refine r_cXI (pc := 196) (rest := []) (RunOK_chk (fun h => run_V (n := 1) (c9 := 2) (As := [.int v22]) (rest := []) (t_X2_wakes γ l hl x1 v22 g5) dX11_does_196 q2490 q2491 q2492 q109 q2493 (by decide +kernel) rfl h ⟨rfl, by decide, by decide⟩ (Nat.le_of_ble_eq_true rfl) (Nat.le_of_ble_eq_true rfl) rfl (Nat.le_of_ble_eq_true rfl))) (fun e25 g26 => ?_) (fun v24 g23 => ?_)
            · skip
              exact x_out (by decide)
            · skip
              exact r_inl (fun _ => rfl) (r_iret (pc := 199) dX11_does_199 rfl)
          · skip
            refine r_tabC (v := (4 : Int32)) (tgt := 200) (pc := 128) dX11_does_128 (by decide) (by decide) rfl (by decide) ?_ (fun c4 => ?_)
            · skip
              refine r_aload_n (pc := 200) dX11_does_200 rfl 1 rfl ?_
              refine r_aload_n (pc := 201) dX11_does_201 rfl 0 rfl ?_
              refine r_getI (f := 107) (pc := 202) dX11_does_202 q2266 (Or.inl rfl) rfl (fun v27 => ?_)
              refine r_aload_n (pc := 205) dX11_does_205 rfl 0 rfl ?_
              refine r_getI (f := 108) (pc := 206) dX11_does_206 q2267 (Or.inl rfl) rfl (fun v28 => ?_)
              refine r_aload_n (pc := 209) dX11_does_209 rfl 0 rfl ?_
              refine r_getI (f := 109) (pc := 210) dX11_does_210 q2268 (Or.inl rfl) rfl (fun v29 => ?_)
              refine r_cXI (pc := 213) (rest := []) (RunOK_chk (fun h => run_V (n := 3) (c9 := 2) (As := [.int v27, .int v28, .int v29]) (rest := []) (t_X2_learns γ l hl x1 v27 v28 v29 g5) dX11_does_213 q2522 q2523 q2524 q109 q2525 (by decide +kernel) rfl h ⟨rfl, by decide, by decide⟩ (Nat.le_of_ble_eq_true rfl) (Nat.le_of_ble_eq_true rfl) rfl (Nat.le_of_ble_eq_true rfl))) (fun e32 g33 => ?_) (fun v31 g30 => ?_)
              · skip
                exact x_out (by decide)
              · skip
                exact r_inl (fun _ => rfl) (r_iret (pc := 216) dX11_does_216 rfl)
            · skip
              refine r_tabD (tgt := 217) (pc := 128) dX11_does_128 (by have e0 := lv_neT c0 (a := 0) rfl; have e1 := lv_neT c1 (a := 1) rfl; have e2 := lv_neT c2 (a := 2) rfl; have e3 := lv_neT c3 (a := 3) rfl; have e4 := lv_neT c4 (a := 4) rfl; omega) (by decide) ?_
              refine r_aload_n (pc := 217) dX11_does_217 rfl 1 rfl ?_
              refine r_aload_n (pc := 218) dX11_does_218 rfl 0 rfl ?_
              refine r_getI (f := 107) (pc := 219) dX11_does_219 q2266 (Or.inl rfl) rfl (fun v34 => ?_)
              refine r_cI (pc := 222) (rest := []) (RunOK_chk (fun h => run_V (n := 1) (c9 := 2) (As := [.int v34]) (rest := []) (t_X2_passes γ l hl x1 v34 g5) dX11_does_222 q2565 q2566 q2567 q109 q2568 (by decide +kernel) rfl h ⟨rfl, by decide, by decide⟩ (Nat.le_of_ble_eq_true rfl) (Nat.le_of_ble_eq_true rfl) rfl (Nat.le_of_ble_eq_true rfl))) (fun v36 g35 => ?_)
              exact r_inl (fun _ => rfl) (r_iret (pc := 225) dX11_does_225 rfl)
  · skip
    refine r_lookC (v := (-1367724422 : Int32)) (tgt := 74) (pc := 11) dX11_does_11 rfl rfl (by decide) ?_ (fun c0 => ?_)
    · skip
      refine r_aload_n (pc := 74) dX11_does_74 rfl 1 rfl ?_
      refine r_ldcS (pc := 75) dX11_does_75 (List.mem_of_getElem? (i := 3) rfl) ?_
      refine r_cI (pc := 77) (rest := []) (RunOK_chk (fun h => run_V (n := 1) (c9 := 7) (As := [.ref (γ.1 15)]) (rest := []) (t_J7_equals γ l hl v1 (γ.1 15) g2) dX11_does_77 q2344 q2345 q2346 q119 q2347 (by decide +kernel) rfl h ⟨rfl, by decide, by decide⟩ (Nat.le_of_ble_eq_true rfl) (Nat.le_of_ble_eq_true rfl) rfl (Nat.le_of_ble_eq_true rfl))) (fun v38 g37 => ?_)
      refine r_if_eq (tgt := 127) (pc := 80) dX11_does_80 (by decide) ?_ ?_
      · skip
        refine AW_sub [2, 3, 0] rfl ?_
        exact h_j6 (-1 : Int32) g37
      · skip
        refine r_iconst (v := (1 : Int32)) (pc := 83) dX11_does_83 (by decide) ?_
        refine r_istore_n (pc := 84) dX11_does_84 rfl (Nat.le_of_ble_eq_true rfl) rfl ?_
        refine r_goto (tgt := 127) (pc := 85) dX11_does_85 (by decide) ?_
        refine AW_sub [2, 3, 0] rfl ?_
        exact h_j6 (1 : Int32) g37
    · skip
      refine r_lookC (v := (96889 : Int32)) (tgt := 60) (pc := 11) dX11_does_11 rfl rfl (by decide) ?_ (fun c1 => ?_)
      · skip
        refine r_aload_n (pc := 60) dX11_does_60 rfl 1 rfl ?_
        refine r_ldcS (pc := 61) dX11_does_61 (List.mem_of_getElem? (i := 2) rfl) ?_
        refine r_cI (pc := 63) (rest := []) (RunOK_chk (fun h => run_V (n := 1) (c9 := 7) (As := [.ref (γ.1 14)]) (rest := []) (t_J7_equals γ l hl v1 (γ.1 14) g2) dX11_does_63 q2344 q2345 q2346 q119 q2347 (by decide +kernel) rfl h ⟨rfl, by decide, by decide⟩ (Nat.le_of_ble_eq_true rfl) (Nat.le_of_ble_eq_true rfl) rfl (Nat.le_of_ble_eq_true rfl))) (fun v40 g39 => ?_)
        refine r_if_eq (tgt := 127) (pc := 66) dX11_does_66 (by decide) ?_ ?_
        · skip
          refine AW_sub [2, 3, 0] rfl ?_
          exact h_j6 (-1 : Int32) g39
        · skip
          refine r_iconst (v := (0 : Int32)) (pc := 69) dX11_does_69 (by decide) ?_
          refine r_istore_n (pc := 70) dX11_does_70 rfl (Nat.le_of_ble_eq_true rfl) rfl ?_
          refine r_goto (tgt := 127) (pc := 71) dX11_does_71 (by decide) ?_
          refine AW_sub [2, 3, 0] rfl ?_
          exact h_j6 (0 : Int32) g39
      · skip
        refine r_lookC (v := (3641764 : Int32)) (tgt := 102) (pc := 11) dX11_does_11 rfl rfl (by decide) ?_ (fun c2 => ?_)
        · skip
          refine r_aload_n (pc := 102) dX11_does_102 rfl 1 rfl ?_
          refine r_ldcS (pc := 103) dX11_does_103 (List.mem_of_getElem? (i := 5) rfl) ?_
          refine r_cI (pc := 105) (rest := []) (RunOK_chk (fun h => run_V (n := 1) (c9 := 7) (As := [.ref (γ.1 17)]) (rest := []) (t_J7_equals γ l hl v1 (γ.1 17) g2) dX11_does_105 q2344 q2345 q2346 q119 q2347 (by decide +kernel) rfl h ⟨rfl, by decide, by decide⟩ (Nat.le_of_ble_eq_true rfl) (Nat.le_of_ble_eq_true rfl) rfl (Nat.le_of_ble_eq_true rfl))) (fun v42 g41 => ?_)
          refine r_if_eq (tgt := 127) (pc := 108) dX11_does_108 (by decide) ?_ ?_
          · skip
            refine AW_sub [2, 3, 0] rfl ?_
            exact h_j6 (-1 : Int32) g41
          · skip
            refine r_iconst (v := (3 : Int32)) (pc := 111) dX11_does_111 (by decide) ?_
            refine r_istore_n (pc := 112) dX11_does_112 rfl (Nat.le_of_ble_eq_true rfl) rfl ?_
            refine r_goto (tgt := 127) (pc := 113) dX11_does_113 (by decide) ?_
            refine AW_sub [2, 3, 0] rfl ?_
            exact h_j6 (3 : Int32) g41
        · skip
          refine r_lookC (v := (97193300 : Int32)) (tgt := 88) (pc := 11) dX11_does_11 rfl rfl (by decide) ?_ (fun c3 => ?_)
          · skip
            refine r_aload_n (pc := 88) dX11_does_88 rfl 1 rfl ?_
            refine r_ldcS (pc := 89) dX11_does_89 (List.mem_of_getElem? (i := 4) rfl) ?_
            refine r_cI (pc := 91) (rest := []) (RunOK_chk (fun h => run_V (n := 1) (c9 := 7) (As := [.ref (γ.1 16)]) (rest := []) (t_J7_equals γ l hl v1 (γ.1 16) g2) dX11_does_91 q2344 q2345 q2346 q119 q2347 (by decide +kernel) rfl h ⟨rfl, by decide, by decide⟩ (Nat.le_of_ble_eq_true rfl) (Nat.le_of_ble_eq_true rfl) rfl (Nat.le_of_ble_eq_true rfl))) (fun v44 g43 => ?_)
            refine r_if_eq (tgt := 127) (pc := 94) dX11_does_94 (by decide) ?_ ?_
            · skip
              refine AW_sub [2, 3, 0] rfl ?_
              exact h_j6 (-1 : Int32) g43
            · skip
              refine r_iconst (v := (2 : Int32)) (pc := 97) dX11_does_97 (by decide) ?_
              refine r_istore_n (pc := 98) dX11_does_98 rfl (Nat.le_of_ble_eq_true rfl) rfl ?_
              refine r_goto (tgt := 127) (pc := 99) dX11_does_99 (by decide) ?_
              refine AW_sub [2, 3, 0] rfl ?_
              exact h_j6 (2 : Int32) g43
          · skip
            refine r_lookC (v := (102846020 : Int32)) (tgt := 116) (pc := 11) dX11_does_11 rfl rfl (by decide) ?_ (fun c4 => ?_)
            · skip
              refine r_aload_n (pc := 116) dX11_does_116 rfl 1 rfl ?_
              refine r_ldcS (pc := 117) dX11_does_117 (List.mem_of_getElem? (i := 6) rfl) ?_
              refine r_cI (pc := 119) (rest := []) (RunOK_chk (fun h => run_V (n := 1) (c9 := 7) (As := [.ref (γ.1 18)]) (rest := []) (t_J7_equals γ l hl v1 (γ.1 18) g2) dX11_does_119 q2344 q2345 q2346 q119 q2347 (by decide +kernel) rfl h ⟨rfl, by decide, by decide⟩ (Nat.le_of_ble_eq_true rfl) (Nat.le_of_ble_eq_true rfl) rfl (Nat.le_of_ble_eq_true rfl))) (fun v46 g45 => ?_)
              refine r_if_eq (tgt := 127) (pc := 122) dX11_does_122 (by decide) ?_ ?_
              · skip
                refine AW_sub [2, 3, 0] rfl ?_
                exact h_j6 (-1 : Int32) g45
              · skip
                refine r_iconst (v := (4 : Int32)) (pc := 125) dX11_does_125 (by decide) ?_
                refine r_istore_n (pc := 126) dX11_does_126 rfl (Nat.le_of_ble_eq_true rfl) rfl ?_
                refine AW_sub [2, 3, 0] rfl ?_
                exact h_j6 (4 : Int32) g45
            · skip
              refine r_lookD (tgt := 127) (pc := 11) dX11_does_11 rfl (by refine (lv_osw c0 rfl).trans ?_; refine (lv_osw c1 rfl).trans ?_; refine (lv_osw c2 rfl).trans ?_; refine (lv_osw c3 rfl).trans ?_; refine (lv_osw c4 rfl).trans ?_; rfl) (by decide) ?_
              refine AW_sub [2, 3, 0] rfl ?_
              exact h_j6 (-1 : Int32) g2
abbrev ck_X1_changed : CK := ("BanquetVotes", prog_1_method_15_code, 7, (some .int), "changed", [(9, 32, 33, 1)], 15)
def f_X1_changed (γ : GP) (x0 : Nat) (x1 : Nat) (x2 : Int32) (x3 : Int32) (x4 : Int32) (g : AH) : Option ((Int32 × AH) ⊕ (Nat × AH)) := gR g x0 0 fun v1 => bR ((if hK g v1 = 2 then f_X2_copy γ v1 g else none)) fun v3 g2 => mO g2 27 fun q4 g5 => bV ((if q4 ≠ 0 then f_X11_init γ q4 x1 x2 x3 x4 g5 else none)) fun g6 => bXI ((if hK g6 q4 = 27 then f_X11_does γ q4 v3 g6 else none)) (fun e9 g10 => (if hK g10 e9 = 24 then bR ((if hK g10 x0 = 1 then f_X1_refused γ x0 e9 g10 else none)) fun v12 g11 => (tw γ g11 v12 (thr v12 g11)) else none)) fun v8 g7 => bI ((if hK g7 x0 = 1 then f_X1_become γ x0 v3 v8 g7 else none)) fun v14 g13 => (some (.inl (v14, g13)))
theorem t_X1_changed (γ : GP) (l : Launch) (hl : l.stackTraces = false) (x0 : Nat) (x1 : Nat) (x2 : Int32) (x3 : Int32) (x4 : Int32) (g : AH) : TrM (ρX ρI) γ l ⟨"BanquetVotes", "changed", "(Ljava/lang/String;III)I"⟩ (wsW_ ⟨"BanquetVotes", "changed", "(Ljava/lang/String;III)I"⟩ prog_1_method_15_code 7 (some .int) [(9, 32, 33, 1)]) 15 [.ref x0, .ref x1, .int x2, .int x3, .int x4] g (f_X1_changed γ x0 x1 x2 x3 x4 g) := by
  refine TrM_ofH (by decide) (Nat.le_of_ble_eq_true rfl) ?_
  unfold f_X1_changed
  change AW (ρX ρI) γ l ck_X1_changed g 0 [(0, .ref x0), (1, .ref x1), (2, .int x2), (3, .int x3), (4, .int x4)] [] g _
  refine r_aload_n (pc := 0) dX1_changed_0 rfl 0 rfl ?_
  refine r_getR (f := 0) (pc := 1) dX1_changed_1 q320 (Or.inl rfl) rfl (fun v1 => ?_)
  refine r_cR (pc := 4) (rest := []) (RunOK_chk (fun h => run_V (n := 0) (c9 := 2) (As := []) (rest := []) (t_X2_copy γ l hl v1 g) dX1_changed_4 q1219 q1220 q1221 q109 q1222 (by decide +kernel) rfl h ⟨rfl, by decide, by decide⟩ (Nat.le_of_ble_eq_true rfl) (Nat.le_of_ble_eq_true rfl) rfl (Nat.le_of_ble_eq_true rfl))) (fun v3 g2 => ?_)
  refine r_astore (pc := 7) dX1_changed_7 (Nat.le_of_ble_eq_true rfl) rfl ?_
  refine r_aload_n (pc := 9) dX1_changed_9 rfl 1 rfl ?_
  refine r_aload (pc := 10) dX1_changed_10 0 rfl ?_
  refine r_new (c := 27) (pc := 12) dX1_changed_12 q2259 (by decide) (by decide) (fun q4 g5 => ?_)
  refine r_dup (pc := 15) dX1_changed_15 rfl ?_
  refine r_aload_n (pc := 16) dX1_changed_16 rfl 2 rfl ?_
  refine r_iload_n (pc := 17) dX1_changed_17 rfl 3 rfl ?_
  refine r_iload_n (pc := 18) dX1_changed_18 rfl 4 rfl ?_
  refine r_iload (pc := 19) dX1_changed_19 5 rfl ?_
  refine r_cV (pc := 21) (rest := [.ref q4, .ref v3, .ref x0]) (RunOK_chk (fun h => run_I (n := 4) (As := [.ref x1, .int x2, .int x3, .int x4]) (rest := [.ref q4, .ref v3, .ref x0]) (t_X11_init γ l hl q4 x1 x2 x3 x4 g5) dX1_changed_21 q2261 q2262 q165 q2263 rfl (by decide +kernel) rfl h (Nat.le_of_ble_eq_true rfl) (Nat.le_of_ble_eq_true rfl) rfl (Nat.le_of_ble_eq_true rfl))) (fun g6 => ?_)
  refine r_aload (pc := 24) dX1_changed_24 0 rfl ?_
  refine r_cXI (pc := 26) (rest := [.ref v3, .ref x0]) (RunOK_chk (fun h => run_V (n := 1) (c9 := 27) (As := [.ref v3]) (rest := [.ref v3, .ref x0]) (t_X11_does γ l hl q4 v3 g6) dX1_changed_26 q2278 q2279 q2280 q165 q2281 (by decide +kernel) rfl h ⟨rfl, by decide, by decide⟩ (Nat.le_of_ble_eq_true rfl) (Nat.le_of_ble_eq_true rfl) rfl (Nat.le_of_ble_eq_true rfl))) (fun e9 g10 => ?_) (fun v8 g7 => ?_)
  · skip
    refine AX_if (fun hc => ?_) (fun _ => ?_)
    · refine x_catch [] (9, 32, 33, 1) [] rfl hc ((fun _ h => absurd h List.not_mem_nil)) (by decide) (by decide) q1207 mv1901 ?_
      refine r_astore (pc := 33) dX1_changed_33 (Nat.le_of_ble_eq_true rfl) rfl ?_
      refine r_aload_n (pc := 35) dX1_changed_35 rfl 2 rfl ?_
      refine r_aload (pc := 36) dX1_changed_36 0 rfl ?_
      refine r_cR (pc := 38) (rest := []) (RunOK_chk (fun h => run_V (n := 1) (c9 := 1) (As := [.ref e9]) (rest := []) (t_X1_refused γ l hl x0 e9 g10) dX1_changed_38 q1945 q1947 qs19 q108 q1948 (by decide +kernel) rfl h ⟨rfl, by decide, by decide⟩ (Nat.le_of_ble_eq_true rfl) (Nat.le_of_ble_eq_true rfl) rfl (Nat.le_of_ble_eq_true rfl))) (fun v12 g11 => ?_)
      refine r_athrow (pc := 41) dX1_changed_41 ?_
      exact x_out (by decide)
    · skip
      exact fun r h => by cases h
  · skip
    refine r_cI (pc := 29) (rest := []) (RunOK_chk (fun h => run_V (n := 2) (c9 := 1) (As := [.ref v3, .int v8]) (rest := []) (t_X1_become γ l hl x0 v3 v8 g7) dX1_changed_29 q1926 q1928 qs17 q108 q1929 (by decide +kernel) rfl h ⟨rfl, by decide, by decide⟩ (Nat.le_of_ble_eq_true rfl) (Nat.le_of_ble_eq_true rfl) rfl (Nat.le_of_ble_eq_true rfl))) (fun v14 g13 => ?_)
    exact r_inl (fun _ => rfl) (r_iret (pc := 32) dX1_changed_32 rfl)
abbrev ck_X1_ask : CK := ("BanquetVotes", prog_1_method_25_code, 2, (some .int), "ask", [], 16)
def f_X1_ask (γ : GP) (x0 : Nat) (x1 : Int32) (g : AH) : Option ((Int32 × AH) ⊕ (Nat × AH)) := bXV ((if hK g x0 = 1 then f_X1_requireCourse γ x0 x1 g else none)) (fun e2 g3 => (thr e2 g3)) fun g1 => bXI ((if hK g1 x0 = 1 then f_X1_changed γ x0 (γ.1 13) x1 (0 : Int32) (0 : Int32) g1 else none)) (fun e6 g7 => (thr e6 g7)) fun v5 g4 => (some (.inl (v5, g4)))
theorem t_X1_ask (γ : GP) (l : Launch) (hl : l.stackTraces = false) (x0 : Nat) (x1 : Int32) (g : AH) : TrM (ρX ρI) γ l ⟨"BanquetVotes", "ask", "(I)I"⟩ (ws_ ⟨"BanquetVotes", "ask", "(I)I"⟩ prog_1_method_25_code 2 (some .int)) 16 [.ref x0, .int x1] g (f_X1_ask γ x0 x1 g) := by
  refine TrM_of (plainFor_of_name (by decide)) (Nat.le_of_ble_eq_true rfl) ?_
  unfold f_X1_ask
  change AW (ρX ρI) γ l ck_X1_ask g 0 [(0, .ref x0), (1, .int x1)] [] g _
  refine r_aload_n (pc := 0) dX1_ask_0 rfl 0 rfl ?_
  refine r_iload_n (pc := 1) dX1_ask_1 rfl 1 rfl ?_
  refine r_cXV (pc := 2) (rest := []) (RunOK_chk (fun h => run_V (n := 1) (c9 := 1) (As := [.int x1]) (rest := []) (t_X1_requireCourse γ l hl x0 x1 g) dX1_ask_2 q2115 q2117 qs21 q108 q2118 (by decide +kernel) rfl h ⟨rfl, by decide, by decide⟩ (Nat.le_of_ble_eq_true rfl) (Nat.le_of_ble_eq_true rfl) rfl (Nat.le_of_ble_eq_true rfl))) (fun e2 g3 => ?_) (fun g1 => ?_)
  · skip
    exact x_out (by decide)
  · skip
    refine r_aload_n (pc := 5) dX1_ask_5 rfl 0 rfl ?_
    refine r_ldcS (pc := 6) dX1_ask_6 (List.mem_of_getElem? (i := 1) rfl) ?_
    refine r_iload_n (pc := 8) dX1_ask_8 rfl 1 rfl ?_
    refine r_iconst (v := (0 : Int32)) (pc := 9) dX1_ask_9 (by decide) ?_
    refine r_iconst (v := (0 : Int32)) (pc := 10) dX1_ask_10 (by decide) ?_
    refine r_cXI (pc := 11) (rest := []) (RunOK_chk (fun h => run_VX (n := 4) (c9 := 1) (As := [.ref (γ.1 13), .int x1, .int (0 : Int32), .int (0 : Int32)]) (rest := []) (t_X1_changed γ l hl x0 (γ.1 13) x1 (0 : Int32) (0 : Int32) g1) dX1_ask_11 q2255 q2257 qs22 q108 q2258 (by decide +kernel) rfl h ⟨rfl, by decide, by decide⟩ (Nat.le_of_ble_eq_true rfl) (Nat.le_of_ble_eq_true rfl) rfl (Nat.le_of_ble_eq_true rfl))) (fun e6 g7 => ?_) (fun v5 g4 => ?_)
    · skip
      exact x_out (by decide)
    · skip
      exact r_inl (fun _ => rfl) (r_iret (pc := 14) dX1_ask_14 rfl)
abbrev ck_X1_cancel : CK := ("BanquetVotes", prog_1_method_26_code, 2, (some .int), "cancel", [], 16)
def f_X1_cancel (γ : GP) (x0 : Nat) (x1 : Int32) (g : AH) : Option ((Int32 × AH) ⊕ (Nat × AH)) := bXV ((if hK g x0 = 1 then f_X1_requireCourse γ x0 x1 g else none)) (fun e2 g3 => (thr e2 g3)) fun g1 => bXI ((if hK g1 x0 = 1 then f_X1_changed γ x0 (γ.1 19) x1 (0 : Int32) (0 : Int32) g1 else none)) (fun e6 g7 => (thr e6 g7)) fun v5 g4 => (some (.inl (v5, g4)))
theorem t_X1_cancel (γ : GP) (l : Launch) (hl : l.stackTraces = false) (x0 : Nat) (x1 : Int32) (g : AH) : TrM (ρX ρI) γ l ⟨"BanquetVotes", "cancel", "(I)I"⟩ (ws_ ⟨"BanquetVotes", "cancel", "(I)I"⟩ prog_1_method_26_code 2 (some .int)) 16 [.ref x0, .int x1] g (f_X1_cancel γ x0 x1 g) := by
  refine TrM_of (plainFor_of_name (by decide)) (Nat.le_of_ble_eq_true rfl) ?_
  unfold f_X1_cancel
  change AW (ρX ρI) γ l ck_X1_cancel g 0 [(0, .ref x0), (1, .int x1)] [] g _
  refine r_aload_n (pc := 0) dX1_cancel_0 rfl 0 rfl ?_
  refine r_iload_n (pc := 1) dX1_cancel_1 rfl 1 rfl ?_
  refine r_cXV (pc := 2) (rest := []) (RunOK_chk (fun h => run_V (n := 1) (c9 := 1) (As := [.int x1]) (rest := []) (t_X1_requireCourse γ l hl x0 x1 g) dX1_cancel_2 q2115 q2117 qs21 q108 q2118 (by decide +kernel) rfl h ⟨rfl, by decide, by decide⟩ (Nat.le_of_ble_eq_true rfl) (Nat.le_of_ble_eq_true rfl) rfl (Nat.le_of_ble_eq_true rfl))) (fun e2 g3 => ?_) (fun g1 => ?_)
  · skip
    exact x_out (by decide)
  · skip
    refine r_aload_n (pc := 5) dX1_cancel_5 rfl 0 rfl ?_
    refine r_ldcwS (pc := 6) dX1_cancel_6 (List.mem_of_getElem? (i := 7) rfl) ?_
    refine r_iload_n (pc := 9) dX1_cancel_9 rfl 1 rfl ?_
    refine r_iconst (v := (0 : Int32)) (pc := 10) dX1_cancel_10 (by decide) ?_
    refine r_iconst (v := (0 : Int32)) (pc := 11) dX1_cancel_11 (by decide) ?_
    refine r_cXI (pc := 12) (rest := []) (RunOK_chk (fun h => run_VX (n := 4) (c9 := 1) (As := [.ref (γ.1 19), .int x1, .int (0 : Int32), .int (0 : Int32)]) (rest := []) (t_X1_changed γ l hl x0 (γ.1 19) x1 (0 : Int32) (0 : Int32) g1) dX1_cancel_12 q2255 q2257 qs22 q108 q2258 (by decide +kernel) rfl h ⟨rfl, by decide, by decide⟩ (Nat.le_of_ble_eq_true rfl) (Nat.le_of_ble_eq_true rfl) rfl (Nat.le_of_ble_eq_true rfl))) (fun e6 g7 => ?_) (fun v5 g4 => ?_)
    · skip
      exact x_out (by decide)
    · skip
      exact r_inl (fun _ => rfl) (r_iret (pc := 15) dX1_cancel_15 rfl)
abbrev ck_X1_requireWho : CK := ("BanquetVotes", prog_1_method_10_code, 2, none, "requireWho", [], 9)
def f_X1_requireWho (γ : GP) (x0 : Nat) (x1 : Int32) (g : AH) : Option ((AH) ⊕ (Nat × AH)) := gR g x0 0 fun v1 => bR ((if hK g v1 = 2 then f_X2_cooks γ v1 g else none)) fun v3 g2 => bI ((if hK g2 v3 = 3 then f_J2_size γ v3 g2 else if hK g2 v3 = 5 then f_J4_size γ v3 g2 else none)) fun v5 g4 => bXV (f_X1_requireIndex γ x1 (-1 : Int32) v5 g4) (fun e7 g8 => (thr e7 g8)) fun g6 => (some (.inl g6))
theorem t_X1_requireWho (γ : GP) (l : Launch) (hl : l.stackTraces = false) (x0 : Nat) (x1 : Int32) (g : AH) : TrM (ρX ρV) γ l ⟨"BanquetVotes", "requireWho", "(I)V"⟩ (ws_ ⟨"BanquetVotes", "requireWho", "(I)V"⟩ prog_1_method_10_code 2 none) 9 [.ref x0, .int x1] g (f_X1_requireWho γ x0 x1 g) := by
  refine TrM_of (plainFor_of_name (by decide)) (Nat.le_of_ble_eq_true rfl) ?_
  unfold f_X1_requireWho
  change AW (ρX ρV) γ l ck_X1_requireWho g 0 [(0, .ref x0), (1, .int x1)] [] g _
  refine r_iload_n (pc := 0) dX1_requireWho_0 rfl 1 rfl ?_
  refine r_iconst (v := (-1 : Int32)) (pc := 1) dX1_requireWho_1 (by decide) ?_
  refine r_aload_n (pc := 2) dX1_requireWho_2 rfl 0 rfl ?_
  refine r_getR (f := 0) (pc := 3) dX1_requireWho_3 q320 (Or.inl rfl) rfl (fun v1 => ?_)
  refine r_cR (pc := 6) (rest := [.int (-1 : Int32), .int x1]) (RunOK_chk (fun h => run_V (n := 0) (c9 := 2) (As := []) (rest := [.int (-1 : Int32), .int x1]) (t_X2_cooks γ l hl v1 g) dX1_requireWho_6 q1999 q2000 q2001 q109 q2002 (by decide +kernel) rfl h ⟨rfl, by decide, by decide⟩ (Nat.le_of_ble_eq_true rfl) (Nat.le_of_ble_eq_true rfl) rfl (Nat.le_of_ble_eq_true rfl))) (fun v3 g2 => ?_)
  refine r_cI (pc := 9) (rest := [.int (-1 : Int32), .int x1]) (RunOK_if (fun h => run_F (n := 0) (c9 := 3) (As := []) (rest := [.int (-1 : Int32), .int x1]) (t_J2_size γ l hl v3 g2) dX1_requireWho_9 q2004 q1891 q794 q112 q795 (by decide +kernel) (by decide +kernel) rfl h ⟨by decide, by decide⟩ (Nat.le_of_ble_eq_true rfl) (Nat.le_of_ble_eq_true rfl) rfl (Nat.le_of_ble_eq_true rfl)) (RunOK_chk (fun h => run_F (n := 0) (c9 := 5) (As := []) (rest := [.int (-1 : Int32), .int x1]) (t_J4_size γ l hl v3 g2) dX1_requireWho_9 q2004 q1894 q797 q116 q798 (by decide +kernel) (by decide +kernel) rfl h ⟨by decide, by decide⟩ (Nat.le_of_ble_eq_true rfl) (Nat.le_of_ble_eq_true rfl) rfl (Nat.le_of_ble_eq_true rfl)))) (fun v5 g4 => ?_)
  refine r_cXV (pc := 14) (rest := []) (run_S (n := 3) (As := [.int x1, .int (-1 : Int32), .int v5]) (rest := []) (t_X1_requireIndex γ l hl x1 (-1 : Int32) v5 g4) dX1_requireWho_14 q2005 q2006 q108 q2007 (by decide +kernel) rfl (Nat.le_of_ble_eq_true rfl) (Nat.le_of_ble_eq_true rfl) rfl (Nat.le_of_ble_eq_true rfl)) (fun e7 g8 => ?_) (fun g6 => ?_)
  · skip
    exact x_out (by decide)
  · skip
    exact r_inl (fun _ => rfl) (r_vret (pc := 17) dX1_requireWho_17 rfl)
abbrev ck_X1_faint : CK := ("BanquetVotes", prog_1_method_27_code, 2, (some .int), "faint", [], 16)
def f_X1_faint (γ : GP) (x0 : Nat) (x1 : Int32) (g : AH) : Option ((Int32 × AH) ⊕ (Nat × AH)) := bXV ((if hK g x0 = 1 then f_X1_requireWho γ x0 x1 g else none)) (fun e2 g3 => (thr e2 g3)) fun g1 => bXI ((if hK g1 x0 = 1 then f_X1_changed γ x0 (γ.1 20) x1 (0 : Int32) (0 : Int32) g1 else none)) (fun e6 g7 => (thr e6 g7)) fun v5 g4 => (some (.inl (v5, g4)))
theorem t_X1_faint (γ : GP) (l : Launch) (hl : l.stackTraces = false) (x0 : Nat) (x1 : Int32) (g : AH) : TrM (ρX ρI) γ l ⟨"BanquetVotes", "faint", "(I)I"⟩ (ws_ ⟨"BanquetVotes", "faint", "(I)I"⟩ prog_1_method_27_code 2 (some .int)) 16 [.ref x0, .int x1] g (f_X1_faint γ x0 x1 g) := by
  refine TrM_of (plainFor_of_name (by decide)) (Nat.le_of_ble_eq_true rfl) ?_
  unfold f_X1_faint
  change AW (ρX ρI) γ l ck_X1_faint g 0 [(0, .ref x0), (1, .int x1)] [] g _
  refine r_aload_n (pc := 0) dX1_faint_0 rfl 0 rfl ?_
  refine r_iload_n (pc := 1) dX1_faint_1 rfl 1 rfl ?_
  refine r_cXV (pc := 2) (rest := []) (RunOK_chk (fun h => run_V (n := 1) (c9 := 1) (As := [.int x1]) (rest := []) (t_X1_requireWho γ l hl x0 x1 g) dX1_faint_2 q2761 q2763 qs40 q108 q2764 (by decide +kernel) rfl h ⟨rfl, by decide, by decide⟩ (Nat.le_of_ble_eq_true rfl) (Nat.le_of_ble_eq_true rfl) rfl (Nat.le_of_ble_eq_true rfl))) (fun e2 g3 => ?_) (fun g1 => ?_)
  · skip
    exact x_out (by decide)
  · skip
    refine r_aload_n (pc := 5) dX1_faint_5 rfl 0 rfl ?_
    refine r_ldcwS (pc := 6) dX1_faint_6 (List.mem_of_getElem? (i := 8) rfl) ?_
    refine r_iload_n (pc := 9) dX1_faint_9 rfl 1 rfl ?_
    refine r_iconst (v := (0 : Int32)) (pc := 10) dX1_faint_10 (by decide) ?_
    refine r_iconst (v := (0 : Int32)) (pc := 11) dX1_faint_11 (by decide) ?_
    refine r_cXI (pc := 12) (rest := []) (RunOK_chk (fun h => run_VX (n := 4) (c9 := 1) (As := [.ref (γ.1 20), .int x1, .int (0 : Int32), .int (0 : Int32)]) (rest := []) (t_X1_changed γ l hl x0 (γ.1 20) x1 (0 : Int32) (0 : Int32) g1) dX1_faint_12 q2255 q2257 qs22 q108 q2258 (by decide +kernel) rfl h ⟨rfl, by decide, by decide⟩ (Nat.le_of_ble_eq_true rfl) (Nat.le_of_ble_eq_true rfl) rfl (Nat.le_of_ble_eq_true rfl))) (fun e6 g7 => ?_) (fun v5 g4 => ?_)
    · skip
      exact x_out (by decide)
    · skip
      exact r_inl (fun _ => rfl) (r_iret (pc := 15) dX1_faint_15 rfl)
abbrev ck_X1_wake : CK := ("BanquetVotes", prog_1_method_28_code, 2, (some .int), "wake", [], 16)
def f_X1_wake (γ : GP) (x0 : Nat) (x1 : Int32) (g : AH) : Option ((Int32 × AH) ⊕ (Nat × AH)) := bXV ((if hK g x0 = 1 then f_X1_requireWho γ x0 x1 g else none)) (fun e2 g3 => (thr e2 g3)) fun g1 => bXI ((if hK g1 x0 = 1 then f_X1_changed γ x0 (γ.1 21) x1 (0 : Int32) (0 : Int32) g1 else none)) (fun e6 g7 => (thr e6 g7)) fun v5 g4 => (some (.inl (v5, g4)))
theorem t_X1_wake (γ : GP) (l : Launch) (hl : l.stackTraces = false) (x0 : Nat) (x1 : Int32) (g : AH) : TrM (ρX ρI) γ l ⟨"BanquetVotes", "wake", "(I)I"⟩ (ws_ ⟨"BanquetVotes", "wake", "(I)I"⟩ prog_1_method_28_code 2 (some .int)) 16 [.ref x0, .int x1] g (f_X1_wake γ x0 x1 g) := by
  refine TrM_of (plainFor_of_name (by decide)) (Nat.le_of_ble_eq_true rfl) ?_
  unfold f_X1_wake
  change AW (ρX ρI) γ l ck_X1_wake g 0 [(0, .ref x0), (1, .int x1)] [] g _
  refine r_aload_n (pc := 0) dX1_wake_0 rfl 0 rfl ?_
  refine r_iload_n (pc := 1) dX1_wake_1 rfl 1 rfl ?_
  refine r_cXV (pc := 2) (rest := []) (RunOK_chk (fun h => run_V (n := 1) (c9 := 1) (As := [.int x1]) (rest := []) (t_X1_requireWho γ l hl x0 x1 g) dX1_wake_2 q2761 q2763 qs40 q108 q2764 (by decide +kernel) rfl h ⟨rfl, by decide, by decide⟩ (Nat.le_of_ble_eq_true rfl) (Nat.le_of_ble_eq_true rfl) rfl (Nat.le_of_ble_eq_true rfl))) (fun e2 g3 => ?_) (fun g1 => ?_)
  · skip
    exact x_out (by decide)
  · skip
    refine r_aload_n (pc := 5) dX1_wake_5 rfl 0 rfl ?_
    refine r_ldcwS (pc := 6) dX1_wake_6 (List.mem_of_getElem? (i := 9) rfl) ?_
    refine r_iload_n (pc := 9) dX1_wake_9 rfl 1 rfl ?_
    refine r_iconst (v := (0 : Int32)) (pc := 10) dX1_wake_10 (by decide) ?_
    refine r_iconst (v := (0 : Int32)) (pc := 11) dX1_wake_11 (by decide) ?_
    refine r_cXI (pc := 12) (rest := []) (RunOK_chk (fun h => run_VX (n := 4) (c9 := 1) (As := [.ref (γ.1 21), .int x1, .int (0 : Int32), .int (0 : Int32)]) (rest := []) (t_X1_changed γ l hl x0 (γ.1 21) x1 (0 : Int32) (0 : Int32) g1) dX1_wake_12 q2255 q2257 qs22 q108 q2258 (by decide +kernel) rfl h ⟨rfl, by decide, by decide⟩ (Nat.le_of_ble_eq_true rfl) (Nat.le_of_ble_eq_true rfl) rfl (Nat.le_of_ble_eq_true rfl))) (fun e6 g7 => ?_) (fun v5 g4 => ?_)
    · skip
      exact x_out (by decide)
    · skip
      exact r_inl (fun _ => rfl) (r_iret (pc := 15) dX1_wake_15 rfl)
abbrev ck_X1_learn : CK := ("BanquetVotes", prog_1_method_29_code, 4, (some .int), "learn", [], 16)
def f_X1_learn (γ : GP) (x0 : Nat) (x1 : Int32) (x2 : Int32) (x3 : Int32) (g : AH) : Option ((Int32 × AH) ⊕ (Nat × AH)) := bXV ((if hK g x0 = 1 then f_X1_requireCook γ x0 x1 g else none)) (fun e2 g3 => (thr e2 g3)) fun g1 => bXV ((if hK g1 x0 = 1 then f_X1_requireCook γ x0 x2 g1 else none)) (fun e5 g6 => (thr e5 g6)) fun g4 => bXV ((if hK g4 x0 = 1 then f_X1_requireCourse γ x0 x3 g4 else none)) (fun e8 g9 => (thr e8 g9)) fun g7 => jn (fun (z10 : Int32) (g11 : AH) => bXV (f_X1_require γ z10 g11) (fun e14 g15 => (thr e14 g15)) fun g13 => bXI ((if hK g13 x0 = 1 then f_X1_changed γ x0 (γ.1 22) x1 x2 x3 g13 else none)) (fun e18 g19 => (thr e18 g19)) fun v17 g16 => (some (.inl (v17, g16)))) (fun (j12 : Int32 → AH → Option ((Int32 × AH) ⊕ (Nat × AH))) => (if x1 = x2 then j12 (0 : Int32) g7 else j12 (1 : Int32) g7))
theorem t_X1_learn (γ : GP) (l : Launch) (hl : l.stackTraces = false) (x0 : Nat) (x1 : Int32) (x2 : Int32) (x3 : Int32) (g : AH) : TrM (ρX ρI) γ l ⟨"BanquetVotes", "learn", "(III)I"⟩ (ws_ ⟨"BanquetVotes", "learn", "(III)I"⟩ prog_1_method_29_code 4 (some .int)) 16 [.ref x0, .int x1, .int x2, .int x3] g (f_X1_learn γ x0 x1 x2 x3 g) := by
  refine TrM_of (plainFor_of_name (by decide)) (Nat.le_of_ble_eq_true rfl) ?_
  unfold f_X1_learn
  change AW (ρX ρI) γ l ck_X1_learn g 0 [(0, .ref x0), (1, .int x1), (2, .int x2), (3, .int x3)] [] g _
  refine r_aload_n (pc := 0) dX1_learn_0 rfl 0 rfl ?_
  refine r_iload_n (pc := 1) dX1_learn_1 rfl 1 rfl ?_
  refine r_cXV (pc := 2) (rest := []) (RunOK_chk (fun h => run_V (n := 1) (c9 := 1) (As := [.int x1]) (rest := []) (t_X1_requireCook γ l hl x0 x1 g) dX1_learn_2 q1995 q1997 qs20 q108 q1998 (by decide +kernel) rfl h ⟨rfl, by decide, by decide⟩ (Nat.le_of_ble_eq_true rfl) (Nat.le_of_ble_eq_true rfl) rfl (Nat.le_of_ble_eq_true rfl))) (fun e2 g3 => ?_) (fun g1 => ?_)
  · skip
    exact x_out (by decide)
  · skip
    refine r_aload_n (pc := 5) dX1_learn_5 rfl 0 rfl ?_
    refine r_iload_n (pc := 6) dX1_learn_6 rfl 2 rfl ?_
    refine r_cXV (pc := 7) (rest := []) (RunOK_chk (fun h => run_V (n := 1) (c9 := 1) (As := [.int x2]) (rest := []) (t_X1_requireCook γ l hl x0 x2 g1) dX1_learn_7 q1995 q1997 qs20 q108 q1998 (by decide +kernel) rfl h ⟨rfl, by decide, by decide⟩ (Nat.le_of_ble_eq_true rfl) (Nat.le_of_ble_eq_true rfl) rfl (Nat.le_of_ble_eq_true rfl))) (fun e5 g6 => ?_) (fun g4 => ?_)
    · skip
      exact x_out (by decide)
    · skip
      refine r_aload_n (pc := 10) dX1_learn_10 rfl 0 rfl ?_
      refine r_iload_n (pc := 11) dX1_learn_11 rfl 3 rfl ?_
      refine r_cXV (pc := 12) (rest := []) (RunOK_chk (fun h => run_V (n := 1) (c9 := 1) (As := [.int x3]) (rest := []) (t_X1_requireCourse γ l hl x0 x3 g4) dX1_learn_12 q2115 q2117 qs21 q108 q2118 (by decide +kernel) rfl h ⟨rfl, by decide, by decide⟩ (Nat.le_of_ble_eq_true rfl) (Nat.le_of_ble_eq_true rfl) rfl (Nat.le_of_ble_eq_true rfl))) (fun e8 g9 => ?_) (fun g7 => ?_)
      · skip
        exact x_out (by decide)
      · skip
        refine r_iload_n (pc := 15) dX1_learn_15 rfl 1 rfl ?_
        refine r_iload_n (pc := 16) dX1_learn_16 rfl 2 rfl ?_
        refine AW_jn (P := fun (j : Int32 → AH → Option ((Int32 × AH) ⊕ (Nat × AH))) => ∀ (z10 : Int32) (g11 : AH), AW (ρX ρI) γ l ck_X1_learn g 25 [(0, .ref x0), (1, .int x1), (2, .int x2), (3, .int x3)] [.int z10] g11 (j z10 g11)) (fun z10 g11 => ?_) (fun j12 h_j12 => ?_)
        · skip
          refine r_cXV (pc := 25) (rest := []) (run_S (n := 1) (As := [.int z10]) (rest := []) (t_X1_require γ l hl z10 g11) dX1_learn_25 q1211 q1212 q108 q1213 (by decide +kernel) rfl (Nat.le_of_ble_eq_true rfl) (Nat.le_of_ble_eq_true rfl) rfl (Nat.le_of_ble_eq_true rfl)) (fun e14 g15 => ?_) (fun g13 => ?_)
          · skip
            exact x_out (by decide)
          · skip
            refine r_aload_n (pc := 28) dX1_learn_28 rfl 0 rfl ?_
            refine r_ldcwS (pc := 29) dX1_learn_29 (List.mem_of_getElem? (i := 10) rfl) ?_
            refine r_iload_n (pc := 32) dX1_learn_32 rfl 1 rfl ?_
            refine r_iload_n (pc := 33) dX1_learn_33 rfl 2 rfl ?_
            refine r_iload_n (pc := 34) dX1_learn_34 rfl 3 rfl ?_
            refine r_cXI (pc := 35) (rest := []) (RunOK_chk (fun h => run_VX (n := 4) (c9 := 1) (As := [.ref (γ.1 22), .int x1, .int x2, .int x3]) (rest := []) (t_X1_changed γ l hl x0 (γ.1 22) x1 x2 x3 g13) dX1_learn_35 q2255 q2257 qs22 q108 q2258 (by decide +kernel) rfl h ⟨rfl, by decide, by decide⟩ (Nat.le_of_ble_eq_true rfl) (Nat.le_of_ble_eq_true rfl) rfl (Nat.le_of_ble_eq_true rfl))) (fun e18 g19 => ?_) (fun v17 g16 => ?_)
            · skip
              exact x_out (by decide)
            · skip
              exact r_inl (fun _ => rfl) (r_iret (pc := 38) dX1_learn_38 rfl)
        · skip
          refine r_icmp_eq (tgt := 24) (pc := 17) dX1_learn_17 (by decide) ?_ ?_
          · skip
            refine r_iconst (v := (0 : Int32)) (pc := 24) dX1_learn_24 (by decide) ?_
            exact h_j12 (0 : Int32) g7
          · skip
            refine r_iconst (v := (1 : Int32)) (pc := 20) dX1_learn_20 (by decide) ?_
            refine r_goto (tgt := 25) (pc := 21) dX1_learn_21 (by decide) ?_
            exact h_j12 (1 : Int32) g7
abbrev ck_X1_pass : CK := ("BanquetVotes", prog_1_method_30_code, 2, (some .int), "pass", [], 16)
def f_X1_pass (γ : GP) (x0 : Nat) (x1 : Int32) (g : AH) : Option ((Int32 × AH) ⊕ (Nat × AH)) := bI (f_X1_isIn γ x1 (1 : Int32) (60 : Int32) g) fun v2 g1 => bXV (f_X1_require γ v2 g1) (fun e4 g5 => (thr e4 g5)) fun g3 => bXI ((if hK g3 x0 = 1 then f_X1_changed γ x0 (γ.1 23) x1 (0 : Int32) (0 : Int32) g3 else none)) (fun e8 g9 => (thr e8 g9)) fun v7 g6 => (some (.inl (v7, g6)))
theorem t_X1_pass (γ : GP) (l : Launch) (hl : l.stackTraces = false) (x0 : Nat) (x1 : Int32) (g : AH) : TrM (ρX ρI) γ l ⟨"BanquetVotes", "pass", "(I)I"⟩ (ws_ ⟨"BanquetVotes", "pass", "(I)I"⟩ prog_1_method_30_code 2 (some .int)) 16 [.ref x0, .int x1] g (f_X1_pass γ x0 x1 g) := by
  refine TrM_of (plainFor_of_name (by decide)) (Nat.le_of_ble_eq_true rfl) ?_
  unfold f_X1_pass
  change AW (ρX ρI) γ l ck_X1_pass g 0 [(0, .ref x0), (1, .int x1)] [] g _
  refine r_iload_n (pc := 0) dX1_pass_0 rfl 1 rfl ?_
  refine r_iconst (v := (1 : Int32)) (pc := 1) dX1_pass_1 (by decide) ?_
  refine r_bipush (v := (60 : Int32)) (pc := 2) dX1_pass_2 (by decide) ?_
  refine r_cI (pc := 4) (rest := []) (run_S (n := 3) (As := [.int x1, .int (1 : Int32), .int (60 : Int32)]) (rest := []) (t_X1_isIn γ l hl x1 (1 : Int32) (60 : Int32) g) dX1_pass_4 q1208 q1209 q108 q1210 (by decide +kernel) rfl (Nat.le_of_ble_eq_true rfl) (Nat.le_of_ble_eq_true rfl) rfl (Nat.le_of_ble_eq_true rfl)) (fun v2 g1 => ?_)
  refine r_cXV (pc := 7) (rest := []) (run_S (n := 1) (As := [.int v2]) (rest := []) (t_X1_require γ l hl v2 g1) dX1_pass_7 q1211 q1212 q108 q1213 (by decide +kernel) rfl (Nat.le_of_ble_eq_true rfl) (Nat.le_of_ble_eq_true rfl) rfl (Nat.le_of_ble_eq_true rfl)) (fun e4 g5 => ?_) (fun g3 => ?_)
  · skip
    exact x_out (by decide)
  · skip
    refine r_aload_n (pc := 10) dX1_pass_10 rfl 0 rfl ?_
    refine r_ldcwS (pc := 11) dX1_pass_11 (List.mem_of_getElem? (i := 11) rfl) ?_
    refine r_iload_n (pc := 14) dX1_pass_14 rfl 1 rfl ?_
    refine r_iconst (v := (0 : Int32)) (pc := 15) dX1_pass_15 (by decide) ?_
    refine r_iconst (v := (0 : Int32)) (pc := 16) dX1_pass_16 (by decide) ?_
    refine r_cXI (pc := 17) (rest := []) (RunOK_chk (fun h => run_VX (n := 4) (c9 := 1) (As := [.ref (γ.1 23), .int x1, .int (0 : Int32), .int (0 : Int32)]) (rest := []) (t_X1_changed γ l hl x0 (γ.1 23) x1 (0 : Int32) (0 : Int32) g3) dX1_pass_17 q2255 q2257 qs22 q108 q2258 (by decide +kernel) rfl h ⟨rfl, by decide, by decide⟩ (Nat.le_of_ble_eq_true rfl) (Nat.le_of_ble_eq_true rfl) rfl (Nat.le_of_ble_eq_true rfl))) (fun e8 g9 => ?_) (fun v7 g6 => ?_)
    · skip
      exact x_out (by decide)
    · skip
      exact r_inl (fun _ => rfl) (r_iret (pc := 20) dX1_pass_20 rfl)
abbrev ck_X1_courseIn : CK := ("BanquetVotes", prog_1_method_31_code, 4, (some .int), "courseIn", [], 14)
def f_X1_courseIn (γ : GP) (x0 : Nat) (x1 : Int32) (x2 : Int32) (g : AH) : Option ((Int32 × AH) ⊕ (Nat × AH)) := bXV ((if hK g x0 = 1 then f_X1_requireCourse γ x0 x1 g else none)) (fun e2 g3 => (thr e2 g3)) fun g1 => bI (f_X1_isIn γ x2 (0 : Int32) (60 : Int32) g1) fun v5 g4 => bXV (f_X1_require γ v5 g4) (fun e7 g8 => (thr e7 g8)) fun g6 => gR g6 x0 0 fun v9 => bR ((if hK g6 v9 = 2 then f_X2_copy γ v9 g6 else none)) fun v11 g10 => bI ((if hK g10 v11 = 2 then f_X2_passes γ v11 x2 g10 else none)) fun v13 g12 => bR ((if hK g12 v11 = 2 then f_X2_course γ v11 x1 g12 else none)) fun v15 g14 => bI ((if hK g14 v15 = 20 then f_X7_phase γ v15 g14 else none)) fun v17 g16 => (some (.inl (v17, g16)))
theorem t_X1_courseIn (γ : GP) (l : Launch) (hl : l.stackTraces = false) (x0 : Nat) (x1 : Int32) (x2 : Int32) (g : AH) : TrM (ρX ρI) γ l ⟨"BanquetVotes", "courseIn", "(II)I"⟩ (ws_ ⟨"BanquetVotes", "courseIn", "(II)I"⟩ prog_1_method_31_code 4 (some .int)) 14 [.ref x0, .int x1, .int x2] g (f_X1_courseIn γ x0 x1 x2 g) := by
  refine TrM_of (plainFor_of_name (by decide)) (Nat.le_of_ble_eq_true rfl) ?_
  unfold f_X1_courseIn
  change AW (ρX ρI) γ l ck_X1_courseIn g 0 [(0, .ref x0), (1, .int x1), (2, .int x2)] [] g _
  refine r_aload_n (pc := 0) dX1_courseIn_0 rfl 0 rfl ?_
  refine r_iload_n (pc := 1) dX1_courseIn_1 rfl 1 rfl ?_
  refine r_cXV (pc := 2) (rest := []) (RunOK_chk (fun h => run_V (n := 1) (c9 := 1) (As := [.int x1]) (rest := []) (t_X1_requireCourse γ l hl x0 x1 g) dX1_courseIn_2 q2115 q2117 qs21 q108 q2118 (by decide +kernel) rfl h ⟨rfl, by decide, by decide⟩ (Nat.le_of_ble_eq_true rfl) (Nat.le_of_ble_eq_true rfl) rfl (Nat.le_of_ble_eq_true rfl))) (fun e2 g3 => ?_) (fun g1 => ?_)
  · skip
    exact x_out (by decide)
  · skip
    refine r_iload_n (pc := 5) dX1_courseIn_5 rfl 2 rfl ?_
    refine r_iconst (v := (0 : Int32)) (pc := 6) dX1_courseIn_6 (by decide) ?_
    refine r_bipush (v := (60 : Int32)) (pc := 7) dX1_courseIn_7 (by decide) ?_
    refine r_cI (pc := 9) (rest := []) (run_S (n := 3) (As := [.int x2, .int (0 : Int32), .int (60 : Int32)]) (rest := []) (t_X1_isIn γ l hl x2 (0 : Int32) (60 : Int32) g1) dX1_courseIn_9 q1208 q1209 q108 q1210 (by decide +kernel) rfl (Nat.le_of_ble_eq_true rfl) (Nat.le_of_ble_eq_true rfl) rfl (Nat.le_of_ble_eq_true rfl)) (fun v5 g4 => ?_)
    refine r_cXV (pc := 12) (rest := []) (run_S (n := 1) (As := [.int v5]) (rest := []) (t_X1_require γ l hl v5 g4) dX1_courseIn_12 q1211 q1212 q108 q1213 (by decide +kernel) rfl (Nat.le_of_ble_eq_true rfl) (Nat.le_of_ble_eq_true rfl) rfl (Nat.le_of_ble_eq_true rfl)) (fun e7 g8 => ?_) (fun g6 => ?_)
    · skip
      exact x_out (by decide)
    · skip
      refine r_aload_n (pc := 15) dX1_courseIn_15 rfl 0 rfl ?_
      refine r_getR (f := 0) (pc := 16) dX1_courseIn_16 q320 (Or.inl rfl) rfl (fun v9 => ?_)
      refine r_cR (pc := 19) (rest := []) (RunOK_chk (fun h => run_V (n := 0) (c9 := 2) (As := []) (rest := []) (t_X2_copy γ l hl v9 g6) dX1_courseIn_19 q1219 q1220 q1221 q109 q1222 (by decide +kernel) rfl h ⟨rfl, by decide, by decide⟩ (Nat.le_of_ble_eq_true rfl) (Nat.le_of_ble_eq_true rfl) rfl (Nat.le_of_ble_eq_true rfl))) (fun v11 g10 => ?_)
      refine r_astore_n (pc := 22) dX1_courseIn_22 rfl (Nat.le_of_ble_eq_true rfl) rfl ?_
      refine r_aload_n (pc := 23) dX1_courseIn_23 rfl 0 rfl ?_
      refine r_iload_n (pc := 24) dX1_courseIn_24 rfl 3 rfl ?_
      refine r_cI (pc := 25) (rest := []) (RunOK_chk (fun h => run_V (n := 1) (c9 := 2) (As := [.int x2]) (rest := []) (t_X2_passes γ l hl v11 x2 g10) dX1_courseIn_25 q2797 q2566 q2567 q109 q2568 (by decide +kernel) rfl h ⟨rfl, by decide, by decide⟩ (Nat.le_of_ble_eq_true rfl) (Nat.le_of_ble_eq_true rfl) rfl (Nat.le_of_ble_eq_true rfl))) (fun v13 g12 => ?_)
      refine r_pop (pc := 28) dX1_courseIn_28 rfl ?_
      refine r_aload_n (pc := 29) dX1_courseIn_29 rfl 0 rfl ?_
      refine r_iload_n (pc := 30) dX1_courseIn_30 rfl 2 rfl ?_
      refine r_cR (pc := 31) (rest := []) (RunOK_chk (fun h => run_V (n := 1) (c9 := 2) (As := [.int x1]) (rest := []) (t_X2_course γ l hl v11 x1 g12) dX1_courseIn_31 q2155 q2128 q2129 q109 q2130 (by decide +kernel) rfl h ⟨rfl, by decide, by decide⟩ (Nat.le_of_ble_eq_true rfl) (Nat.le_of_ble_eq_true rfl) rfl (Nat.le_of_ble_eq_true rfl))) (fun v15 g14 => ?_)
      refine r_cI (pc := 34) (rest := []) (RunOK_chk (fun h => run_V (n := 0) (c9 := 20) (As := []) (rest := []) (t_X7_phase γ l hl v15 g14) dX1_courseIn_34 q2156 q2132 q2133 q150 q2134 (by decide +kernel) rfl h ⟨rfl, by decide, by decide⟩ (Nat.le_of_ble_eq_true rfl) (Nat.le_of_ble_eq_true rfl) rfl (Nat.le_of_ble_eq_true rfl))) (fun v17 g16 => ?_)
      exact r_inl (fun _ => rfl) (r_iret (pc := 37) dX1_courseIn_37 rfl)
abbrev ck_X2_clearIn : CK := ("BanquetVotes$Kitchen", prog_14_method_43_code, 4, (some .int), "clearIn", [], 14)
def f_X2_clearIn_L7 (γ : GP) (x1 : Int32) (x2 : Nat) (K39 : Int32 → AH → Option (Int32 × AH)) : Nat → Int32 → AH → Option (Int32 × AH)
  | 0, _, _ => none
  | n + 1, x3, g => (if (60 : Int32) ≤ x3 then K39 x3 g else bR ((if hK g x2 = 2 then f_X2_course γ x2 x1 g else none)) fun v4 g3 => bI ((if hK g3 v4 = 20 then f_X7_those γ v4 (γ.1 11) g3 else none)) fun v6 g5 => (if v6 ≤ 0 then K39 x3 g5 else bI ((if hK g5 x2 = 2 then f_X2_passes γ x2 (1 : Int32) g5 else none)) fun v8 g7 => f_X2_clearIn_L7 γ x1 x2 K39 n (x3 + (1 : Int32)) g7))
def f_X2_clearIn (γ : GP) (x0 : Nat) (x1 : Int32) (g : AH) : Option (Int32 × AH) := bR ((if hK g x0 = 2 then f_X2_copy γ x0 g else none)) fun v2 g1 => f_X2_clearIn_L7 γ x1 v2 (fun (y9 : Int32) (g10 : AH) => bR ((if hK g10 v2 = 2 then f_X2_course γ v2 x1 g10 else none)) fun v12 g11 => bI ((if hK g11 v12 = 20 then f_X7_those γ v12 (γ.1 11) g11 else none)) fun v14 g13 => (if v14 ≤ 0 then (some (y9, g13)) else (some ((-1 : Int32), g13)))) FU (0 : Int32) g1
theorem f_X2_clearIn_L7_w (γ : GP) (l : Launch) (hl : l.stackTraces = false) (G0 : AH) (x1 : Int32) (x2 : Nat) (K39 : Int32 → AH → Option (Int32 × AH)) (h_K39 : ∀ (y3 : Int32) (g : AH), AW ρI γ l ck_X2_clearIn G0 39 [(1, .int x1), (2, .ref x2), (3, .int y3)] [] g (K39 y3 g)) : ∀ (n : Nat) (x3 : Int32) (g : AH), AW ρI γ l ck_X2_clearIn G0 7 [(1, .int x1), (2, .ref x2), (3, .int x3)] [] g (f_X2_clearIn_L7 γ x1 x2 K39 n x3 g) := by
  intro n
  induction n with
  | zero => intro x3 g; exact AW_none
  | succ n ih =>
    intro x3 g
    unfold f_X2_clearIn_L7
    refine r_iload_n (pc := 7) dX2_clearIn_7 rfl 2 rfl ?_
    refine r_bipush (v := (60 : Int32)) (pc := 8) dX2_clearIn_8 (by decide) ?_
    refine r_icmp_ge (tgt := 39) (pc := 10) dX2_clearIn_10 (by decide) ?_ ?_
    · skip
      exact h_K39 x3 g
    · skip
      refine r_aload_n (pc := 13) dX2_clearIn_13 rfl 1 rfl ?_
      refine r_iload_n (pc := 14) dX2_clearIn_14 rfl 0 rfl ?_
      refine r_cR (pc := 15) (rest := []) (RunOK_chk (fun h => run_V (n := 1) (c9 := 2) (As := [.int x1]) (rest := []) (t_X2_course γ l hl x2 x1 g) dX2_clearIn_15 q2127 q2128 q2129 q109 q2130 (by decide +kernel) rfl h ⟨rfl, by decide, by decide⟩ (Nat.le_of_ble_eq_true rfl) (Nat.le_of_ble_eq_true rfl) rfl (Nat.le_of_ble_eq_true rfl))) (fun v4 g3 => ?_)
      refine r_gets (i := 11) (pc := 18) dX2_clearIn_18 q2712 (List.mem_of_getElem? (i := 11) rfl) rfl ?_
      refine r_cI (pc := 21) (rest := []) (RunOK_chk (fun h => run_V (n := 1) (c9 := 20) (As := [.ref (γ.1 11)]) (rest := []) (t_X7_those γ l hl v4 (γ.1 11) g3) dX2_clearIn_21 q2810 q1071 q1072 q150 q1073 (by decide +kernel) rfl h ⟨rfl, by decide, by decide⟩ (Nat.le_of_ble_eq_true rfl) (Nat.le_of_ble_eq_true rfl) rfl (Nat.le_of_ble_eq_true rfl))) (fun v6 g5 => ?_)
      refine r_if_le (tgt := 39) (pc := 24) dX2_clearIn_24 (by decide) ?_ ?_
      · skip
        exact h_K39 x3 g5
      · skip
        refine r_aload_n (pc := 27) dX2_clearIn_27 rfl 1 rfl ?_
        refine r_iconst (v := (1 : Int32)) (pc := 28) dX2_clearIn_28 (by decide) ?_
        refine r_cI (pc := 29) (rest := []) (RunOK_chk (fun h => run_V (n := 1) (c9 := 2) (As := [.int (1 : Int32)]) (rest := []) (t_X2_passes γ l hl x2 (1 : Int32) g5) dX2_clearIn_29 q2811 q2566 q2567 q109 q2568 (by decide +kernel) rfl h ⟨rfl, by decide, by decide⟩ (Nat.le_of_ble_eq_true rfl) (Nat.le_of_ble_eq_true rfl) rfl (Nat.le_of_ble_eq_true rfl))) (fun v8 g7 => ?_)
        refine r_pop (pc := 32) dX2_clearIn_32 rfl ?_
        refine r_iinc (j := 2) (v := (x3 + (1 : Int32))) (pc := 33) dX2_clearIn_33 rfl rfl (Nat.le_of_ble_eq_true rfl) rfl ?_
        refine r_goto (tgt := 7) (pc := 36) dX2_clearIn_36 (by decide) ?_
        refine AW_sub [1, 2, 0] rfl ?_
        exact ih (x3 + (1 : Int32)) g7
theorem t_X2_clearIn (γ : GP) (l : Launch) (hl : l.stackTraces = false) (x0 : Nat) (x1 : Int32) (g : AH) : TrM ρI γ l ⟨"BanquetVotes$Kitchen", "clearIn", "(I)I"⟩ (ws_ ⟨"BanquetVotes$Kitchen", "clearIn", "(I)I"⟩ prog_14_method_43_code 4 (some .int)) 14 [.ref x0, .int x1] g (f_X2_clearIn γ x0 x1 g) := by
  refine TrM_of (plainFor_of_name (by decide)) (Nat.le_of_ble_eq_true rfl) ?_
  unfold f_X2_clearIn
  change AW ρI γ l ck_X2_clearIn g 0 [(0, .ref x0), (1, .int x1)] [] g _
  refine r_aload_n (pc := 0) dX2_clearIn_0 rfl 0 rfl ?_
  refine r_cR (pc := 1) (rest := []) (RunOK_chk (fun h => run_V (n := 0) (c9 := 2) (As := []) (rest := []) (t_X2_copy γ l hl x0 g) dX2_clearIn_1 q2809 q1220 q1221 q109 q1222 (by decide +kernel) rfl h ⟨rfl, by decide, by decide⟩ (Nat.le_of_ble_eq_true rfl) (Nat.le_of_ble_eq_true rfl) rfl (Nat.le_of_ble_eq_true rfl))) (fun v2 g1 => ?_)
  refine r_astore_n (pc := 4) dX2_clearIn_4 rfl (Nat.le_of_ble_eq_true rfl) rfl ?_
  refine r_iconst (v := (0 : Int32)) (pc := 5) dX2_clearIn_5 (by decide) ?_
  refine r_istore_n (pc := 6) dX2_clearIn_6 rfl (Nat.le_of_ble_eq_true rfl) rfl ?_
  refine AW_sub [3, 1, 0] rfl ?_
  refine f_X2_clearIn_L7_w γ l hl _ x1 v2 _ ?_ FU (0 : Int32) g1
  · intro y9 g10
    refine r_aload_n (pc := 39) dX2_clearIn_39 rfl 1 rfl ?_
    refine r_iload_n (pc := 40) dX2_clearIn_40 rfl 0 rfl ?_
    refine r_cR (pc := 41) (rest := []) (RunOK_chk (fun h => run_V (n := 1) (c9 := 2) (As := [.int x1]) (rest := []) (t_X2_course γ l hl v2 x1 g10) dX2_clearIn_41 q2127 q2128 q2129 q109 q2130 (by decide +kernel) rfl h ⟨rfl, by decide, by decide⟩ (Nat.le_of_ble_eq_true rfl) (Nat.le_of_ble_eq_true rfl) rfl (Nat.le_of_ble_eq_true rfl))) (fun v12 g11 => ?_)
    refine r_gets (i := 11) (pc := 44) dX2_clearIn_44 q2712 (List.mem_of_getElem? (i := 11) rfl) rfl ?_
    refine r_cI (pc := 47) (rest := []) (RunOK_chk (fun h => run_V (n := 1) (c9 := 20) (As := [.ref (γ.1 11)]) (rest := []) (t_X7_those γ l hl v12 (γ.1 11) g11) dX2_clearIn_47 q2810 q1071 q1072 q150 q1073 (by decide +kernel) rfl h ⟨rfl, by decide, by decide⟩ (Nat.le_of_ble_eq_true rfl) (Nat.le_of_ble_eq_true rfl) rfl (Nat.le_of_ble_eq_true rfl))) (fun v14 g13 => ?_)
    refine r_if_le (tgt := 57) (pc := 50) dX2_clearIn_50 (by decide) ?_ ?_
    · skip
      refine r_iload_n (pc := 57) dX2_clearIn_57 rfl 2 rfl ?_
      exact r_iret (pc := 58) dX2_clearIn_58 rfl
    · skip
      refine r_iconst (v := (-1 : Int32)) (pc := 53) dX2_clearIn_53 (by decide) ?_
      refine r_goto (tgt := 58) (pc := 54) dX2_clearIn_54 (by decide) ?_
      exact r_iret (pc := 58) dX2_clearIn_58 rfl
abbrev ck_X1_clearIn : CK := ("BanquetVotes", prog_1_method_32_code, 3, (some .int), "clearIn", [], 15)
def f_X1_clearIn (γ : GP) (x0 : Nat) (x1 : Int32) (g : AH) : Option ((Int32 × AH) ⊕ (Nat × AH)) := bXV ((if hK g x0 = 1 then f_X1_requireCourse γ x0 x1 g else none)) (fun e2 g3 => (thr e2 g3)) fun g1 => gR g1 x0 0 fun v4 => bI ((if hK g1 v4 = 2 then f_X2_clearIn γ v4 x1 g1 else none)) fun v6 g5 => jn (fun (z7 : Int32) (g8 : AH) => bXV (f_X1_requireElement γ z7 g8) (fun e11 g12 => (thr e11 g12)) fun g10 => (some (.inl (v6, g10)))) (fun (j9 : Int32 → AH → Option ((Int32 × AH) ⊕ (Nat × AH))) => (if v6 = (-1 : Int32) then j9 (0 : Int32) g5 else j9 (1 : Int32) g5))
theorem t_X1_clearIn (γ : GP) (l : Launch) (hl : l.stackTraces = false) (x0 : Nat) (x1 : Int32) (g : AH) : TrM (ρX ρI) γ l ⟨"BanquetVotes", "clearIn", "(I)I"⟩ (ws_ ⟨"BanquetVotes", "clearIn", "(I)I"⟩ prog_1_method_32_code 3 (some .int)) 15 [.ref x0, .int x1] g (f_X1_clearIn γ x0 x1 g) := by
  refine TrM_of (plainFor_of_name (by decide)) (Nat.le_of_ble_eq_true rfl) ?_
  unfold f_X1_clearIn
  change AW (ρX ρI) γ l ck_X1_clearIn g 0 [(0, .ref x0), (1, .int x1)] [] g _
  refine r_aload_n (pc := 0) dX1_clearIn_0 rfl 0 rfl ?_
  refine r_iload_n (pc := 1) dX1_clearIn_1 rfl 1 rfl ?_
  refine r_cXV (pc := 2) (rest := []) (RunOK_chk (fun h => run_V (n := 1) (c9 := 1) (As := [.int x1]) (rest := []) (t_X1_requireCourse γ l hl x0 x1 g) dX1_clearIn_2 q2115 q2117 qs21 q108 q2118 (by decide +kernel) rfl h ⟨rfl, by decide, by decide⟩ (Nat.le_of_ble_eq_true rfl) (Nat.le_of_ble_eq_true rfl) rfl (Nat.le_of_ble_eq_true rfl))) (fun e2 g3 => ?_) (fun g1 => ?_)
  · skip
    exact x_out (by decide)
  · skip
    refine r_aload_n (pc := 5) dX1_clearIn_5 rfl 0 rfl ?_
    refine r_getR (f := 0) (pc := 6) dX1_clearIn_6 q320 (Or.inl rfl) rfl (fun v4 => ?_)
    refine r_iload_n (pc := 9) dX1_clearIn_9 rfl 1 rfl ?_
    refine r_cI (pc := 10) (rest := []) (RunOK_chk (fun h => run_V (n := 1) (c9 := 2) (As := [.int x1]) (rest := []) (t_X2_clearIn γ l hl v4 x1 g1) dX1_clearIn_10 q2805 q2806 q2807 q109 q2808 (by decide +kernel) rfl h ⟨rfl, by decide, by decide⟩ (Nat.le_of_ble_eq_true rfl) (Nat.le_of_ble_eq_true rfl) rfl (Nat.le_of_ble_eq_true rfl))) (fun v6 g5 => ?_)
    refine r_istore_n (pc := 13) dX1_clearIn_13 rfl (Nat.le_of_ble_eq_true rfl) rfl ?_
    refine r_iload_n (pc := 14) dX1_clearIn_14 rfl 0 rfl ?_
    refine r_iconst (v := (-1 : Int32)) (pc := 15) dX1_clearIn_15 (by decide) ?_
    refine AW_jn (P := fun (j : Int32 → AH → Option ((Int32 × AH) ⊕ (Nat × AH))) => ∀ (z7 : Int32) (g8 : AH), AW (ρX ρI) γ l ck_X1_clearIn g 24 [(2, .int v6)] [.int z7] g8 (j z7 g8)) (fun z7 g8 => ?_) (fun j9 h_j9 => ?_)
    · skip
      refine r_cXV (pc := 24) (rest := []) (run_S (n := 1) (As := [.int z7]) (rest := []) (t_X1_requireElement γ l hl z7 g8) dX1_clearIn_24 q2182 q2183 q108 q2184 (by decide +kernel) rfl (Nat.le_of_ble_eq_true rfl) (Nat.le_of_ble_eq_true rfl) rfl (Nat.le_of_ble_eq_true rfl)) (fun e11 g12 => ?_) (fun g10 => ?_)
      · skip
        exact x_out (by decide)
      · skip
        refine r_iload_n (pc := 27) dX1_clearIn_27 rfl 0 rfl ?_
        exact r_inl (fun _ => rfl) (r_iret (pc := 28) dX1_clearIn_28 rfl)
    · skip
      refine r_icmp_eq (tgt := 23) (pc := 16) dX1_clearIn_16 (by decide) ?_ ?_
      · skip
        refine r_iconst (v := (0 : Int32)) (pc := 23) dX1_clearIn_23 (by decide) ?_
        refine AW_sub [0] rfl ?_
        exact h_j9 (0 : Int32) g5
      · skip
        refine r_iconst (v := (1 : Int32)) (pc := 19) dX1_clearIn_19 (by decide) ?_
        refine r_goto (tgt := 24) (pc := 20) dX1_clearIn_20 (by decide) ?_
        refine AW_sub [0] rfl ?_
        exact h_j9 (1 : Int32) g5
abbrev ck_X2_onWay : CK := ("BanquetVotes$Kitchen", prog_14_method_10_code, 7, (some (.object "java/util/List")), "onWay", [], 6)
def f_X2_onWay_L44 (γ : GP) (x1 : Nat) (x2 : Nat) (x3 : Nat) (x5 : Nat) (K95 : Int32 → AH → Option (Nat × AH)) : Nat → Int32 → AH → Option (Nat × AH)
  | 0, _, _ => none
  | n + 1, x4, g => bI ((if hK g x5 = 10 then f_J13_hasNext γ x5 g else if hK g x5 = 13 then f_J24_hasNext γ x5 g else if hK g x5 = 17 then f_J29_hasNext γ x5 g else if hK g x5 = 18 then f_J29_hasNext γ x5 g else none)) fun v14 g13 => (if v14 = 0 then K95 x4 g13 else bR ((if hK g13 x5 = 10 then f_J13_next γ x5 g13 else if hK g13 x5 = 13 then f_J24_next γ x5 g13 else if hK g13 x5 = 17 then f_J31_next γ x5 g13 else if hK g13 x5 = 18 then f_J32_next γ x5 g13 else none)) fun v16 g15 => gC g15 [29, 30, 31, 32] v16 (bI ((if hK g15 v16 = 29 then f_X13_arrives γ v16 g15 else if hK g15 v16 = 31 then f_X15_arrives γ v16 g15 else if hK g15 v16 = 30 then f_X14_arrives γ v16 g15 else if hK g15 v16 = 32 then f_X16_arrives γ v16 g15 else none)) fun v18 g17 => bI ((if hK g17 x3 = 29 then f_X13_arrives γ x3 g17 else if hK g17 x3 = 31 then f_X15_arrives γ x3 g17 else if hK g17 x3 = 30 then f_X14_arrives γ x3 g17 else if hK g17 x3 = 32 then f_X16_arrives γ x3 g17 else none)) fun v20 g19 => (if v20 < v18 then f_X2_onWay_L44 γ x1 x2 x3 x5 K95 n (x4 + (0 : Int32)) g19 else f_X2_onWay_L44 γ x1 x2 x3 x5 K95 n (x4 + (1 : Int32)) g19)))
def f_X2_onWay_L16 (γ : GP) (x1 : Nat) (x2 : Nat) : Nat → AH → Option (Nat × AH)
  | 0, _ => none
  | n + 1, g => bI ((if hK g x2 = 10 then f_J13_hasNext γ x2 g else if hK g x2 = 13 then f_J24_hasNext γ x2 g else if hK g x2 = 17 then f_J29_hasNext γ x2 g else if hK g x2 = 18 then f_J29_hasNext γ x2 g else none)) fun v8 g7 => (if v8 = 0 then (some (x1, g7)) else bR ((if hK g7 x2 = 10 then f_J13_next γ x2 g7 else if hK g7 x2 = 13 then f_J24_next γ x2 g7 else if hK g7 x2 = 17 then f_J31_next γ x2 g7 else if hK g7 x2 = 18 then f_J32_next γ x2 g7 else none)) fun v10 g9 => gC g9 [29, 30, 31, 32] v10 (bR ((if hK g9 x1 = 5 then f_J3_iterator γ x1 g9 else none)) fun v12 g11 => f_X2_onWay_L44 γ x1 x2 v10 v12 (fun (y21 : Int32) (g22 : AH) => bV ((if hK g22 x1 = 5 then f_J4_add_2 γ x1 y21 v10 g22 else none)) fun g23 => f_X2_onWay_L16 γ x1 x2 n g23) FU (0 : Int32) g11))
def f_X2_onWay (γ : GP) (x0 : Nat) (g : AH) : Option (Nat × AH) := mO g 5 fun q1 g2 => bV ((if q1 ≠ 0 then f_J4_init γ q1 g2 else none)) fun g3 => gR g3 x0 11 fun v4 => bR ((if hK g3 v4 = 5 then f_J3_iterator γ v4 g3 else none)) fun v6 g5 => f_X2_onWay_L16 γ q1 v6 FU g5
theorem f_X2_onWay_L44_w (γ : GP) (l : Launch) (hl : l.stackTraces = false) (G0 : AH) (x1 : Nat) (x2 : Nat) (x3 : Nat) (x5 : Nat) (K95 : Int32 → AH → Option (Nat × AH)) (h_K95 : ∀ (y4 : Int32) (g : AH), AW ρR γ l ck_X2_onWay G0 95 [(1, .ref x1), (2, .ref x2), (3, .ref x3), (4, .int y4)] [] g (K95 y4 g)) : ∀ (n : Nat) (x4 : Int32) (g : AH), AW ρR γ l ck_X2_onWay G0 44 [(1, .ref x1), (2, .ref x2), (3, .ref x3), (4, .int x4), (5, .ref x5)] [] g (f_X2_onWay_L44 γ x1 x2 x3 x5 K95 n x4 g) := by
  intro n
  induction n with
  | zero => intro x4 g; exact AW_none
  | succ n ih =>
    intro x4 g
    unfold f_X2_onWay_L44
    refine r_aload (pc := 44) dX2_onWay_44 4 rfl ?_
    refine r_cI (pc := 46) (rest := []) (RunOK_if (fun h => run_F (n := 0) (c9 := 10) (As := []) (rest := []) (t_J13_hasNext γ l hl x5 g) dX2_onWay_46 q781 q800 q802 q126 q804 (by decide +kernel) (by decide +kernel) rfl h ⟨by decide, by decide⟩ (Nat.le_of_ble_eq_true rfl) (Nat.le_of_ble_eq_true rfl) rfl (Nat.le_of_ble_eq_true rfl)) (RunOK_if (fun h => run_F (n := 0) (c9 := 13) (As := []) (rest := []) (t_J24_hasNext γ l hl x5 g) dX2_onWay_46 q781 q809 q811 q139 q813 (by decide +kernel) (by decide +kernel) rfl h ⟨by decide, by decide⟩ (Nat.le_of_ble_eq_true rfl) (Nat.le_of_ble_eq_true rfl) rfl (Nat.le_of_ble_eq_true rfl)) (RunOK_if (fun h => run_F (n := 0) (c9 := 17) (As := []) (rest := []) (t_J29_hasNext γ l hl x5 g) dX2_onWay_46 q781 q821 q817 q145 q819 (by decide +kernel) (by decide +kernel) rfl h ⟨by decide, by decide⟩ (Nat.le_of_ble_eq_true rfl) (Nat.le_of_ble_eq_true rfl) rfl (Nat.le_of_ble_eq_true rfl)) (RunOK_chk (fun h => run_F (n := 0) (c9 := 18) (As := []) (rest := []) (t_J29_hasNext γ l hl x5 g) dX2_onWay_46 q781 q824 q817 q145 q819 (by decide +kernel) (by decide +kernel) rfl h ⟨by decide, by decide⟩ (Nat.le_of_ble_eq_true rfl) (Nat.le_of_ble_eq_true rfl) rfl (Nat.le_of_ble_eq_true rfl)))))) (fun v14 g13 => ?_)
    refine r_if_eq (tgt := 95) (pc := 51) dX2_onWay_51 (by decide) ?_ ?_
    · skip
      refine AW_sub [0, 1, 2, 3] rfl ?_
      exact h_K95 x4 g13
    · skip
      refine r_aload (pc := 54) dX2_onWay_54 4 rfl ?_
      refine r_cR (pc := 56) (rest := []) (RunOK_if (fun h => run_F (n := 0) (c9 := 10) (As := []) (rest := []) (t_J13_next γ l hl x5 g13) dX2_onWay_56 q827 q991 q993 q126 q995 (by decide +kernel) (by decide +kernel) rfl h ⟨by decide, by decide⟩ (Nat.le_of_ble_eq_true rfl) (Nat.le_of_ble_eq_true rfl) rfl (Nat.le_of_ble_eq_true rfl)) (RunOK_if (fun h => run_F (n := 0) (c9 := 13) (As := []) (rest := []) (t_J24_next γ l hl x5 g13) dX2_onWay_56 q827 q1015 q1017 q139 q1019 (by decide +kernel) (by decide +kernel) rfl h ⟨by decide, by decide⟩ (Nat.le_of_ble_eq_true rfl) (Nat.le_of_ble_eq_true rfl) rfl (Nat.le_of_ble_eq_true rfl)) (RunOK_if (fun h => run_F (n := 0) (c9 := 17) (As := []) (rest := []) (t_J31_next γ l hl x5 g13) dX2_onWay_56 q827 q1047 q1049 q147 q1051 (by decide +kernel) (by decide +kernel) rfl h ⟨by decide, by decide⟩ (Nat.le_of_ble_eq_true rfl) (Nat.le_of_ble_eq_true rfl) rfl (Nat.le_of_ble_eq_true rfl)) (RunOK_chk (fun h => run_F (n := 0) (c9 := 18) (As := []) (rest := []) (t_J32_next γ l hl x5 g13) dX2_onWay_56 q827 q1055 q1057 q148 q1059 (by decide +kernel) (by decide +kernel) rfl h ⟨by decide, by decide⟩ (Nat.le_of_ble_eq_true rfl) (Nat.le_of_ble_eq_true rfl) rfl (Nat.le_of_ble_eq_true rfl)))))) (fun v16 g15 => ?_)
      refine r_cast_ (L := [29, 30, 31, 32]) (pc := 61) dX2_onWay_61 q2585 (List.forall_mem_cons.mpr ⟨⟨by decide, by decide, Or.inr mv2590⟩, List.forall_mem_cons.mpr ⟨⟨by decide, by decide, Or.inr mv2602⟩, List.forall_mem_cons.mpr ⟨⟨by decide, by decide, Or.inr mv2596⟩, List.forall_mem_cons.mpr ⟨⟨by decide, by decide, Or.inr mv2608⟩, (fun _ h => absurd h List.not_mem_nil)⟩⟩⟩⟩) ?_
      refine r_astore (pc := 64) dX2_onWay_64 (Nat.le_of_ble_eq_true rfl) rfl ?_
      refine r_iload (pc := 66) dX2_onWay_66 4 rfl ?_
      refine r_aload (pc := 68) dX2_onWay_68 0 rfl ?_
      refine r_cI (pc := 70) (rest := [.int x4]) (RunOK_if (fun h => run_F (n := 0) (c9 := 29) (As := []) (rest := [.int x4]) (t_X13_arrives γ l hl v16 g15) dX2_onWay_70 q2587 q2591 q2593 q169 q2595 (by decide +kernel) (by decide +kernel) rfl h ⟨by decide, by decide⟩ (Nat.le_of_ble_eq_true rfl) (Nat.le_of_ble_eq_true rfl) rfl (Nat.le_of_ble_eq_true rfl)) (RunOK_if (fun h => run_F (n := 0) (c9 := 31) (As := []) (rest := [.int x4]) (t_X15_arrives γ l hl v16 g15) dX2_onWay_70 q2587 q2597 q2599 q171 q2601 (by decide +kernel) (by decide +kernel) rfl h ⟨by decide, by decide⟩ (Nat.le_of_ble_eq_true rfl) (Nat.le_of_ble_eq_true rfl) rfl (Nat.le_of_ble_eq_true rfl)) (RunOK_if (fun h => run_F (n := 0) (c9 := 30) (As := []) (rest := [.int x4]) (t_X14_arrives γ l hl v16 g15) dX2_onWay_70 q2587 q2603 q2605 q170 q2607 (by decide +kernel) (by decide +kernel) rfl h ⟨by decide, by decide⟩ (Nat.le_of_ble_eq_true rfl) (Nat.le_of_ble_eq_true rfl) rfl (Nat.le_of_ble_eq_true rfl)) (RunOK_chk (fun h => run_F (n := 0) (c9 := 32) (As := []) (rest := [.int x4]) (t_X16_arrives γ l hl v16 g15) dX2_onWay_70 q2587 q2609 q2611 q172 q2613 (by decide +kernel) (by decide +kernel) rfl h ⟨by decide, by decide⟩ (Nat.le_of_ble_eq_true rfl) (Nat.le_of_ble_eq_true rfl) rfl (Nat.le_of_ble_eq_true rfl)))))) (fun v18 g17 => ?_)
      refine r_aload_n (pc := 75) dX2_onWay_75 rfl 3 rfl ?_
      refine r_cI (pc := 76) (rest := [.int v18, .int x4]) (RunOK_if (fun h => run_F (n := 0) (c9 := 29) (As := []) (rest := [.int v18, .int x4]) (t_X13_arrives γ l hl x3 g17) dX2_onWay_76 q2587 q2591 q2593 q169 q2595 (by decide +kernel) (by decide +kernel) rfl h ⟨by decide, by decide⟩ (Nat.le_of_ble_eq_true rfl) (Nat.le_of_ble_eq_true rfl) rfl (Nat.le_of_ble_eq_true rfl)) (RunOK_if (fun h => run_F (n := 0) (c9 := 31) (As := []) (rest := [.int v18, .int x4]) (t_X15_arrives γ l hl x3 g17) dX2_onWay_76 q2587 q2597 q2599 q171 q2601 (by decide +kernel) (by decide +kernel) rfl h ⟨by decide, by decide⟩ (Nat.le_of_ble_eq_true rfl) (Nat.le_of_ble_eq_true rfl) rfl (Nat.le_of_ble_eq_true rfl)) (RunOK_if (fun h => run_F (n := 0) (c9 := 30) (As := []) (rest := [.int v18, .int x4]) (t_X14_arrives γ l hl x3 g17) dX2_onWay_76 q2587 q2603 q2605 q170 q2607 (by decide +kernel) (by decide +kernel) rfl h ⟨by decide, by decide⟩ (Nat.le_of_ble_eq_true rfl) (Nat.le_of_ble_eq_true rfl) rfl (Nat.le_of_ble_eq_true rfl)) (RunOK_chk (fun h => run_F (n := 0) (c9 := 32) (As := []) (rest := [.int v18, .int x4]) (t_X16_arrives γ l hl x3 g17) dX2_onWay_76 q2587 q2609 q2611 q172 q2613 (by decide +kernel) (by decide +kernel) rfl h ⟨by decide, by decide⟩ (Nat.le_of_ble_eq_true rfl) (Nat.le_of_ble_eq_true rfl) rfl (Nat.le_of_ble_eq_true rfl)))))) (fun v20 g19 => ?_)
      refine r_icmp_gt (tgt := 88) (pc := 81) dX2_onWay_81 (by decide) ?_ ?_
      · skip
        refine r_iconst (v := (0 : Int32)) (pc := 88) dX2_onWay_88 (by decide) ?_
        refine r_iadd (pc := 89) dX2_onWay_89 ?_
        refine r_istore (pc := 90) dX2_onWay_90 (Nat.le_of_ble_eq_true rfl) rfl ?_
        refine r_goto (tgt := 44) (pc := 92) dX2_onWay_92 (by decide) ?_
        refine AW_sub [2, 3, 4, 0, 5] rfl ?_
        exact ih (x4 + (0 : Int32)) g19
      · skip
        refine r_iconst (v := (1 : Int32)) (pc := 84) dX2_onWay_84 (by decide) ?_
        refine r_goto (tgt := 89) (pc := 85) dX2_onWay_85 (by decide) ?_
        refine r_iadd (pc := 89) dX2_onWay_89 ?_
        refine r_istore (pc := 90) dX2_onWay_90 (Nat.le_of_ble_eq_true rfl) rfl ?_
        refine r_goto (tgt := 44) (pc := 92) dX2_onWay_92 (by decide) ?_
        refine AW_sub [2, 3, 4, 0, 5] rfl ?_
        exact ih (x4 + (1 : Int32)) g19
theorem f_X2_onWay_L16_w (γ : GP) (l : Launch) (hl : l.stackTraces = false) (G0 : AH) (x1 : Nat) (x2 : Nat) : ∀ (n : Nat) (g : AH), AW ρR γ l ck_X2_onWay G0 16 [(1, .ref x1), (2, .ref x2)] [] g (f_X2_onWay_L16 γ x1 x2 n g) := by
  intro n
  induction n with
  | zero => intro g; exact AW_none
  | succ n ih =>
    intro g
    unfold f_X2_onWay_L16
    refine r_aload_n (pc := 16) dX2_onWay_16 rfl 1 rfl ?_
    refine r_cI (pc := 17) (rest := []) (RunOK_if (fun h => run_F (n := 0) (c9 := 10) (As := []) (rest := []) (t_J13_hasNext γ l hl x2 g) dX2_onWay_17 q781 q800 q802 q126 q804 (by decide +kernel) (by decide +kernel) rfl h ⟨by decide, by decide⟩ (Nat.le_of_ble_eq_true rfl) (Nat.le_of_ble_eq_true rfl) rfl (Nat.le_of_ble_eq_true rfl)) (RunOK_if (fun h => run_F (n := 0) (c9 := 13) (As := []) (rest := []) (t_J24_hasNext γ l hl x2 g) dX2_onWay_17 q781 q809 q811 q139 q813 (by decide +kernel) (by decide +kernel) rfl h ⟨by decide, by decide⟩ (Nat.le_of_ble_eq_true rfl) (Nat.le_of_ble_eq_true rfl) rfl (Nat.le_of_ble_eq_true rfl)) (RunOK_if (fun h => run_F (n := 0) (c9 := 17) (As := []) (rest := []) (t_J29_hasNext γ l hl x2 g) dX2_onWay_17 q781 q821 q817 q145 q819 (by decide +kernel) (by decide +kernel) rfl h ⟨by decide, by decide⟩ (Nat.le_of_ble_eq_true rfl) (Nat.le_of_ble_eq_true rfl) rfl (Nat.le_of_ble_eq_true rfl)) (RunOK_chk (fun h => run_F (n := 0) (c9 := 18) (As := []) (rest := []) (t_J29_hasNext γ l hl x2 g) dX2_onWay_17 q781 q824 q817 q145 q819 (by decide +kernel) (by decide +kernel) rfl h ⟨by decide, by decide⟩ (Nat.le_of_ble_eq_true rfl) (Nat.le_of_ble_eq_true rfl) rfl (Nat.le_of_ble_eq_true rfl)))))) (fun v8 g7 => ?_)
    refine r_if_eq (tgt := 105) (pc := 22) dX2_onWay_22 (by decide) ?_ ?_
    · skip
      refine r_aload_n (pc := 105) dX2_onWay_105 rfl 0 rfl ?_
      exact r_aret (pc := 106) dX2_onWay_106 rfl (by first | exact Or.inl ⟨_, rfl⟩ | exact Or.inr ⟨_, rfl⟩)
    · skip
      refine r_aload_n (pc := 25) dX2_onWay_25 rfl 1 rfl ?_
      refine r_cR (pc := 26) (rest := []) (RunOK_if (fun h => run_F (n := 0) (c9 := 10) (As := []) (rest := []) (t_J13_next γ l hl x2 g7) dX2_onWay_26 q827 q991 q993 q126 q995 (by decide +kernel) (by decide +kernel) rfl h ⟨by decide, by decide⟩ (Nat.le_of_ble_eq_true rfl) (Nat.le_of_ble_eq_true rfl) rfl (Nat.le_of_ble_eq_true rfl)) (RunOK_if (fun h => run_F (n := 0) (c9 := 13) (As := []) (rest := []) (t_J24_next γ l hl x2 g7) dX2_onWay_26 q827 q1015 q1017 q139 q1019 (by decide +kernel) (by decide +kernel) rfl h ⟨by decide, by decide⟩ (Nat.le_of_ble_eq_true rfl) (Nat.le_of_ble_eq_true rfl) rfl (Nat.le_of_ble_eq_true rfl)) (RunOK_if (fun h => run_F (n := 0) (c9 := 17) (As := []) (rest := []) (t_J31_next γ l hl x2 g7) dX2_onWay_26 q827 q1047 q1049 q147 q1051 (by decide +kernel) (by decide +kernel) rfl h ⟨by decide, by decide⟩ (Nat.le_of_ble_eq_true rfl) (Nat.le_of_ble_eq_true rfl) rfl (Nat.le_of_ble_eq_true rfl)) (RunOK_chk (fun h => run_F (n := 0) (c9 := 18) (As := []) (rest := []) (t_J32_next γ l hl x2 g7) dX2_onWay_26 q827 q1055 q1057 q148 q1059 (by decide +kernel) (by decide +kernel) rfl h ⟨by decide, by decide⟩ (Nat.le_of_ble_eq_true rfl) (Nat.le_of_ble_eq_true rfl) rfl (Nat.le_of_ble_eq_true rfl)))))) (fun v10 g9 => ?_)
      refine r_cast_ (L := [29, 30, 31, 32]) (pc := 31) dX2_onWay_31 q2585 (List.forall_mem_cons.mpr ⟨⟨by decide, by decide, Or.inr mv2590⟩, List.forall_mem_cons.mpr ⟨⟨by decide, by decide, Or.inr mv2602⟩, List.forall_mem_cons.mpr ⟨⟨by decide, by decide, Or.inr mv2596⟩, List.forall_mem_cons.mpr ⟨⟨by decide, by decide, Or.inr mv2608⟩, (fun _ h => absurd h List.not_mem_nil)⟩⟩⟩⟩) ?_
      refine r_astore_n (pc := 34) dX2_onWay_34 rfl (Nat.le_of_ble_eq_true rfl) rfl ?_
      refine r_iconst (v := (0 : Int32)) (pc := 35) dX2_onWay_35 (by decide) ?_
      refine r_istore (pc := 36) dX2_onWay_36 (Nat.le_of_ble_eq_true rfl) rfl ?_
      refine r_aload_n (pc := 38) dX2_onWay_38 rfl 2 rfl ?_
      refine r_cR (pc := 39) (rest := []) (RunOK_chk (fun h => run_U (n := 0) (c9 := 5) (As := []) (rest := []) (owner := "java/util/AbstractSequentialList") (t_J3_iterator γ l hl x1 g9) dX2_onWay_39 q2581 q2582 q2584 q387 q115 q389 rfl ⟨by decide, by decide, by decide +kernel⟩ rfl h ⟨by decide, by decide⟩ (Nat.le_of_ble_eq_true rfl) (Nat.le_of_ble_eq_true rfl) rfl (Nat.le_of_ble_eq_true rfl))) (fun v12 g11 => ?_)
      refine r_astore (pc := 42) dX2_onWay_42 (Nat.le_of_ble_eq_true rfl) rfl ?_
      refine AW_sub [3, 4, 2, 1, 0] rfl ?_
      refine f_X2_onWay_L44_w γ l hl _ x1 x2 v10 v12 _ ?_ FU (0 : Int32) g11
      · intro y21 g22
        refine r_aload_n (pc := 95) dX2_onWay_95 rfl 0 rfl ?_
        refine r_iload (pc := 96) dX2_onWay_96 3 rfl ?_
        refine r_aload_n (pc := 98) dX2_onWay_98 rfl 2 rfl ?_
        refine r_cV (pc := 99) (rest := []) (RunOK_chk (fun h => run_V (n := 2) (c9 := 5) (As := [.int y21, .ref v10]) (rest := []) (t_J4_add_2 γ l hl x1 y21 v10 g22) dX2_onWay_99 q2823 q2824 q2825 q116 q2826 (by decide +kernel) rfl h ⟨rfl, by decide, by decide⟩ (Nat.le_of_ble_eq_true rfl) (Nat.le_of_ble_eq_true rfl) rfl (Nat.le_of_ble_eq_true rfl))) (fun g23 => ?_)
        refine r_goto (tgt := 16) (pc := 102) dX2_onWay_102 (by decide) ?_
        refine AW_sub [0, 1] rfl ?_
        exact ih g23
theorem t_X2_onWay (γ : GP) (l : Launch) (hl : l.stackTraces = false) (x0 : Nat) (g : AH) : TrM ρR γ l ⟨"BanquetVotes$Kitchen", "onWay", "()Ljava/util/List;"⟩ (ws_ ⟨"BanquetVotes$Kitchen", "onWay", "()Ljava/util/List;"⟩ prog_14_method_10_code 7 (some (.object "java/util/List"))) 6 [.ref x0] g (f_X2_onWay γ x0 g) := by
  refine TrM_of (plainFor_of_name (by decide)) (Nat.le_of_ble_eq_true rfl) ?_
  unfold f_X2_onWay
  change AW ρR γ l ck_X2_onWay g 0 [(0, .ref x0)] [] g _
  refine r_new (c := 5) (pc := 0) dX2_onWay_0 q244 (by decide) (by decide) (fun q1 g2 => ?_)
  refine r_dup (pc := 3) dX2_onWay_3 rfl ?_
  refine r_cV (pc := 4) (rest := [.ref q1]) (RunOK_chk (fun h => run_I (n := 0) (As := []) (rest := [.ref q1]) (t_J4_init γ l hl q1 g2) dX2_onWay_4 q246 q247 q116 q248 rfl (by decide +kernel) rfl h (Nat.le_of_ble_eq_true rfl) (Nat.le_of_ble_eq_true rfl) rfl (Nat.le_of_ble_eq_true rfl))) (fun g3 => ?_)
  refine r_astore_n (pc := 7) dX2_onWay_7 rfl (Nat.le_of_ble_eq_true rfl) rfl ?_
  refine r_aload_n (pc := 8) dX2_onWay_8 rfl 1 rfl ?_
  refine r_getR (f := 11) (pc := 9) dX2_onWay_9 q268 (Or.inl rfl) rfl (fun v4 => ?_)
  refine r_cR (pc := 12) (rest := []) (RunOK_chk (fun h => run_U (n := 0) (c9 := 5) (As := []) (rest := []) (owner := "java/util/AbstractSequentialList") (t_J3_iterator γ l hl v4 g3) dX2_onWay_12 q2581 q2582 q2584 q387 q115 q389 rfl ⟨by decide, by decide, by decide +kernel⟩ rfl h ⟨by decide, by decide⟩ (Nat.le_of_ble_eq_true rfl) (Nat.le_of_ble_eq_true rfl) rfl (Nat.le_of_ble_eq_true rfl))) (fun v6 g5 => ?_)
  refine r_astore_n (pc := 15) dX2_onWay_15 rfl (Nat.le_of_ble_eq_true rfl) rfl ?_
  refine AW_sub [1, 0] rfl ?_
  refine f_X2_onWay_L16_w γ l hl _ q1 v6 FU g5
abbrev ck_X13_number : CK := ("BanquetVotes$Invitation", prog_13_method_2_code, 1, (some .int), "number", [], 1)
def f_X13_number (γ : GP) (x0 : Nat) (g : AH) : Option (Int32 × AH) := (some ((0 : Int32), g))
theorem t_X13_number (γ : GP) (l : Launch) (hl : l.stackTraces = false) (x0 : Nat) (g : AH) : TrM ρI γ l ⟨"BanquetVotes$Invitation", "number", "()I"⟩ (ws_ ⟨"BanquetVotes$Invitation", "number", "()I"⟩ prog_13_method_2_code 1 (some .int)) 1 [.ref x0] g (f_X13_number γ x0 g) := by
  refine TrM_of (plainFor_of_name (by decide)) (Nat.le_of_ble_eq_true rfl) ?_
  unfold f_X13_number
  change AW ρI γ l ck_X13_number g 0 [(0, .ref x0)] [] g _
  refine r_iconst (v := (0 : Int32)) (pc := 0) dX13_number_0 (by decide) ?_
  exact r_iret (pc := 1) dX13_number_1 rfl
abbrev ck_X15_number : CK := ("BanquetVotes$Question", prog_17_method_2_code, 1, (some .int), "number", [], 1)
def f_X15_number (γ : GP) (x0 : Nat) (g : AH) : Option (Int32 × AH) := (some ((5 : Int32), g))
theorem t_X15_number (γ : GP) (l : Launch) (hl : l.stackTraces = false) (x0 : Nat) (g : AH) : TrM ρI γ l ⟨"BanquetVotes$Question", "number", "()I"⟩ (ws_ ⟨"BanquetVotes$Question", "number", "()I"⟩ prog_17_method_2_code 1 (some .int)) 1 [.ref x0] g (f_X15_number γ x0 g) := by
  refine TrM_of (plainFor_of_name (by decide)) (Nat.le_of_ble_eq_true rfl) ?_
  unfold f_X15_number
  change AW ρI γ l ck_X15_number g 0 [(0, .ref x0)] [] g _
  refine r_iconst (v := (5 : Int32)) (pc := 0) dX15_number_0 (by decide) ?_
  exact r_iret (pc := 1) dX15_number_1 rfl
abbrev ck_X14_number : CK := ("BanquetVotes$Verdict", prog_22_method_2_code, 1, (some .int), "number", [], 1)
def f_X14_number (γ : GP) (x0 : Nat) (g : AH) : Option (Int32 × AH) := gI g x0 119 fun v1 => (if v1 = 0 then (some ((4 : Int32), g)) else (some ((3 : Int32), g)))
theorem t_X14_number (γ : GP) (l : Launch) (hl : l.stackTraces = false) (x0 : Nat) (g : AH) : TrM ρI γ l ⟨"BanquetVotes$Verdict", "number", "()I"⟩ (ws_ ⟨"BanquetVotes$Verdict", "number", "()I"⟩ prog_22_method_2_code 1 (some .int)) 1 [.ref x0] g (f_X14_number γ x0 g) := by
  refine TrM_of (plainFor_of_name (by decide)) (Nat.le_of_ble_eq_true rfl) ?_
  unfold f_X14_number
  change AW ρI γ l ck_X14_number g 0 [(0, .ref x0)] [] g _
  refine r_aload_n (pc := 0) dX14_number_0 rfl 0 rfl ?_
  refine r_getI (f := 119) (pc := 1) dX14_number_1 q2460 (Or.inl rfl) rfl (fun v1 => ?_)
  refine r_if_eq (tgt := 11) (pc := 4) dX14_number_4 (by decide) ?_ ?_
  · skip
    refine r_iconst (v := (4 : Int32)) (pc := 11) dX14_number_11 (by decide) ?_
    exact r_iret (pc := 12) dX14_number_12 rfl
  · skip
    refine r_iconst (v := (3 : Int32)) (pc := 7) dX14_number_7 (by decide) ?_
    refine r_goto (tgt := 12) (pc := 8) dX14_number_8 (by decide) ?_
    exact r_iret (pc := 12) dX14_number_12 rfl
abbrev ck_X16_number : CK := ("BanquetVotes$Vote", prog_23_method_2_code, 1, (some .int), "number", [], 1)
def f_X16_number (γ : GP) (x0 : Nat) (g : AH) : Option (Int32 × AH) := gI g x0 126 fun v1 => (if v1 = 0 then (some ((2 : Int32), g)) else (some ((1 : Int32), g)))
theorem t_X16_number (γ : GP) (l : Launch) (hl : l.stackTraces = false) (x0 : Nat) (g : AH) : TrM ρI γ l ⟨"BanquetVotes$Vote", "number", "()I"⟩ (ws_ ⟨"BanquetVotes$Vote", "number", "()I"⟩ prog_23_method_2_code 1 (some .int)) 1 [.ref x0] g (f_X16_number γ x0 g) := by
  refine TrM_of (plainFor_of_name (by decide)) (Nat.le_of_ble_eq_true rfl) ?_
  unfold f_X16_number
  change AW ρI γ l ck_X16_number g 0 [(0, .ref x0)] [] g _
  refine r_aload_n (pc := 0) dX16_number_0 rfl 0 rfl ?_
  refine r_getI (f := 126) (pc := 1) dX16_number_1 q2722 (Or.inl rfl) rfl (fun v1 => ?_)
  refine r_if_eq (tgt := 11) (pc := 4) dX16_number_4 (by decide) ?_ ?_
  · skip
    refine r_iconst (v := (2 : Int32)) (pc := 11) dX16_number_11 (by decide) ?_
    exact r_iret (pc := 12) dX16_number_12 rfl
  · skip
    refine r_iconst (v := (1 : Int32)) (pc := 7) dX16_number_7 (by decide) ?_
    refine r_goto (tgt := 12) (pc := 8) dX16_number_8 (by decide) ?_
    exact r_iret (pc := 12) dX16_number_12 rfl
abbrev ck_X1_messageOf : CK := ("BanquetVotes", prog_1_method_34_code, 5, (some .int), "messageOf", [], 9)
def f_X1_messageOf (γ : GP) (x0 : Nat) (x1 : Int32) (x2 : Int32) (g : AH) : Option ((Int32 × AH) ⊕ (Nat × AH)) := gR g x0 0 fun v1 => bR ((if hK g v1 = 2 then f_X2_onWay γ v1 g else none)) fun v3 g2 => bI ((if hK g2 v3 = 3 then f_J2_size γ v3 g2 else if hK g2 v3 = 5 then f_J4_size γ v3 g2 else none)) fun v5 g4 => bI (f_X1_isIn γ x1 (0 : Int32) (v5 - (1 : Int32)) g4) fun v7 g6 => bXV (f_X1_requireElement γ v7 g6) (fun e9 g10 => (thr e9 g10)) fun g8 => bI (f_X1_isIn γ x2 (0 : Int32) (3 : Int32) g8) fun v12 g11 => bXV (f_X1_require γ v12 g11) (fun e14 g15 => (thr e14 g15)) fun g13 => bR ((if hK g13 v3 = 3 then f_J2_get γ v3 x1 g13 else if hK g13 v3 = 5 then f_J4_get γ v3 x1 g13 else none)) fun v17 g16 => gC g16 [29, 30, 31, 32] v17 ((if x2 = 0 then bI ((if hK g16 v17 = 29 then f_X13_number γ v17 g16 else if hK g16 v17 = 31 then f_X15_number γ v17 g16 else if hK g16 v17 = 30 then f_X14_number γ v17 g16 else if hK g16 v17 = 32 then f_X16_number γ v17 g16 else none)) fun v19 g18 => (some (.inl (v19, g18))) else (if x2 = (1 : Int32) then bI ((if hK g16 v17 = 29 then f_X13_cook γ v17 g16 else if hK g16 v17 = 31 then f_X15_cook γ v17 g16 else if hK g16 v17 = 30 then f_X14_cook γ v17 g16 else if hK g16 v17 = 32 then f_X16_cook γ v17 g16 else none)) fun v21 g20 => (some (.inl (v21, g20))) else (if x2 = (2 : Int32) then bI ((if hK g16 v17 = 29 then f_X13_course γ v17 g16 else if hK g16 v17 = 31 then f_X15_course γ v17 g16 else if hK g16 v17 = 30 then f_X14_course γ v17 g16 else if hK g16 v17 = 32 then f_X16_course γ v17 g16 else none)) fun v23 g22 => (some (.inl (v23, g22))) else bI ((if hK g16 v17 = 29 then f_X13_arrives γ v17 g16 else if hK g16 v17 = 31 then f_X15_arrives γ v17 g16 else if hK g16 v17 = 30 then f_X14_arrives γ v17 g16 else if hK g16 v17 = 32 then f_X16_arrives γ v17 g16 else none)) fun v25 g24 => (some (.inl (v25, g24)))))))
theorem t_X1_messageOf (γ : GP) (l : Launch) (hl : l.stackTraces = false) (x0 : Nat) (x1 : Int32) (x2 : Int32) (g : AH) : TrM (ρX ρI) γ l ⟨"BanquetVotes", "messageOf", "(II)I"⟩ (ws_ ⟨"BanquetVotes", "messageOf", "(II)I"⟩ prog_1_method_34_code 5 (some .int)) 9 [.ref x0, .int x1, .int x2] g (f_X1_messageOf γ x0 x1 x2 g) := by
  refine TrM_of (plainFor_of_name (by decide)) (Nat.le_of_ble_eq_true rfl) ?_
  unfold f_X1_messageOf
  change AW (ρX ρI) γ l ck_X1_messageOf g 0 [(0, .ref x0), (1, .int x1), (2, .int x2)] [] g _
  refine r_aload_n (pc := 0) dX1_messageOf_0 rfl 0 rfl ?_
  refine r_getR (f := 0) (pc := 1) dX1_messageOf_1 q320 (Or.inl rfl) rfl (fun v1 => ?_)
  refine r_cR (pc := 4) (rest := []) (RunOK_chk (fun h => run_V (n := 0) (c9 := 2) (As := []) (rest := []) (t_X2_onWay γ l hl v1 g) dX1_messageOf_4 q2819 q2820 q2821 q109 q2822 (by decide +kernel) rfl h ⟨rfl, by decide, by decide⟩ (Nat.le_of_ble_eq_true rfl) (Nat.le_of_ble_eq_true rfl) rfl (Nat.le_of_ble_eq_true rfl))) (fun v3 g2 => ?_)
  refine r_astore_n (pc := 7) dX1_messageOf_7 rfl (Nat.le_of_ble_eq_true rfl) rfl ?_
  refine r_iload_n (pc := 8) dX1_messageOf_8 rfl 2 rfl ?_
  refine r_iconst (v := (0 : Int32)) (pc := 9) dX1_messageOf_9 (by decide) ?_
  refine r_aload_n (pc := 10) dX1_messageOf_10 rfl 0 rfl ?_
  refine r_cI (pc := 11) (rest := [.int (0 : Int32), .int x1]) (RunOK_if (fun h => run_F (n := 0) (c9 := 3) (As := []) (rest := [.int (0 : Int32), .int x1]) (t_J2_size γ l hl v3 g2) dX1_messageOf_11 q2004 q1891 q794 q112 q795 (by decide +kernel) (by decide +kernel) rfl h ⟨by decide, by decide⟩ (Nat.le_of_ble_eq_true rfl) (Nat.le_of_ble_eq_true rfl) rfl (Nat.le_of_ble_eq_true rfl)) (RunOK_chk (fun h => run_F (n := 0) (c9 := 5) (As := []) (rest := [.int (0 : Int32), .int x1]) (t_J4_size γ l hl v3 g2) dX1_messageOf_11 q2004 q1894 q797 q116 q798 (by decide +kernel) (by decide +kernel) rfl h ⟨by decide, by decide⟩ (Nat.le_of_ble_eq_true rfl) (Nat.le_of_ble_eq_true rfl) rfl (Nat.le_of_ble_eq_true rfl)))) (fun v5 g4 => ?_)
  refine r_iconst (v := (1 : Int32)) (pc := 16) dX1_messageOf_16 (by decide) ?_
  refine r_isub (pc := 17) dX1_messageOf_17 ?_
  refine r_cI (pc := 18) (rest := []) (run_S (n := 3) (As := [.int x1, .int (0 : Int32), .int (v5 - (1 : Int32))]) (rest := []) (t_X1_isIn γ l hl x1 (0 : Int32) (v5 - (1 : Int32)) g4) dX1_messageOf_18 q1208 q1209 q108 q1210 (by decide +kernel) rfl (Nat.le_of_ble_eq_true rfl) (Nat.le_of_ble_eq_true rfl) rfl (Nat.le_of_ble_eq_true rfl)) (fun v7 g6 => ?_)
  refine r_cXV (pc := 21) (rest := []) (run_S (n := 1) (As := [.int v7]) (rest := []) (t_X1_requireElement γ l hl v7 g6) dX1_messageOf_21 q2182 q2183 q108 q2184 (by decide +kernel) rfl (Nat.le_of_ble_eq_true rfl) (Nat.le_of_ble_eq_true rfl) rfl (Nat.le_of_ble_eq_true rfl)) (fun e9 g10 => ?_) (fun g8 => ?_)
  · skip
    exact x_out (by decide)
  · skip
    refine r_iload_n (pc := 24) dX1_messageOf_24 rfl 3 rfl ?_
    refine r_iconst (v := (0 : Int32)) (pc := 25) dX1_messageOf_25 (by decide) ?_
    refine r_iconst (v := (3 : Int32)) (pc := 26) dX1_messageOf_26 (by decide) ?_
    refine r_cI (pc := 27) (rest := []) (run_S (n := 3) (As := [.int x2, .int (0 : Int32), .int (3 : Int32)]) (rest := []) (t_X1_isIn γ l hl x2 (0 : Int32) (3 : Int32) g8) dX1_messageOf_27 q1208 q1209 q108 q1210 (by decide +kernel) rfl (Nat.le_of_ble_eq_true rfl) (Nat.le_of_ble_eq_true rfl) rfl (Nat.le_of_ble_eq_true rfl)) (fun v12 g11 => ?_)
    refine r_cXV (pc := 30) (rest := []) (run_S (n := 1) (As := [.int v12]) (rest := []) (t_X1_require γ l hl v12 g11) dX1_messageOf_30 q1211 q1212 q108 q1213 (by decide +kernel) rfl (Nat.le_of_ble_eq_true rfl) (Nat.le_of_ble_eq_true rfl) rfl (Nat.le_of_ble_eq_true rfl)) (fun e14 g15 => ?_) (fun g13 => ?_)
    · skip
      exact x_out (by decide)
    · skip
      refine r_aload_n (pc := 33) dX1_messageOf_33 rfl 0 rfl ?_
      refine r_iload_n (pc := 34) dX1_messageOf_34 rfl 2 rfl ?_
      refine r_cR (pc := 35) (rest := []) (RunOK_if (fun h => run_F (n := 1) (c9 := 3) (As := [.int x1]) (rest := []) (t_J2_get γ l hl v3 x1 g13) dX1_messageOf_35 q2832 q2028 q844 q112 q845 (by decide +kernel) (by decide +kernel) rfl h ⟨by decide, by decide⟩ (Nat.le_of_ble_eq_true rfl) (Nat.le_of_ble_eq_true rfl) rfl (Nat.le_of_ble_eq_true rfl)) (RunOK_chk (fun h => run_F (n := 1) (c9 := 5) (As := [.int x1]) (rest := []) (t_J4_get γ l hl v3 x1 g13) dX1_messageOf_35 q2832 q2031 q857 q116 q858 (by decide +kernel) (by decide +kernel) rfl h ⟨by decide, by decide⟩ (Nat.le_of_ble_eq_true rfl) (Nat.le_of_ble_eq_true rfl) rfl (Nat.le_of_ble_eq_true rfl)))) (fun v17 g16 => ?_)
      refine r_cast_ (L := [29, 30, 31, 32]) (pc := 40) dX1_messageOf_40 q2833 (List.forall_mem_cons.mpr ⟨⟨by decide, by decide, Or.inr mv2590⟩, List.forall_mem_cons.mpr ⟨⟨by decide, by decide, Or.inr mv2602⟩, List.forall_mem_cons.mpr ⟨⟨by decide, by decide, Or.inr mv2596⟩, List.forall_mem_cons.mpr ⟨⟨by decide, by decide, Or.inr mv2608⟩, (fun _ h => absurd h List.not_mem_nil)⟩⟩⟩⟩) ?_
      refine r_astore (pc := 43) dX1_messageOf_43 (Nat.le_of_ble_eq_true rfl) rfl ?_
      refine r_iload_n (pc := 45) dX1_messageOf_45 rfl 4 rfl ?_
      refine r_if_ne (tgt := 59) (pc := 46) dX1_messageOf_46 (by decide) ?_ ?_
      · skip
        refine r_aload (pc := 49) dX1_messageOf_49 0 rfl ?_
        refine r_cI (pc := 51) (rest := []) (RunOK_if (fun h => run_F (n := 0) (c9 := 29) (As := []) (rest := []) (t_X13_number γ l hl v17 g16) dX1_messageOf_51 q2835 q2838 q2840 q169 q2842 (by decide +kernel) (by decide +kernel) rfl h ⟨by decide, by decide⟩ (Nat.le_of_ble_eq_true rfl) (Nat.le_of_ble_eq_true rfl) rfl (Nat.le_of_ble_eq_true rfl)) (RunOK_if (fun h => run_F (n := 0) (c9 := 31) (As := []) (rest := []) (t_X15_number γ l hl v17 g16) dX1_messageOf_51 q2835 q2843 q2845 q171 q2847 (by decide +kernel) (by decide +kernel) rfl h ⟨by decide, by decide⟩ (Nat.le_of_ble_eq_true rfl) (Nat.le_of_ble_eq_true rfl) rfl (Nat.le_of_ble_eq_true rfl)) (RunOK_if (fun h => run_F (n := 0) (c9 := 30) (As := []) (rest := []) (t_X14_number γ l hl v17 g16) dX1_messageOf_51 q2835 q2848 q2850 q170 q2852 (by decide +kernel) (by decide +kernel) rfl h ⟨by decide, by decide⟩ (Nat.le_of_ble_eq_true rfl) (Nat.le_of_ble_eq_true rfl) rfl (Nat.le_of_ble_eq_true rfl)) (RunOK_chk (fun h => run_F (n := 0) (c9 := 32) (As := []) (rest := []) (t_X16_number γ l hl v17 g16) dX1_messageOf_51 q2835 q2853 q2855 q172 q2857 (by decide +kernel) (by decide +kernel) rfl h ⟨by decide, by decide⟩ (Nat.le_of_ble_eq_true rfl) (Nat.le_of_ble_eq_true rfl) rfl (Nat.le_of_ble_eq_true rfl)))))) (fun v19 g18 => ?_)
        refine r_goto (tgt := 96) (pc := 56) dX1_messageOf_56 (by decide) ?_
        exact r_inl (fun _ => rfl) (r_iret (pc := 96) dX1_messageOf_96 rfl)
      · skip
        refine r_iload_n (pc := 59) dX1_messageOf_59 rfl 4 rfl ?_
        refine r_iconst (v := (1 : Int32)) (pc := 60) dX1_messageOf_60 (by decide) ?_
        refine r_icmp_ne (tgt := 74) (pc := 61) dX1_messageOf_61 (by decide) ?_ ?_
        · skip
          refine r_aload (pc := 64) dX1_messageOf_64 0 rfl ?_
          refine r_cI (pc := 66) (rest := []) (RunOK_if (fun h => run_F (n := 0) (c9 := 29) (As := []) (rest := []) (t_X13_cook γ l hl v17 g16) dX1_messageOf_66 q2859 q2631 q2633 q169 q2635 (by decide +kernel) (by decide +kernel) rfl h ⟨by decide, by decide⟩ (Nat.le_of_ble_eq_true rfl) (Nat.le_of_ble_eq_true rfl) rfl (Nat.le_of_ble_eq_true rfl)) (RunOK_if (fun h => run_F (n := 0) (c9 := 31) (As := []) (rest := []) (t_X15_cook γ l hl v17 g16) dX1_messageOf_66 q2859 q2636 q2638 q171 q2640 (by decide +kernel) (by decide +kernel) rfl h ⟨by decide, by decide⟩ (Nat.le_of_ble_eq_true rfl) (Nat.le_of_ble_eq_true rfl) rfl (Nat.le_of_ble_eq_true rfl)) (RunOK_if (fun h => run_F (n := 0) (c9 := 30) (As := []) (rest := []) (t_X14_cook γ l hl v17 g16) dX1_messageOf_66 q2859 q2641 q2643 q170 q2645 (by decide +kernel) (by decide +kernel) rfl h ⟨by decide, by decide⟩ (Nat.le_of_ble_eq_true rfl) (Nat.le_of_ble_eq_true rfl) rfl (Nat.le_of_ble_eq_true rfl)) (RunOK_chk (fun h => run_F (n := 0) (c9 := 32) (As := []) (rest := []) (t_X16_cook γ l hl v17 g16) dX1_messageOf_66 q2859 q2646 q2648 q172 q2650 (by decide +kernel) (by decide +kernel) rfl h ⟨by decide, by decide⟩ (Nat.le_of_ble_eq_true rfl) (Nat.le_of_ble_eq_true rfl) rfl (Nat.le_of_ble_eq_true rfl)))))) (fun v21 g20 => ?_)
          refine r_goto (tgt := 96) (pc := 71) dX1_messageOf_71 (by decide) ?_
          exact r_inl (fun _ => rfl) (r_iret (pc := 96) dX1_messageOf_96 rfl)
        · skip
          refine r_iload_n (pc := 74) dX1_messageOf_74 rfl 4 rfl ?_
          refine r_iconst (v := (2 : Int32)) (pc := 75) dX1_messageOf_75 (by decide) ?_
          refine r_icmp_ne (tgt := 89) (pc := 76) dX1_messageOf_76 (by decide) ?_ ?_
          · skip
            refine r_aload (pc := 79) dX1_messageOf_79 0 rfl ?_
            refine r_cI (pc := 81) (rest := []) (RunOK_if (fun h => run_F (n := 0) (c9 := 29) (As := []) (rest := []) (t_X13_course γ l hl v17 g16) dX1_messageOf_81 q2861 q2692 q2694 q169 q2696 (by decide +kernel) (by decide +kernel) rfl h ⟨by decide, by decide⟩ (Nat.le_of_ble_eq_true rfl) (Nat.le_of_ble_eq_true rfl) rfl (Nat.le_of_ble_eq_true rfl)) (RunOK_if (fun h => run_F (n := 0) (c9 := 31) (As := []) (rest := []) (t_X15_course γ l hl v17 g16) dX1_messageOf_81 q2861 q2697 q2675 q171 q2677 (by decide +kernel) (by decide +kernel) rfl h ⟨by decide, by decide⟩ (Nat.le_of_ble_eq_true rfl) (Nat.le_of_ble_eq_true rfl) rfl (Nat.le_of_ble_eq_true rfl)) (RunOK_if (fun h => run_F (n := 0) (c9 := 30) (As := []) (rest := []) (t_X14_course γ l hl v17 g16) dX1_messageOf_81 q2861 q2700 q2681 q170 q2683 (by decide +kernel) (by decide +kernel) rfl h ⟨by decide, by decide⟩ (Nat.le_of_ble_eq_true rfl) (Nat.le_of_ble_eq_true rfl) rfl (Nat.le_of_ble_eq_true rfl)) (RunOK_chk (fun h => run_F (n := 0) (c9 := 32) (As := []) (rest := []) (t_X16_course γ l hl v17 g16) dX1_messageOf_81 q2861 q2703 q2657 q172 q2659 (by decide +kernel) (by decide +kernel) rfl h ⟨by decide, by decide⟩ (Nat.le_of_ble_eq_true rfl) (Nat.le_of_ble_eq_true rfl) rfl (Nat.le_of_ble_eq_true rfl)))))) (fun v23 g22 => ?_)
            refine r_goto (tgt := 96) (pc := 86) dX1_messageOf_86 (by decide) ?_
            exact r_inl (fun _ => rfl) (r_iret (pc := 96) dX1_messageOf_96 rfl)
          · skip
            refine r_aload (pc := 89) dX1_messageOf_89 0 rfl ?_
            refine r_cI (pc := 91) (rest := []) (RunOK_if (fun h => run_F (n := 0) (c9 := 29) (As := []) (rest := []) (t_X13_arrives γ l hl v17 g16) dX1_messageOf_91 q2863 q2591 q2593 q169 q2595 (by decide +kernel) (by decide +kernel) rfl h ⟨by decide, by decide⟩ (Nat.le_of_ble_eq_true rfl) (Nat.le_of_ble_eq_true rfl) rfl (Nat.le_of_ble_eq_true rfl)) (RunOK_if (fun h => run_F (n := 0) (c9 := 31) (As := []) (rest := []) (t_X15_arrives γ l hl v17 g16) dX1_messageOf_91 q2863 q2597 q2599 q171 q2601 (by decide +kernel) (by decide +kernel) rfl h ⟨by decide, by decide⟩ (Nat.le_of_ble_eq_true rfl) (Nat.le_of_ble_eq_true rfl) rfl (Nat.le_of_ble_eq_true rfl)) (RunOK_if (fun h => run_F (n := 0) (c9 := 30) (As := []) (rest := []) (t_X14_arrives γ l hl v17 g16) dX1_messageOf_91 q2863 q2603 q2605 q170 q2607 (by decide +kernel) (by decide +kernel) rfl h ⟨by decide, by decide⟩ (Nat.le_of_ble_eq_true rfl) (Nat.le_of_ble_eq_true rfl) rfl (Nat.le_of_ble_eq_true rfl)) (RunOK_chk (fun h => run_F (n := 0) (c9 := 32) (As := []) (rest := []) (t_X16_arrives γ l hl v17 g16) dX1_messageOf_91 q2863 q2609 q2611 q172 q2613 (by decide +kernel) (by decide +kernel) rfl h ⟨by decide, by decide⟩ (Nat.le_of_ble_eq_true rfl) (Nat.le_of_ble_eq_true rfl) rfl (Nat.le_of_ble_eq_true rfl)))))) (fun v25 g24 => ?_)
            exact r_inl (fun _ => rfl) (r_iret (pc := 96) dX1_messageOf_96 rfl)
abbrev ck_X12_number : CK := ("BanquetVotes$Line", prog_15_method_2_code, 2, (some .int), "number", [], 1)
def f_X12_number (γ : GP) (x0 : Nat) (x1 : Int32) (g : AH) : Option (Int32 × AH) := (if x1 = 0 then gI g x0 110 fun v1 => (some (v1, g)) else (if x1 = (1 : Int32) then gI g x0 111 fun v2 => (some (v2, g)) else gI g x0 112 fun v3 => (some (v3, g))))
theorem t_X12_number (γ : GP) (l : Launch) (hl : l.stackTraces = false) (x0 : Nat) (x1 : Int32) (g : AH) : TrM ρI γ l ⟨"BanquetVotes$Line", "number", "(I)I"⟩ (ws_ ⟨"BanquetVotes$Line", "number", "(I)I"⟩ prog_15_method_2_code 2 (some .int)) 1 [.ref x0, .int x1] g (f_X12_number γ x0 x1 g) := by
  refine TrM_of (plainFor_of_name (by decide)) (Nat.le_of_ble_eq_true rfl) ?_
  unfold f_X12_number
  change AW ρI γ l ck_X12_number g 0 [(0, .ref x0), (1, .int x1)] [] g _
  refine r_iload_n (pc := 0) dX12_number_0 rfl 1 rfl ?_
  refine r_if_ne (tgt := 11) (pc := 1) dX12_number_1 (by decide) ?_ ?_
  · skip
    refine r_aload_n (pc := 4) dX12_number_4 rfl 0 rfl ?_
    refine r_getI (f := 110) (pc := 5) dX12_number_5 q2389 (Or.inl rfl) rfl (fun v1 => ?_)
    refine r_goto (tgt := 27) (pc := 8) dX12_number_8 (by decide) ?_
    exact r_iret (pc := 27) dX12_number_27 rfl
  · skip
    refine r_iload_n (pc := 11) dX12_number_11 rfl 1 rfl ?_
    refine r_iconst (v := (1 : Int32)) (pc := 12) dX12_number_12 (by decide) ?_
    refine r_icmp_ne (tgt := 23) (pc := 13) dX12_number_13 (by decide) ?_ ?_
    · skip
      refine r_aload_n (pc := 16) dX12_number_16 rfl 0 rfl ?_
      refine r_getI (f := 111) (pc := 17) dX12_number_17 q2390 (Or.inl rfl) rfl (fun v2 => ?_)
      refine r_goto (tgt := 27) (pc := 20) dX12_number_20 (by decide) ?_
      exact r_iret (pc := 27) dX12_number_27 rfl
    · skip
      refine r_aload_n (pc := 23) dX12_number_23 rfl 0 rfl ?_
      refine r_getI (f := 112) (pc := 24) dX12_number_24 q2391 (Or.inl rfl) rfl (fun v3 => ?_)
      exact r_iret (pc := 27) dX12_number_27 rfl
abbrev ck_X1_logOf : CK := ("BanquetVotes", prog_1_method_35_code, 5, (some .int), "logOf", [], 10)
def f_X1_logOf (γ : GP) (x0 : Nat) (x1 : Int32) (x2 : Int32) (x3 : Int32) (g : AH) : Option ((Int32 × AH) ⊕ (Nat × AH)) := bXV ((if hK g x0 = 1 then f_X1_requireWho γ x0 x1 g else none)) (fun e2 g3 => (thr e2 g3)) fun g1 => gR g1 x0 0 fun v4 => bR ((if hK g1 v4 = 2 then f_X2_who γ v4 x1 g1 else none)) fun v6 g5 => bR ((if hK g5 v6 = 16 then f_X3_log γ v6 g5 else if hK g5 v6 = 4 then f_X3_log γ v6 g5 else none)) fun v8 g7 => bI ((if hK g7 v8 = 3 then f_J2_size γ v8 g7 else if hK g7 v8 = 5 then f_J4_size γ v8 g7 else none)) fun v10 g9 => bI (f_X1_isIn γ x2 (0 : Int32) (v10 - (1 : Int32)) g9) fun v12 g11 => bXV (f_X1_requireElement γ v12 g11) (fun e14 g15 => (thr e14 g15)) fun g13 => bI (f_X1_isIn γ x3 (0 : Int32) (2 : Int32) g13) fun v17 g16 => bXV (f_X1_require γ v17 g16) (fun e19 g20 => (thr e19 g20)) fun g18 => bR ((if hK g18 v8 = 3 then f_J2_get γ v8 x2 g18 else if hK g18 v8 = 5 then f_J4_get γ v8 x2 g18 else none)) fun v22 g21 => gC g21 [28] v22 (bI ((if hK g21 v22 = 28 then f_X12_number γ v22 x3 g21 else none)) fun v24 g23 => (some (.inl (v24, g23))))
theorem t_X1_logOf (γ : GP) (l : Launch) (hl : l.stackTraces = false) (x0 : Nat) (x1 : Int32) (x2 : Int32) (x3 : Int32) (g : AH) : TrM (ρX ρI) γ l ⟨"BanquetVotes", "logOf", "(III)I"⟩ (ws_ ⟨"BanquetVotes", "logOf", "(III)I"⟩ prog_1_method_35_code 5 (some .int)) 10 [.ref x0, .int x1, .int x2, .int x3] g (f_X1_logOf γ x0 x1 x2 x3 g) := by
  refine TrM_of (plainFor_of_name (by decide)) (Nat.le_of_ble_eq_true rfl) ?_
  unfold f_X1_logOf
  change AW (ρX ρI) γ l ck_X1_logOf g 0 [(0, .ref x0), (1, .int x1), (2, .int x2), (3, .int x3)] [] g _
  refine r_aload_n (pc := 0) dX1_logOf_0 rfl 0 rfl ?_
  refine r_iload_n (pc := 1) dX1_logOf_1 rfl 1 rfl ?_
  refine r_cXV (pc := 2) (rest := []) (RunOK_chk (fun h => run_V (n := 1) (c9 := 1) (As := [.int x1]) (rest := []) (t_X1_requireWho γ l hl x0 x1 g) dX1_logOf_2 q2761 q2763 qs40 q108 q2764 (by decide +kernel) rfl h ⟨rfl, by decide, by decide⟩ (Nat.le_of_ble_eq_true rfl) (Nat.le_of_ble_eq_true rfl) rfl (Nat.le_of_ble_eq_true rfl))) (fun e2 g3 => ?_) (fun g1 => ?_)
  · skip
    exact x_out (by decide)
  · skip
    refine r_aload_n (pc := 5) dX1_logOf_5 rfl 0 rfl ?_
    refine r_getR (f := 0) (pc := 6) dX1_logOf_6 q320 (Or.inl rfl) rfl (fun v4 => ?_)
    refine r_iload_n (pc := 9) dX1_logOf_9 rfl 1 rfl ?_
    refine r_cR (pc := 10) (rest := []) (RunOK_chk (fun h => run_V (n := 1) (c9 := 2) (As := [.int x1]) (rest := []) (t_X2_who γ l hl v4 x1 g1) dX1_logOf_10 q2871 q2475 q2476 q109 q2477 (by decide +kernel) rfl h ⟨rfl, by decide, by decide⟩ (Nat.le_of_ble_eq_true rfl) (Nat.le_of_ble_eq_true rfl) rfl (Nat.le_of_ble_eq_true rfl))) (fun v6 g5 => ?_)
    refine r_cR (pc := 13) (rest := []) (RunOK_if (fun h => run_U (n := 0) (c9 := 16) (As := []) (rest := []) (owner := "BanquetVotes$Somebody") (t_X3_log γ l hl v6 g5) dX1_logOf_13 q2872 q3907 q3908 q2094 q113 q2095 rfl ⟨by decide, by decide, by decide +kernel⟩ rfl h ⟨by decide, by decide⟩ (Nat.le_of_ble_eq_true rfl) (Nat.le_of_ble_eq_true rfl) rfl (Nat.le_of_ble_eq_true rfl)) (RunOK_chk (fun h => run_U (n := 0) (c9 := 4) (As := []) (rest := []) (owner := "BanquetVotes$Somebody") (t_X3_log γ l hl v6 g5) dX1_logOf_13 q2872 q3907 q3909 q2094 q113 q2095 rfl ⟨by decide, by decide, by decide +kernel⟩ rfl h ⟨by decide, by decide⟩ (Nat.le_of_ble_eq_true rfl) (Nat.le_of_ble_eq_true rfl) rfl (Nat.le_of_ble_eq_true rfl)))) (fun v8 g7 => ?_)
    refine r_astore (pc := 16) dX1_logOf_16 (Nat.le_of_ble_eq_true rfl) rfl ?_
    refine r_iload_n (pc := 18) dX1_logOf_18 rfl 3 rfl ?_
    refine r_iconst (v := (0 : Int32)) (pc := 19) dX1_logOf_19 (by decide) ?_
    refine r_aload (pc := 20) dX1_logOf_20 0 rfl ?_
    refine r_cI (pc := 22) (rest := [.int (0 : Int32), .int x2]) (RunOK_if (fun h => run_F (n := 0) (c9 := 3) (As := []) (rest := [.int (0 : Int32), .int x2]) (t_J2_size γ l hl v8 g7) dX1_logOf_22 q2004 q1891 q794 q112 q795 (by decide +kernel) (by decide +kernel) rfl h ⟨by decide, by decide⟩ (Nat.le_of_ble_eq_true rfl) (Nat.le_of_ble_eq_true rfl) rfl (Nat.le_of_ble_eq_true rfl)) (RunOK_chk (fun h => run_F (n := 0) (c9 := 5) (As := []) (rest := [.int (0 : Int32), .int x2]) (t_J4_size γ l hl v8 g7) dX1_logOf_22 q2004 q1894 q797 q116 q798 (by decide +kernel) (by decide +kernel) rfl h ⟨by decide, by decide⟩ (Nat.le_of_ble_eq_true rfl) (Nat.le_of_ble_eq_true rfl) rfl (Nat.le_of_ble_eq_true rfl)))) (fun v10 g9 => ?_)
    refine r_iconst (v := (1 : Int32)) (pc := 27) dX1_logOf_27 (by decide) ?_
    refine r_isub (pc := 28) dX1_logOf_28 ?_
    refine r_cI (pc := 29) (rest := []) (run_S (n := 3) (As := [.int x2, .int (0 : Int32), .int (v10 - (1 : Int32))]) (rest := []) (t_X1_isIn γ l hl x2 (0 : Int32) (v10 - (1 : Int32)) g9) dX1_logOf_29 q1208 q1209 q108 q1210 (by decide +kernel) rfl (Nat.le_of_ble_eq_true rfl) (Nat.le_of_ble_eq_true rfl) rfl (Nat.le_of_ble_eq_true rfl)) (fun v12 g11 => ?_)
    refine r_cXV (pc := 32) (rest := []) (run_S (n := 1) (As := [.int v12]) (rest := []) (t_X1_requireElement γ l hl v12 g11) dX1_logOf_32 q2182 q2183 q108 q2184 (by decide +kernel) rfl (Nat.le_of_ble_eq_true rfl) (Nat.le_of_ble_eq_true rfl) rfl (Nat.le_of_ble_eq_true rfl)) (fun e14 g15 => ?_) (fun g13 => ?_)
    · skip
      exact x_out (by decide)
    · skip
      refine r_iload_n (pc := 35) dX1_logOf_35 rfl 4 rfl ?_
      refine r_iconst (v := (0 : Int32)) (pc := 36) dX1_logOf_36 (by decide) ?_
      refine r_iconst (v := (2 : Int32)) (pc := 37) dX1_logOf_37 (by decide) ?_
      refine r_cI (pc := 38) (rest := []) (run_S (n := 3) (As := [.int x3, .int (0 : Int32), .int (2 : Int32)]) (rest := []) (t_X1_isIn γ l hl x3 (0 : Int32) (2 : Int32) g13) dX1_logOf_38 q1208 q1209 q108 q1210 (by decide +kernel) rfl (Nat.le_of_ble_eq_true rfl) (Nat.le_of_ble_eq_true rfl) rfl (Nat.le_of_ble_eq_true rfl)) (fun v17 g16 => ?_)
      refine r_cXV (pc := 41) (rest := []) (run_S (n := 1) (As := [.int v17]) (rest := []) (t_X1_require γ l hl v17 g16) dX1_logOf_41 q1211 q1212 q108 q1213 (by decide +kernel) rfl (Nat.le_of_ble_eq_true rfl) (Nat.le_of_ble_eq_true rfl) rfl (Nat.le_of_ble_eq_true rfl)) (fun e19 g20 => ?_) (fun g18 => ?_)
      · skip
        exact x_out (by decide)
      · skip
        refine r_aload (pc := 44) dX1_logOf_44 0 rfl ?_
        refine r_iload_n (pc := 46) dX1_logOf_46 rfl 3 rfl ?_
        refine r_cR (pc := 47) (rest := []) (RunOK_if (fun h => run_F (n := 1) (c9 := 3) (As := [.int x2]) (rest := []) (t_J2_get γ l hl v8 x2 g18) dX1_logOf_47 q2832 q2028 q844 q112 q845 (by decide +kernel) (by decide +kernel) rfl h ⟨by decide, by decide⟩ (Nat.le_of_ble_eq_true rfl) (Nat.le_of_ble_eq_true rfl) rfl (Nat.le_of_ble_eq_true rfl)) (RunOK_chk (fun h => run_F (n := 1) (c9 := 5) (As := [.int x2]) (rest := []) (t_J4_get γ l hl v8 x2 g18) dX1_logOf_47 q2832 q2031 q857 q116 q858 (by decide +kernel) (by decide +kernel) rfl h ⟨by decide, by decide⟩ (Nat.le_of_ble_eq_true rfl) (Nat.le_of_ble_eq_true rfl) rfl (Nat.le_of_ble_eq_true rfl)))) (fun v22 g21 => ?_)
        refine r_cast_ (L := [28]) (pc := 52) dX1_logOf_52 q2873 (List.forall_mem_cons.mpr ⟨⟨by decide, by decide, Or.inl rfl⟩, (fun _ h => absurd h List.not_mem_nil)⟩) ?_
        refine r_iload_n (pc := 55) dX1_logOf_55 rfl 4 rfl ?_
        refine r_cI (pc := 56) (rest := []) (RunOK_chk (fun h => run_V (n := 1) (c9 := 28) (As := [.int x3]) (rest := []) (t_X12_number γ l hl v22 x3 g21) dX1_logOf_56 q2874 q2875 q2876 q167 q2877 (by decide +kernel) rfl h ⟨rfl, by decide, by decide⟩ (Nat.le_of_ble_eq_true rfl) (Nat.le_of_ble_eq_true rfl) rfl (Nat.le_of_ble_eq_true rfl))) (fun v24 g23 => ?_)
        exact r_inl (fun _ => rfl) (r_iret (pc := 59) dX1_logOf_59 rfl)
abbrev ck_X2_isAhead : CK := ("BanquetVotes$Kitchen", prog_14_method_50_code, 4, (some .boolean), "isAhead", [], 5)
def f_X2_isAhead (γ : GP) (x0 : Nat) (x1 : Int32) (x2 : Int32) (g : AH) : Option (Int32 × AH) := bR ((if hK g x0 = 2 then f_X2_cook γ x0 x1 g else none)) fun v2 g1 => bI ((if hK g1 v2 = 16 then f_X6_served γ v2 g1 else none)) fun v4 g3 => bR ((if hK g3 x0 = 2 then f_X2_cook γ x0 x2 g3 else none)) fun v6 g5 => bI ((if hK g5 v6 = 16 then f_X6_served γ v6 g5 else none)) fun v8 g7 => jn (fun (z9 : Int32) (g10 : AH) => (if 0 < z9 then (rtN .boolean (1 : Int32) g10) else (if z9 = 0 then (if x2 ≤ x1 then (rtN .boolean (0 : Int32) g10) else (rtN .boolean (1 : Int32) g10)) else (rtN .boolean (0 : Int32) g10)))) (fun (j11 : Int32 → AH → Option (Int32 × AH)) => (if (v4 - v8) = 0 then bR ((if hK g7 x0 = 2 then f_X2_cook γ x0 x2 g7 else none)) fun v13 g12 => bI ((if hK g12 v13 = 16 then f_X6_distance γ v13 g12 else none)) fun v15 g14 => bR ((if hK g14 x0 = 2 then f_X2_cook γ x0 x1 g14 else none)) fun v17 g16 => bI ((if hK g16 v17 = 16 then f_X6_distance γ v17 g16 else none)) fun v19 g18 => j11 (v15 - v19) g18 else j11 (v4 - v8) g7))
theorem t_X2_isAhead (γ : GP) (l : Launch) (hl : l.stackTraces = false) (x0 : Nat) (x1 : Int32) (x2 : Int32) (g : AH) : TrM ρI γ l ⟨"BanquetVotes$Kitchen", "isAhead", "(II)Z"⟩ (ws_ ⟨"BanquetVotes$Kitchen", "isAhead", "(II)Z"⟩ prog_14_method_50_code 4 (some .boolean)) 5 [.ref x0, .int x1, .int x2] g (f_X2_isAhead γ x0 x1 x2 g) := by
  refine TrM_of (plainFor_of_name (by decide)) (Nat.le_of_ble_eq_true rfl) ?_
  unfold f_X2_isAhead
  change AW ρI γ l ck_X2_isAhead g 0 [(0, .ref x0), (1, .int x1), (2, .int x2)] [] g _
  refine r_aload_n (pc := 0) dX2_isAhead_0 rfl 0 rfl ?_
  refine r_iload_n (pc := 1) dX2_isAhead_1 rfl 1 rfl ?_
  refine r_cR (pc := 2) (rest := []) (RunOK_chk (fun h => run_V (n := 1) (c9 := 2) (As := [.int x1]) (rest := []) (t_X2_cook γ l hl x0 x1 g) dX2_isAhead_2 q2020 q2021 q2022 q109 q2023 (by decide +kernel) rfl h ⟨rfl, by decide, by decide⟩ (Nat.le_of_ble_eq_true rfl) (Nat.le_of_ble_eq_true rfl) rfl (Nat.le_of_ble_eq_true rfl))) (fun v2 g1 => ?_)
  refine r_cI (pc := 5) (rest := []) (RunOK_chk (fun h => run_V (n := 0) (c9 := 16) (As := []) (rest := []) (t_X6_served γ l hl v2 g1) dX2_isAhead_5 q2893 q2087 q2088 q144 q2089 (by decide +kernel) rfl h ⟨rfl, by decide, by decide⟩ (Nat.le_of_ble_eq_true rfl) (Nat.le_of_ble_eq_true rfl) rfl (Nat.le_of_ble_eq_true rfl))) (fun v4 g3 => ?_)
  refine r_aload_n (pc := 8) dX2_isAhead_8 rfl 0 rfl ?_
  refine r_iload_n (pc := 9) dX2_isAhead_9 rfl 2 rfl ?_
  refine r_cR (pc := 10) (rest := [.int v4]) (RunOK_chk (fun h => run_V (n := 1) (c9 := 2) (As := [.int x2]) (rest := [.int v4]) (t_X2_cook γ l hl x0 x2 g3) dX2_isAhead_10 q2020 q2021 q2022 q109 q2023 (by decide +kernel) rfl h ⟨rfl, by decide, by decide⟩ (Nat.le_of_ble_eq_true rfl) (Nat.le_of_ble_eq_true rfl) rfl (Nat.le_of_ble_eq_true rfl))) (fun v6 g5 => ?_)
  refine r_cI (pc := 13) (rest := [.int v4]) (RunOK_chk (fun h => run_V (n := 0) (c9 := 16) (As := []) (rest := [.int v4]) (t_X6_served γ l hl v6 g5) dX2_isAhead_13 q2893 q2087 q2088 q144 q2089 (by decide +kernel) rfl h ⟨rfl, by decide, by decide⟩ (Nat.le_of_ble_eq_true rfl) (Nat.le_of_ble_eq_true rfl) rfl (Nat.le_of_ble_eq_true rfl))) (fun v8 g7 => ?_)
  refine r_isub (pc := 16) dX2_isAhead_16 ?_
  refine r_istore_n (pc := 17) dX2_isAhead_17 rfl (Nat.le_of_ble_eq_true rfl) rfl ?_
  refine r_iload_n (pc := 18) dX2_isAhead_18 rfl 0 rfl ?_
  refine AW_jn (P := fun (j : Int32 → AH → Option (Int32 × AH)) => ∀ (z9 : Int32) (g10 : AH), AW ρI γ l ck_X2_isAhead g 43 [(1, .int x1), (2, .int x2)] [.int z9] g10 (j z9 g10)) (fun z9 g10 => ?_) (fun j11 h_j11 => ?_)
  · skip
    refine r_istore_n (pc := 43) dX2_isAhead_43 rfl (Nat.le_of_ble_eq_true rfl) rfl ?_
    refine r_iload_n (pc := 44) dX2_isAhead_44 rfl 0 rfl ?_
    refine r_if_gt (tgt := 57) (pc := 45) dX2_isAhead_45 (by decide) ?_ ?_
    · skip
      refine r_iconst (v := (1 : Int32)) (pc := 57) dX2_isAhead_57 (by decide) ?_
      refine r_goto (tgt := 62) (pc := 58) dX2_isAhead_58 (by decide) ?_
      exact r_zret (ty := .boolean) (pc := 62) dX2_isAhead_62 rfl
    · skip
      refine r_iload_n (pc := 48) dX2_isAhead_48 rfl 0 rfl ?_
      refine r_if_ne (tgt := 61) (pc := 49) dX2_isAhead_49 (by decide) ?_ ?_
      · skip
        refine r_iload_n (pc := 52) dX2_isAhead_52 rfl 1 rfl ?_
        refine r_iload_n (pc := 53) dX2_isAhead_53 rfl 2 rfl ?_
        refine r_icmp_ge (tgt := 61) (pc := 54) dX2_isAhead_54 (by decide) ?_ ?_
        · skip
          refine r_iconst (v := (0 : Int32)) (pc := 61) dX2_isAhead_61 (by decide) ?_
          exact r_zret (ty := .boolean) (pc := 62) dX2_isAhead_62 rfl
        · skip
          refine r_iconst (v := (1 : Int32)) (pc := 57) dX2_isAhead_57 (by decide) ?_
          refine r_goto (tgt := 62) (pc := 58) dX2_isAhead_58 (by decide) ?_
          exact r_zret (ty := .boolean) (pc := 62) dX2_isAhead_62 rfl
      · skip
        refine r_iconst (v := (0 : Int32)) (pc := 61) dX2_isAhead_61 (by decide) ?_
        exact r_zret (ty := .boolean) (pc := 62) dX2_isAhead_62 rfl
  · skip
    refine r_if_ne (tgt := 42) (pc := 19) dX2_isAhead_19 (by decide) ?_ ?_
    · skip
      refine r_aload_n (pc := 22) dX2_isAhead_22 rfl 1 rfl ?_
      refine r_iload_n (pc := 23) dX2_isAhead_23 rfl 3 rfl ?_
      refine r_cR (pc := 24) (rest := []) (RunOK_chk (fun h => run_V (n := 1) (c9 := 2) (As := [.int x2]) (rest := []) (t_X2_cook γ l hl x0 x2 g7) dX2_isAhead_24 q2020 q2021 q2022 q109 q2023 (by decide +kernel) rfl h ⟨rfl, by decide, by decide⟩ (Nat.le_of_ble_eq_true rfl) (Nat.le_of_ble_eq_true rfl) rfl (Nat.le_of_ble_eq_true rfl))) (fun v13 g12 => ?_)
      refine r_cI (pc := 27) (rest := []) (RunOK_chk (fun h => run_V (n := 0) (c9 := 16) (As := []) (rest := []) (t_X6_distance γ l hl v13 g12) dX2_isAhead_27 q2412 q2051 q2052 q144 q2053 (by decide +kernel) rfl h ⟨rfl, by decide, by decide⟩ (Nat.le_of_ble_eq_true rfl) (Nat.le_of_ble_eq_true rfl) rfl (Nat.le_of_ble_eq_true rfl))) (fun v15 g14 => ?_)
      refine r_aload_n (pc := 30) dX2_isAhead_30 rfl 1 rfl ?_
      refine r_iload_n (pc := 31) dX2_isAhead_31 rfl 2 rfl ?_
      refine r_cR (pc := 32) (rest := [.int v15]) (RunOK_chk (fun h => run_V (n := 1) (c9 := 2) (As := [.int x1]) (rest := [.int v15]) (t_X2_cook γ l hl x0 x1 g14) dX2_isAhead_32 q2020 q2021 q2022 q109 q2023 (by decide +kernel) rfl h ⟨rfl, by decide, by decide⟩ (Nat.le_of_ble_eq_true rfl) (Nat.le_of_ble_eq_true rfl) rfl (Nat.le_of_ble_eq_true rfl))) (fun v17 g16 => ?_)
      refine r_cI (pc := 35) (rest := [.int v15]) (RunOK_chk (fun h => run_V (n := 0) (c9 := 16) (As := []) (rest := [.int v15]) (t_X6_distance γ l hl v17 g16) dX2_isAhead_35 q2412 q2051 q2052 q144 q2053 (by decide +kernel) rfl h ⟨rfl, by decide, by decide⟩ (Nat.le_of_ble_eq_true rfl) (Nat.le_of_ble_eq_true rfl) rfl (Nat.le_of_ble_eq_true rfl))) (fun v19 g18 => ?_)
      refine r_isub (pc := 38) dX2_isAhead_38 ?_
      refine r_goto (tgt := 43) (pc := 39) dX2_isAhead_39 (by decide) ?_
      refine AW_sub [2, 3] rfl ?_
      exact h_j11 (v15 - v19) g18
    · skip
      refine r_iload_n (pc := 42) dX2_isAhead_42 rfl 0 rfl ?_
      refine AW_sub [2, 3] rfl ?_
      exact h_j11 (v4 - v8) g7
abbrev ck_X2_ranked : CK := ("BanquetVotes$Kitchen", prog_14_method_51_code, 6, (some (.object "java/util/List")), "ranked", [], 6)
def f_X2_ranked_L31 (γ : GP) (x0 : Nat) (x1 : Nat) (x2 : Int32) (x4 : Nat) (K77 : Int32 → AH → Option (Nat × AH)) : Nat → Int32 → AH → Option (Nat × AH)
  | 0, _, _ => none
  | n + 1, x3, g => bI ((if hK g x4 = 10 then f_J13_hasNext γ x4 g else if hK g x4 = 13 then f_J24_hasNext γ x4 g else if hK g x4 = 17 then f_J29_hasNext γ x4 g else if hK g x4 = 18 then f_J29_hasNext γ x4 g else none)) fun v10 g9 => (if v10 = 0 then K77 x3 g9 else bR ((if hK g9 x4 = 10 then f_J13_next γ x4 g9 else if hK g9 x4 = 13 then f_J24_next γ x4 g9 else if hK g9 x4 = 17 then f_J31_next γ x4 g9 else if hK g9 x4 = 18 then f_J32_next γ x4 g9 else none)) fun v12 g11 => gC g11 [12] v12 (bI ((if hK g11 v12 = 12 then f_J21_intValue γ v12 g11 else none)) fun v14 g13 => bI ((if hK g13 x0 = 2 then f_X2_isAhead γ x0 v14 x2 g13 else none)) fun v16 g15 => (if v16 = 0 then f_X2_ranked_L31 γ x0 x1 x2 x4 K77 n (x3 + (0 : Int32)) g15 else f_X2_ranked_L31 γ x0 x1 x2 x4 K77 n (x3 + (1 : Int32)) g15)))
def f_X2_ranked_L10 (γ : GP) (x0 : Nat) (x1 : Nat) : Nat → Int32 → AH → Option (Nat × AH)
  | 0, _, _ => none
  | n + 1, x2, g => gR g x0 8 fun v4 => bI ((if hK g v4 = 3 then f_J2_size γ v4 g else if hK g v4 = 5 then f_J4_size γ v4 g else none)) fun v6 g5 => (if v6 ≤ x2 then (some (x1, g5)) else bR ((if hK g5 x1 = 5 then f_J3_iterator γ x1 g5 else none)) fun v8 g7 => f_X2_ranked_L31 γ x0 x1 x2 v8 (fun (y17 : Int32) (g18 : AH) => bR (f_J21_valueOf γ x2 g18) fun v20 g19 => bV ((if hK g19 x1 = 5 then f_J4_add_2 γ x1 y17 v20 g19 else none)) fun g21 => f_X2_ranked_L10 γ x0 x1 n (x2 + (1 : Int32)) g21) FU (0 : Int32) g7)
def f_X2_ranked (γ : GP) (x0 : Nat) (g : AH) : Option (Nat × AH) := mO g 5 fun q1 g2 => bV ((if q1 ≠ 0 then f_J4_init γ q1 g2 else none)) fun g3 => f_X2_ranked_L10 γ x0 q1 FU (0 : Int32) g3
theorem f_X2_ranked_L31_w (γ : GP) (l : Launch) (hl : l.stackTraces = false) (G0 : AH) (x0 : Nat) (x1 : Nat) (x2 : Int32) (x4 : Nat) (K77 : Int32 → AH → Option (Nat × AH)) (h_K77 : ∀ (y3 : Int32) (g : AH), AW ρR γ l ck_X2_ranked G0 77 [(0, .ref x0), (1, .ref x1), (2, .int x2), (3, .int y3)] [] g (K77 y3 g)) : ∀ (n : Nat) (x3 : Int32) (g : AH), AW ρR γ l ck_X2_ranked G0 31 [(0, .ref x0), (1, .ref x1), (2, .int x2), (3, .int x3), (4, .ref x4)] [] g (f_X2_ranked_L31 γ x0 x1 x2 x4 K77 n x3 g) := by
  intro n
  induction n with
  | zero => intro x3 g; exact AW_none
  | succ n ih =>
    intro x3 g
    unfold f_X2_ranked_L31
    refine r_aload (pc := 31) dX2_ranked_31 4 rfl ?_
    refine r_cI (pc := 33) (rest := []) (RunOK_if (fun h => run_F (n := 0) (c9 := 10) (As := []) (rest := []) (t_J13_hasNext γ l hl x4 g) dX2_ranked_33 q781 q800 q802 q126 q804 (by decide +kernel) (by decide +kernel) rfl h ⟨by decide, by decide⟩ (Nat.le_of_ble_eq_true rfl) (Nat.le_of_ble_eq_true rfl) rfl (Nat.le_of_ble_eq_true rfl)) (RunOK_if (fun h => run_F (n := 0) (c9 := 13) (As := []) (rest := []) (t_J24_hasNext γ l hl x4 g) dX2_ranked_33 q781 q809 q811 q139 q813 (by decide +kernel) (by decide +kernel) rfl h ⟨by decide, by decide⟩ (Nat.le_of_ble_eq_true rfl) (Nat.le_of_ble_eq_true rfl) rfl (Nat.le_of_ble_eq_true rfl)) (RunOK_if (fun h => run_F (n := 0) (c9 := 17) (As := []) (rest := []) (t_J29_hasNext γ l hl x4 g) dX2_ranked_33 q781 q821 q817 q145 q819 (by decide +kernel) (by decide +kernel) rfl h ⟨by decide, by decide⟩ (Nat.le_of_ble_eq_true rfl) (Nat.le_of_ble_eq_true rfl) rfl (Nat.le_of_ble_eq_true rfl)) (RunOK_chk (fun h => run_F (n := 0) (c9 := 18) (As := []) (rest := []) (t_J29_hasNext γ l hl x4 g) dX2_ranked_33 q781 q824 q817 q145 q819 (by decide +kernel) (by decide +kernel) rfl h ⟨by decide, by decide⟩ (Nat.le_of_ble_eq_true rfl) (Nat.le_of_ble_eq_true rfl) rfl (Nat.le_of_ble_eq_true rfl)))))) (fun v10 g9 => ?_)
    refine r_if_eq (tgt := 77) (pc := 38) dX2_ranked_38 (by decide) ?_ ?_
    · skip
      refine AW_sub [0, 1, 2, 3] rfl ?_
      exact h_K77 x3 g9
    · skip
      refine r_aload (pc := 41) dX2_ranked_41 4 rfl ?_
      refine r_cR (pc := 43) (rest := []) (RunOK_if (fun h => run_F (n := 0) (c9 := 10) (As := []) (rest := []) (t_J13_next γ l hl x4 g9) dX2_ranked_43 q827 q991 q993 q126 q995 (by decide +kernel) (by decide +kernel) rfl h ⟨by decide, by decide⟩ (Nat.le_of_ble_eq_true rfl) (Nat.le_of_ble_eq_true rfl) rfl (Nat.le_of_ble_eq_true rfl)) (RunOK_if (fun h => run_F (n := 0) (c9 := 13) (As := []) (rest := []) (t_J24_next γ l hl x4 g9) dX2_ranked_43 q827 q1015 q1017 q139 q1019 (by decide +kernel) (by decide +kernel) rfl h ⟨by decide, by decide⟩ (Nat.le_of_ble_eq_true rfl) (Nat.le_of_ble_eq_true rfl) rfl (Nat.le_of_ble_eq_true rfl)) (RunOK_if (fun h => run_F (n := 0) (c9 := 17) (As := []) (rest := []) (t_J31_next γ l hl x4 g9) dX2_ranked_43 q827 q1047 q1049 q147 q1051 (by decide +kernel) (by decide +kernel) rfl h ⟨by decide, by decide⟩ (Nat.le_of_ble_eq_true rfl) (Nat.le_of_ble_eq_true rfl) rfl (Nat.le_of_ble_eq_true rfl)) (RunOK_chk (fun h => run_F (n := 0) (c9 := 18) (As := []) (rest := []) (t_J32_next γ l hl x4 g9) dX2_ranked_43 q827 q1055 q1057 q148 q1059 (by decide +kernel) (by decide +kernel) rfl h ⟨by decide, by decide⟩ (Nat.le_of_ble_eq_true rfl) (Nat.le_of_ble_eq_true rfl) rfl (Nat.le_of_ble_eq_true rfl)))))) (fun v12 g11 => ?_)
      refine r_cast_ (L := [12]) (pc := 48) dX2_ranked_48 q2404 (List.forall_mem_cons.mpr ⟨⟨by decide, by decide, Or.inl rfl⟩, (fun _ h => absurd h List.not_mem_nil)⟩) ?_
      refine r_cI (pc := 51) (rest := []) (RunOK_chk (fun h => run_V (n := 0) (c9 := 12) (As := []) (rest := []) (t_J21_intValue γ l hl v12 g11) dX2_ranked_51 q2405 q1499 q1500 q135 q1501 (by decide +kernel) rfl h ⟨rfl, by decide, by decide⟩ (Nat.le_of_ble_eq_true rfl) (Nat.le_of_ble_eq_true rfl) rfl (Nat.le_of_ble_eq_true rfl))) (fun v14 g13 => ?_)
      refine r_istore (pc := 54) dX2_ranked_54 (Nat.le_of_ble_eq_true rfl) rfl ?_
      refine r_iload_n (pc := 56) dX2_ranked_56 rfl 4 rfl ?_
      refine r_aload_n (pc := 57) dX2_ranked_57 rfl 1 rfl ?_
      refine r_iload (pc := 58) dX2_ranked_58 0 rfl ?_
      refine r_iload_n (pc := 60) dX2_ranked_60 rfl 3 rfl ?_
      refine r_cI (pc := 61) (rest := [.int x3]) (RunOK_chk (fun h => run_V (n := 2) (c9 := 2) (As := [.int v14, .int x2]) (rest := [.int x3]) (t_X2_isAhead γ l hl x0 v14 x2 g13) dX2_ranked_61 q2889 q2891 qs41 q109 q2892 (by decide +kernel) rfl h ⟨rfl, by decide, by decide⟩ (Nat.le_of_ble_eq_true rfl) (Nat.le_of_ble_eq_true rfl) rfl (Nat.le_of_ble_eq_true rfl))) (fun v16 g15 => ?_)
      refine r_if_eq (tgt := 71) (pc := 64) dX2_ranked_64 (by decide) ?_ ?_
      · skip
        refine r_iconst (v := (0 : Int32)) (pc := 71) dX2_ranked_71 (by decide) ?_
        refine r_iadd (pc := 72) dX2_ranked_72 ?_
        refine r_istore_n (pc := 73) dX2_ranked_73 rfl (Nat.le_of_ble_eq_true rfl) rfl ?_
        refine r_goto (tgt := 31) (pc := 74) dX2_ranked_74 (by decide) ?_
        refine AW_sub [2, 3, 4, 0, 5] rfl ?_
        exact ih (x3 + (0 : Int32)) g15
      · skip
        refine r_iconst (v := (1 : Int32)) (pc := 67) dX2_ranked_67 (by decide) ?_
        refine r_goto (tgt := 72) (pc := 68) dX2_ranked_68 (by decide) ?_
        refine r_iadd (pc := 72) dX2_ranked_72 ?_
        refine r_istore_n (pc := 73) dX2_ranked_73 rfl (Nat.le_of_ble_eq_true rfl) rfl ?_
        refine r_goto (tgt := 31) (pc := 74) dX2_ranked_74 (by decide) ?_
        refine AW_sub [2, 3, 4, 0, 5] rfl ?_
        exact ih (x3 + (1 : Int32)) g15
theorem f_X2_ranked_L10_w (γ : GP) (l : Launch) (hl : l.stackTraces = false) (G0 : AH) (x0 : Nat) (x1 : Nat) : ∀ (n : Nat) (x2 : Int32) (g : AH), AW ρR γ l ck_X2_ranked G0 10 [(0, .ref x0), (1, .ref x1), (2, .int x2)] [] g (f_X2_ranked_L10 γ x0 x1 n x2 g) := by
  intro n
  induction n with
  | zero => intro x2 g; exact AW_none
  | succ n ih =>
    intro x2 g
    unfold f_X2_ranked_L10
    refine r_iload_n (pc := 10) dX2_ranked_10 rfl 2 rfl ?_
    refine r_aload_n (pc := 11) dX2_ranked_11 rfl 0 rfl ?_
    refine r_getR (f := 8) (pc := 12) dX2_ranked_12 q265 (Or.inl rfl) rfl (fun v4 => ?_)
    refine r_cI (pc := 15) (rest := [.int x2]) (RunOK_if (fun h => run_F (n := 0) (c9 := 3) (As := []) (rest := [.int x2]) (t_J2_size γ l hl v4 g) dX2_ranked_15 q1888 q1891 q794 q112 q795 (by decide +kernel) (by decide +kernel) rfl h ⟨by decide, by decide⟩ (Nat.le_of_ble_eq_true rfl) (Nat.le_of_ble_eq_true rfl) rfl (Nat.le_of_ble_eq_true rfl)) (RunOK_chk (fun h => run_F (n := 0) (c9 := 5) (As := []) (rest := [.int x2]) (t_J4_size γ l hl v4 g) dX2_ranked_15 q1888 q1894 q797 q116 q798 (by decide +kernel) (by decide +kernel) rfl h ⟨by decide, by decide⟩ (Nat.le_of_ble_eq_true rfl) (Nat.le_of_ble_eq_true rfl) rfl (Nat.le_of_ble_eq_true rfl)))) (fun v6 g5 => ?_)
    refine r_icmp_ge (tgt := 92) (pc := 20) dX2_ranked_20 (by decide) ?_ ?_
    · skip
      refine r_aload_n (pc := 92) dX2_ranked_92 rfl 1 rfl ?_
      exact r_aret (pc := 93) dX2_ranked_93 rfl (by first | exact Or.inl ⟨_, rfl⟩ | exact Or.inr ⟨_, rfl⟩)
    · skip
      refine r_iconst (v := (0 : Int32)) (pc := 23) dX2_ranked_23 (by decide) ?_
      refine r_istore_n (pc := 24) dX2_ranked_24 rfl (Nat.le_of_ble_eq_true rfl) rfl ?_
      refine r_aload_n (pc := 25) dX2_ranked_25 rfl 2 rfl ?_
      refine r_cR (pc := 26) (rest := []) (RunOK_chk (fun h => run_U (n := 0) (c9 := 5) (As := []) (rest := []) (owner := "java/util/AbstractSequentialList") (t_J3_iterator γ l hl x1 g5) dX2_ranked_26 q2581 q2582 q2584 q387 q115 q389 rfl ⟨by decide, by decide, by decide +kernel⟩ rfl h ⟨by decide, by decide⟩ (Nat.le_of_ble_eq_true rfl) (Nat.le_of_ble_eq_true rfl) rfl (Nat.le_of_ble_eq_true rfl))) (fun v8 g7 => ?_)
      refine r_astore (pc := 29) dX2_ranked_29 (Nat.le_of_ble_eq_true rfl) rfl ?_
      refine AW_sub [2, 3, 4, 1, 0] rfl ?_
      refine f_X2_ranked_L31_w γ l hl _ x0 x1 x2 v8 _ ?_ FU (0 : Int32) g7
      · intro y17 g18
        refine r_aload_n (pc := 77) dX2_ranked_77 rfl 1 rfl ?_
        refine r_iload_n (pc := 78) dX2_ranked_78 rfl 3 rfl ?_
        refine r_iload_n (pc := 79) dX2_ranked_79 rfl 2 rfl ?_
        refine r_cR (pc := 80) (rest := [.int y17, .ref x1]) (run_S (n := 1) (As := [.int x2]) (rest := [.int y17, .ref x1]) (t_J21_valueOf γ l hl x2 g18) dX2_ranked_80 q2143 q1503 q135 q1504 (by decide +kernel) rfl (Nat.le_of_ble_eq_true rfl) (Nat.le_of_ble_eq_true rfl) rfl (Nat.le_of_ble_eq_true rfl)) (fun v20 g19 => ?_)
        refine r_cV (pc := 83) (rest := []) (RunOK_chk (fun h => run_V (n := 2) (c9 := 5) (As := [.int y17, .ref v20]) (rest := []) (t_J4_add_2 γ l hl x1 y17 v20 g19) dX2_ranked_83 q2823 q2824 q2825 q116 q2826 (by decide +kernel) rfl h ⟨rfl, by decide, by decide⟩ (Nat.le_of_ble_eq_true rfl) (Nat.le_of_ble_eq_true rfl) rfl (Nat.le_of_ble_eq_true rfl))) (fun g21 => ?_)
        refine r_iinc (j := 2) (v := (x2 + (1 : Int32))) (pc := 86) dX2_ranked_86 rfl rfl (Nat.le_of_ble_eq_true rfl) rfl ?_
        refine r_goto (tgt := 10) (pc := 89) dX2_ranked_89 (by decide) ?_
        refine AW_sub [1, 2, 0] rfl ?_
        exact ih (x2 + (1 : Int32)) g21
theorem t_X2_ranked (γ : GP) (l : Launch) (hl : l.stackTraces = false) (x0 : Nat) (g : AH) : TrM ρR γ l ⟨"BanquetVotes$Kitchen", "ranked", "()Ljava/util/List;"⟩ (ws_ ⟨"BanquetVotes$Kitchen", "ranked", "()Ljava/util/List;"⟩ prog_14_method_51_code 6 (some (.object "java/util/List"))) 6 [.ref x0] g (f_X2_ranked γ x0 g) := by
  refine TrM_of (plainFor_of_name (by decide)) (Nat.le_of_ble_eq_true rfl) ?_
  unfold f_X2_ranked
  change AW ρR γ l ck_X2_ranked g 0 [(0, .ref x0)] [] g _
  refine r_new (c := 5) (pc := 0) dX2_ranked_0 q244 (by decide) (by decide) (fun q1 g2 => ?_)
  refine r_dup (pc := 3) dX2_ranked_3 rfl ?_
  refine r_cV (pc := 4) (rest := [.ref q1]) (RunOK_chk (fun h => run_I (n := 0) (As := []) (rest := [.ref q1]) (t_J4_init γ l hl q1 g2) dX2_ranked_4 q246 q247 q116 q248 rfl (by decide +kernel) rfl h (Nat.le_of_ble_eq_true rfl) (Nat.le_of_ble_eq_true rfl) rfl (Nat.le_of_ble_eq_true rfl))) (fun g3 => ?_)
  refine r_astore_n (pc := 7) dX2_ranked_7 rfl (Nat.le_of_ble_eq_true rfl) rfl ?_
  refine r_iconst (v := (0 : Int32)) (pc := 8) dX2_ranked_8 (by decide) ?_
  refine r_istore_n (pc := 9) dX2_ranked_9 rfl (Nat.le_of_ble_eq_true rfl) rfl ?_
  refine AW_sub [2, 1, 0] rfl ?_
  refine f_X2_ranked_L10_w γ l hl _ x0 q1 FU (0 : Int32) g3
abbrev ck_X1_ranked : CK := ("BanquetVotes", prog_1_method_36_code, 3, (some .int), "ranked", [], 9)
def f_X1_ranked (γ : GP) (x0 : Nat) (x1 : Int32) (g : AH) : Option ((Int32 × AH) ⊕ (Nat × AH)) := gR g x0 0 fun v1 => bR ((if hK g v1 = 2 then f_X2_ranked γ v1 g else none)) fun v3 g2 => bI ((if hK g2 v3 = 3 then f_J2_size γ v3 g2 else if hK g2 v3 = 5 then f_J4_size γ v3 g2 else none)) fun v5 g4 => bI (f_X1_isIn γ x1 (0 : Int32) (v5 - (1 : Int32)) g4) fun v7 g6 => bXV (f_X1_requireElement γ v7 g6) (fun e9 g10 => (thr e9 g10)) fun g8 => bR ((if hK g8 v3 = 3 then f_J2_get γ v3 x1 g8 else if hK g8 v3 = 5 then f_J4_get γ v3 x1 g8 else none)) fun v12 g11 => gC g11 [12] v12 (bI ((if hK g11 v12 = 12 then f_J21_intValue γ v12 g11 else none)) fun v14 g13 => (some (.inl (v14, g13))))
theorem t_X1_ranked (γ : GP) (l : Launch) (hl : l.stackTraces = false) (x0 : Nat) (x1 : Int32) (g : AH) : TrM (ρX ρI) γ l ⟨"BanquetVotes", "ranked", "(I)I"⟩ (ws_ ⟨"BanquetVotes", "ranked", "(I)I"⟩ prog_1_method_36_code 3 (some .int)) 9 [.ref x0, .int x1] g (f_X1_ranked γ x0 x1 g) := by
  refine TrM_of (plainFor_of_name (by decide)) (Nat.le_of_ble_eq_true rfl) ?_
  unfold f_X1_ranked
  change AW (ρX ρI) γ l ck_X1_ranked g 0 [(0, .ref x0), (1, .int x1)] [] g _
  refine r_aload_n (pc := 0) dX1_ranked_0 rfl 0 rfl ?_
  refine r_getR (f := 0) (pc := 1) dX1_ranked_1 q320 (Or.inl rfl) rfl (fun v1 => ?_)
  refine r_cR (pc := 4) (rest := []) (RunOK_chk (fun h => run_V (n := 0) (c9 := 2) (As := []) (rest := []) (t_X2_ranked γ l hl v1 g) dX1_ranked_4 q2885 q2886 q2887 q109 q2888 (by decide +kernel) rfl h ⟨rfl, by decide, by decide⟩ (Nat.le_of_ble_eq_true rfl) (Nat.le_of_ble_eq_true rfl) rfl (Nat.le_of_ble_eq_true rfl))) (fun v3 g2 => ?_)
  refine r_astore_n (pc := 7) dX1_ranked_7 rfl (Nat.le_of_ble_eq_true rfl) rfl ?_
  refine r_iload_n (pc := 8) dX1_ranked_8 rfl 2 rfl ?_
  refine r_iconst (v := (0 : Int32)) (pc := 9) dX1_ranked_9 (by decide) ?_
  refine r_aload_n (pc := 10) dX1_ranked_10 rfl 0 rfl ?_
  refine r_cI (pc := 11) (rest := [.int (0 : Int32), .int x1]) (RunOK_if (fun h => run_F (n := 0) (c9 := 3) (As := []) (rest := [.int (0 : Int32), .int x1]) (t_J2_size γ l hl v3 g2) dX1_ranked_11 q2004 q1891 q794 q112 q795 (by decide +kernel) (by decide +kernel) rfl h ⟨by decide, by decide⟩ (Nat.le_of_ble_eq_true rfl) (Nat.le_of_ble_eq_true rfl) rfl (Nat.le_of_ble_eq_true rfl)) (RunOK_chk (fun h => run_F (n := 0) (c9 := 5) (As := []) (rest := [.int (0 : Int32), .int x1]) (t_J4_size γ l hl v3 g2) dX1_ranked_11 q2004 q1894 q797 q116 q798 (by decide +kernel) (by decide +kernel) rfl h ⟨by decide, by decide⟩ (Nat.le_of_ble_eq_true rfl) (Nat.le_of_ble_eq_true rfl) rfl (Nat.le_of_ble_eq_true rfl)))) (fun v5 g4 => ?_)
  refine r_iconst (v := (1 : Int32)) (pc := 16) dX1_ranked_16 (by decide) ?_
  refine r_isub (pc := 17) dX1_ranked_17 ?_
  refine r_cI (pc := 18) (rest := []) (run_S (n := 3) (As := [.int x1, .int (0 : Int32), .int (v5 - (1 : Int32))]) (rest := []) (t_X1_isIn γ l hl x1 (0 : Int32) (v5 - (1 : Int32)) g4) dX1_ranked_18 q1208 q1209 q108 q1210 (by decide +kernel) rfl (Nat.le_of_ble_eq_true rfl) (Nat.le_of_ble_eq_true rfl) rfl (Nat.le_of_ble_eq_true rfl)) (fun v7 g6 => ?_)
  refine r_cXV (pc := 21) (rest := []) (run_S (n := 1) (As := [.int v7]) (rest := []) (t_X1_requireElement γ l hl v7 g6) dX1_ranked_21 q2182 q2183 q108 q2184 (by decide +kernel) rfl (Nat.le_of_ble_eq_true rfl) (Nat.le_of_ble_eq_true rfl) rfl (Nat.le_of_ble_eq_true rfl)) (fun e9 g10 => ?_) (fun g8 => ?_)
  · skip
    exact x_out (by decide)
  · skip
    refine r_aload_n (pc := 24) dX1_ranked_24 rfl 0 rfl ?_
    refine r_iload_n (pc := 25) dX1_ranked_25 rfl 2 rfl ?_
    refine r_cR (pc := 26) (rest := []) (RunOK_if (fun h => run_F (n := 1) (c9 := 3) (As := [.int x1]) (rest := []) (t_J2_get γ l hl v3 x1 g8) dX1_ranked_26 q2832 q2028 q844 q112 q845 (by decide +kernel) (by decide +kernel) rfl h ⟨by decide, by decide⟩ (Nat.le_of_ble_eq_true rfl) (Nat.le_of_ble_eq_true rfl) rfl (Nat.le_of_ble_eq_true rfl)) (RunOK_chk (fun h => run_F (n := 1) (c9 := 5) (As := [.int x1]) (rest := []) (t_J4_get γ l hl v3 x1 g8) dX1_ranked_26 q2832 q2031 q857 q116 q858 (by decide +kernel) (by decide +kernel) rfl h ⟨by decide, by decide⟩ (Nat.le_of_ble_eq_true rfl) (Nat.le_of_ble_eq_true rfl) rfl (Nat.le_of_ble_eq_true rfl)))) (fun v12 g11 => ?_)
    refine r_cast_ (L := [12]) (pc := 31) dX1_ranked_31 q2894 (List.forall_mem_cons.mpr ⟨⟨by decide, by decide, Or.inl rfl⟩, (fun _ h => absurd h List.not_mem_nil)⟩) ?_
    refine r_cI (pc := 34) (rest := []) (RunOK_chk (fun h => run_V (n := 0) (c9 := 12) (As := []) (rest := []) (t_J21_intValue γ l hl v12 g11) dX1_ranked_34 q2895 q1499 q1500 q135 q1501 (by decide +kernel) rfl h ⟨rfl, by decide, by decide⟩ (Nat.le_of_ble_eq_true rfl) (Nat.le_of_ble_eq_true rfl) rfl (Nat.le_of_ble_eq_true rfl))) (fun v14 g13 => ?_)
    exact r_inl (fun _ => rfl) (r_iret (pc := 37) dX1_ranked_37 rfl)
abbrev ck_X1_requireState : CK := ("BanquetVotes", prog_1_method_6_code, 1, none, "requireState", [], 8)
def f_X1_requireState (γ : GP) (x0 : Int32) (g : AH) : Option ((AH) ⊕ (Nat × AH)) := (if x0 = 0 then mO g 33 fun q1 g2 => bV ((if q1 ≠ 0 then f_J45_init γ q1 g2 else none)) fun g3 => (tw γ g3 q1 (thr q1 g3)) else (some (.inl g)))
theorem t_X1_requireState (γ : GP) (l : Launch) (hl : l.stackTraces = false) (x0 : Int32) (g : AH) : TrM (ρX ρV) γ l ⟨"BanquetVotes", "requireState", "(Z)V"⟩ (ws_ ⟨"BanquetVotes", "requireState", "(Z)V"⟩ prog_1_method_6_code 1 none) 8 [.int x0] g (f_X1_requireState γ x0 g) := by
  refine TrM_of (plainFor_of_name (by decide)) (Nat.le_of_ble_eq_true rfl) ?_
  unfold f_X1_requireState
  change AW (ρX ρV) γ l ck_X1_requireState g 0 [(0, .int x0)] [] g _
  refine r_iload_n (pc := 0) dX1_requireState_0 rfl 0 rfl ?_
  refine r_if_ne (tgt := 12) (pc := 1) dX1_requireState_1 (by decide) ?_ ?_
  · skip
    refine r_new (c := 33) (pc := 4) dX1_requireState_4 q2908 (by decide) (by decide) (fun q1 g2 => ?_)
    refine r_dup (pc := 7) dX1_requireState_7 rfl ?_
    refine r_cV (pc := 8) (rest := [.ref q1]) (RunOK_chk (fun h => run_I (n := 0) (As := []) (rest := [.ref q1]) (t_J45_init γ l hl q1 g2) dX1_requireState_8 q2917 q2918 q173 q2919 rfl (by decide +kernel) rfl h (Nat.le_of_ble_eq_true rfl) (Nat.le_of_ble_eq_true rfl) rfl (Nat.le_of_ble_eq_true rfl))) (fun g3 => ?_)
    refine r_athrow (pc := 11) dX1_requireState_11 ?_
    exact x_out (by decide)
  · skip
    exact r_inl (fun _ => rfl) (r_vret (pc := 12) dX1_requireState_12 rfl)
abbrev ck_X1_type : CK := ("BanquetVotes", prog_1_method_37_code, 2, (some .int), "type", [], 9)
def f_X1_type (γ : GP) (x0 : Nat) (x1 : Int32) (g : AH) : Option ((Int32 × AH) ⊕ (Nat × AH)) := gR g x0 3 fun v1 => bI ((if hK g v1 = 6 then f_J6_length γ v1 g else none)) fun v3 g2 => jn (fun (z4 : Int32) (g5 : AH) => bXV (f_X1_requireState γ z4 g5) (fun e8 g9 => (thr e8 g9)) fun g7 => gR g7 x0 3 fun v10 => bR ((if hK g7 v10 = 6 then f_J6_append_3 γ v10 x1 g7 else none)) fun v12 g11 => gR g11 x0 3 fun v13 => bI ((if hK g11 v13 = 6 then f_J6_length γ v13 g11 else none)) fun v15 g14 => (some (.inl (v15, g14)))) (fun (j6 : Int32 → AH → Option ((Int32 × AH) ⊕ (Nat × AH))) => (if (60 : Int32) ≤ v3 then j6 (0 : Int32) g2 else j6 (1 : Int32) g2))
theorem t_X1_type (γ : GP) (l : Launch) (hl : l.stackTraces = false) (x0 : Nat) (x1 : Int32) (g : AH) : TrM (ρX ρI) γ l ⟨"BanquetVotes", "type", "(C)I"⟩ (ws_ ⟨"BanquetVotes", "type", "(C)I"⟩ prog_1_method_37_code 2 (some .int)) 9 [.ref x0, .int x1] g (f_X1_type γ x0 x1 g) := by
  refine TrM_of (plainFor_of_name (by decide)) (Nat.le_of_ble_eq_true rfl) ?_
  unfold f_X1_type
  change AW (ρX ρI) γ l ck_X1_type g 0 [(0, .ref x0), (1, .int x1)] [] g _
  refine r_aload_n (pc := 0) dX1_type_0 rfl 0 rfl ?_
  refine r_getR (f := 3) (pc := 1) dX1_type_1 q323 (Or.inl rfl) rfl (fun v1 => ?_)
  refine r_cI (pc := 4) (rest := []) (RunOK_chk (fun h => run_V (n := 0) (c9 := 6) (As := []) (rest := []) (t_J6_length γ l hl v1 g) dX1_type_4 q2904 q629 q3910 q118 q630 (by decide +kernel) rfl h ⟨rfl, by decide, by decide⟩ (Nat.le_of_ble_eq_true rfl) (Nat.le_of_ble_eq_true rfl) rfl (Nat.le_of_ble_eq_true rfl))) (fun v3 g2 => ?_)
  refine r_bipush (v := (60 : Int32)) (pc := 7) dX1_type_7 (by decide) ?_
  refine AW_jn (P := fun (j : Int32 → AH → Option ((Int32 × AH) ⊕ (Nat × AH))) => ∀ (z4 : Int32) (g5 : AH), AW (ρX ρI) γ l ck_X1_type g 17 [(0, .ref x0), (1, .int x1)] [.int z4] g5 (j z4 g5)) (fun z4 g5 => ?_) (fun j6 h_j6 => ?_)
  · skip
    refine r_cXV (pc := 17) (rest := []) (run_S (n := 1) (As := [.int z4]) (rest := []) (t_X1_requireState γ l hl z4 g5) dX1_type_17 q2905 q2906 q108 q2907 (by decide +kernel) rfl (Nat.le_of_ble_eq_true rfl) (Nat.le_of_ble_eq_true rfl) rfl (Nat.le_of_ble_eq_true rfl)) (fun e8 g9 => ?_) (fun g7 => ?_)
    · skip
      exact x_out (by decide)
    · skip
      refine r_aload_n (pc := 20) dX1_type_20 rfl 0 rfl ?_
      refine r_getR (f := 3) (pc := 21) dX1_type_21 q323 (Or.inl rfl) rfl (fun v10 => ?_)
      refine r_iload_n (pc := 24) dX1_type_24 rfl 1 rfl ?_
      refine r_cR (pc := 25) (rest := []) (RunOK_chk (fun h => run_V (n := 1) (c9 := 6) (As := [.int x1]) (rest := []) (t_J6_append_3 γ l hl v10 x1 g7) dX1_type_25 q2923 q2924 q2925 q118 q2926 (by decide +kernel) rfl h ⟨rfl, by decide, by decide⟩ (Nat.le_of_ble_eq_true rfl) (Nat.le_of_ble_eq_true rfl) rfl (Nat.le_of_ble_eq_true rfl))) (fun v12 g11 => ?_)
      refine r_pop (pc := 28) dX1_type_28 rfl ?_
      refine r_aload_n (pc := 29) dX1_type_29 rfl 0 rfl ?_
      refine r_getR (f := 3) (pc := 30) dX1_type_30 q323 (Or.inl rfl) rfl (fun v13 => ?_)
      refine r_cI (pc := 33) (rest := []) (RunOK_chk (fun h => run_V (n := 0) (c9 := 6) (As := []) (rest := []) (t_J6_length γ l hl v13 g11) dX1_type_33 q2904 q629 q3910 q118 q630 (by decide +kernel) rfl h ⟨rfl, by decide, by decide⟩ (Nat.le_of_ble_eq_true rfl) (Nat.le_of_ble_eq_true rfl) rfl (Nat.le_of_ble_eq_true rfl))) (fun v15 g14 => ?_)
      exact r_inl (fun _ => rfl) (r_iret (pc := 36) dX1_type_36 rfl)
  · skip
    refine r_icmp_ge (tgt := 16) (pc := 9) dX1_type_9 (by decide) ?_ ?_
    · skip
      refine r_iconst (v := (0 : Int32)) (pc := 16) dX1_type_16 (by decide) ?_
      exact h_j6 (0 : Int32) g2
    · skip
      refine r_iconst (v := (1 : Int32)) (pc := 12) dX1_type_12 (by decide) ?_
      refine r_goto (tgt := 17) (pc := 13) dX1_type_13 (by decide) ?_
      exact h_j6 (1 : Int32) g2
abbrev ck_X17_init : CK := ("BanquetVotes$Reader", prog_18_method_1_code, 2, none, "<init>", [], 2)
def f_X17_init (γ : GP) (x0 : Nat) (x1 : Nat) (g : AH) : Option (AH) := (if x0 ≠ 0 then pR γ g x0 127 x1 fun g1 => (some g1) else none)
theorem t_X17_init (γ : GP) (l : Launch) (hl : l.stackTraces = false) (x0 : Nat) (x1 : Nat) (g : AH) : TrM ρV γ l ⟨"BanquetVotes$Reader", "<init>", "(Ljava/lang/String;)V"⟩ (ws_ ⟨"BanquetVotes$Reader", "<init>", "(Ljava/lang/String;)V"⟩ prog_18_method_1_code 2 none) 2 [.ref x0, .ref x1] g (f_X17_init γ x0 x1 g) := by
  refine TrM_of (plainFor_of_name (by decide)) (Nat.le_of_ble_eq_true rfl) ?_
  unfold f_X17_init
  change AW ρV γ l ck_X17_init g 0 [(0, .ref x0), (1, .ref x1)] [] g _
  refine r_aload_n (pc := 0) dX17_init_0 rfl 0 rfl ?_
  refine r_objInit (pc := 1) dX17_init_1 q3009 q185 q186 (by decide) (Nat.le_of_ble_eq_true rfl) ?_
  refine r_aload_n (pc := 4) dX17_init_4 rfl 0 rfl ?_
  refine r_aload_n (pc := 5) dX17_init_5 rfl 1 rfl ?_
  refine r_putR (f := 127) (pc := 6) dX17_init_6 q3010 (Or.inl rfl) (Or.inr ⟨rfl, rfl⟩) rfl (fun g1 => ?_)
  exact r_vret (pc := 9) dX17_init_9 rfl
abbrev ck_X17_here : CK := ("BanquetVotes$Reader", prog_18_method_2_code, 1, (some .char), "here", [], 6)
def f_X17_here (γ : GP) (x0 : Nat) (g : AH) : Option (Int32 × AH) := gI g x0 128 fun v1 => gR g x0 127 fun v2 => bI ((if hK g v2 = 7 then f_J7_length γ v2 g else none)) fun v4 g3 => (if v4 ≤ v1 then (rtN .char (10 : Int32) g3) else gR g3 x0 127 fun v5 => gI g3 x0 128 fun v6 => bI ((if hK g3 v5 = 7 then f_J7_charAt γ v5 v6 g3 else none)) fun v8 g7 => (rtN .char v8 g7))
theorem t_X17_here (γ : GP) (l : Launch) (hl : l.stackTraces = false) (x0 : Nat) (g : AH) : TrM ρI γ l ⟨"BanquetVotes$Reader", "here", "()C"⟩ (ws_ ⟨"BanquetVotes$Reader", "here", "()C"⟩ prog_18_method_2_code 1 (some .char)) 6 [.ref x0] g (f_X17_here γ x0 g) := by
  refine TrM_of (plainFor_of_name (by decide)) (Nat.le_of_ble_eq_true rfl) ?_
  unfold f_X17_here
  change AW ρI γ l ck_X17_here g 0 [(0, .ref x0)] [] g _
  refine r_aload_n (pc := 0) dX17_here_0 rfl 0 rfl ?_
  refine r_getI (f := 128) (pc := 1) dX17_here_1 q3011 (Or.inl rfl) rfl (fun v1 => ?_)
  refine r_aload_n (pc := 4) dX17_here_4 rfl 0 rfl ?_
  refine r_getR (f := 127) (pc := 5) dX17_here_5 q3010 (Or.inl rfl) rfl (fun v2 => ?_)
  refine r_cI (pc := 8) (rest := [.int v1]) (RunOK_chk (fun h => run_V (n := 0) (c9 := 7) (As := []) (rest := [.int v1]) (t_J7_length γ l hl v2 g) dX17_here_8 q3037 q539 q540 q119 q541 (by decide +kernel) rfl h ⟨rfl, by decide, by decide⟩ (Nat.le_of_ble_eq_true rfl) (Nat.le_of_ble_eq_true rfl) rfl (Nat.le_of_ble_eq_true rfl))) (fun v4 g3 => ?_)
  refine r_icmp_ge (tgt := 28) (pc := 11) dX17_here_11 (by decide) ?_ ?_
  · skip
    refine r_bipush (v := (10 : Int32)) (pc := 28) dX17_here_28 (by decide) ?_
    exact r_zret (ty := .char) (pc := 30) dX17_here_30 rfl
  · skip
    refine r_aload_n (pc := 14) dX17_here_14 rfl 0 rfl ?_
    refine r_getR (f := 127) (pc := 15) dX17_here_15 q3010 (Or.inl rfl) rfl (fun v5 => ?_)
    refine r_aload_n (pc := 18) dX17_here_18 rfl 0 rfl ?_
    refine r_getI (f := 128) (pc := 19) dX17_here_19 q3011 (Or.inl rfl) rfl (fun v6 => ?_)
    refine r_cI (pc := 22) (rest := []) (RunOK_chk (fun h => run_V (n := 1) (c9 := 7) (As := [.int v6]) (rest := []) (t_J7_charAt γ l hl v5 v6 g3) dX17_here_22 q3038 q3039 q3040 q119 q3041 (by decide +kernel) rfl h ⟨rfl, by decide, by decide⟩ (Nat.le_of_ble_eq_true rfl) (Nat.le_of_ble_eq_true rfl) rfl (Nat.le_of_ble_eq_true rfl))) (fun v8 g7 => ?_)
    refine r_goto (tgt := 30) (pc := 25) dX17_here_25 (by decide) ?_
    exact r_zret (ty := .char) (pc := 30) dX17_here_30 rfl
abbrev ck_X18_init : CK := ("BanquetVotes$TextError", prog_21_method_1_code, 2, none, "<init>", [], 6)
def f_X18_init (γ : GP) (x0 : Nat) (x1 : Int32) (g : AH) : Option (AH) := bV ((if x0 ≠ 0 then f_J10_init_4 γ x0 0 0 g else none)) fun g1 => pI γ g1 x0 129 x1 fun g2 => (some g2)
theorem t_X18_init (γ : GP) (l : Launch) (hl : l.stackTraces = false) (x0 : Nat) (x1 : Int32) (g : AH) : TrM ρV γ l ⟨"BanquetVotes$TextError", "<init>", "(I)V"⟩ (ws_ ⟨"BanquetVotes$TextError", "<init>", "(I)V"⟩ prog_21_method_1_code 2 none) 6 [.ref x0, .int x1] g (f_X18_init γ x0 x1 g) := by
  refine TrM_of (plainFor_of_name (by decide)) (Nat.le_of_ble_eq_true rfl) ?_
  unfold f_X18_init
  change AW ρV γ l ck_X18_init g 0 [(0, .ref x0), (1, .int x1)] [] g _
  refine r_aload_n (pc := 0) dX18_init_0 rfl 0 rfl ?_
  refine r_null (pc := 1) dX18_init_1 ?_
  refine r_null (pc := 2) dX18_init_2 ?_
  refine r_cV (pc := 3) (rest := []) (RunOK_chk (fun h => run_I (n := 2) (As := [.ref 0, .ref 0]) (rest := []) (t_J10_init_4 γ l hl x0 0 0 g) dX18_init_3 q3167 q1912 q123 q1913 rfl (by decide +kernel) rfl h (Nat.le_of_ble_eq_true rfl) (Nat.le_of_ble_eq_true rfl) rfl (Nat.le_of_ble_eq_true rfl))) (fun g1 => ?_)
  refine r_aload_n (pc := 6) dX18_init_6 rfl 0 rfl ?_
  refine r_iload_n (pc := 7) dX18_init_7 rfl 1 rfl ?_
  refine r_putI (f := 129) (pc := 8) dX18_init_8 q3168 (Or.inl rfl) (Or.inr ⟨rfl, rfl⟩) rfl (fun g2 => ?_)
  exact r_vret (pc := 11) dX18_init_11 rfl
abbrev ck_X17_need : CK := ("BanquetVotes$Reader", prog_18_method_3_code, 2, none, "need", [], 7)
def f_X17_need (γ : GP) (x0 : Nat) (x1 : Int32) (g : AH) : Option ((AH) ⊕ (Nat × AH)) := (if x1 = 0 then mO g 35 fun q1 g2 => gI g2 x0 128 fun v3 => bV ((if q1 ≠ 0 then f_X18_init γ q1 v3 g2 else none)) fun g4 => (tw γ g4 q1 (thr q1 g4)) else (some (.inl g)))
theorem t_X17_need (γ : GP) (l : Launch) (hl : l.stackTraces = false) (x0 : Nat) (x1 : Int32) (g : AH) : TrM (ρX ρV) γ l ⟨"BanquetVotes$Reader", "need", "(Z)V"⟩ (ws_ ⟨"BanquetVotes$Reader", "need", "(Z)V"⟩ prog_18_method_3_code 2 none) 7 [.ref x0, .int x1] g (f_X17_need γ x0 x1 g) := by
  refine TrM_of (plainFor_of_name (by decide)) (Nat.le_of_ble_eq_true rfl) ?_
  unfold f_X17_need
  change AW (ρX ρV) γ l ck_X17_need g 0 [(0, .ref x0), (1, .int x1)] [] g _
  refine r_iload_n (pc := 0) dX17_need_0 rfl 1 rfl ?_
  refine r_if_ne (tgt := 16) (pc := 1) dX17_need_1 (by decide) ?_ ?_
  · skip
    refine r_new (c := 35) (pc := 4) dX17_need_4 q3155 (by decide) (by decide) (fun q1 g2 => ?_)
    refine r_dup (pc := 7) dX17_need_7 rfl ?_
    refine r_aload_n (pc := 8) dX17_need_8 rfl 0 rfl ?_
    refine r_getI (f := 128) (pc := 9) dX17_need_9 q3011 (Or.inl rfl) rfl (fun v3 => ?_)
    refine r_cV (pc := 12) (rest := [.ref q1]) (RunOK_chk (fun h => run_I (n := 1) (As := [.int v3]) (rest := [.ref q1]) (t_X18_init γ l hl q1 v3 g2) dX17_need_12 q3164 q3165 q176 q3166 rfl (by decide +kernel) rfl h (Nat.le_of_ble_eq_true rfl) (Nat.le_of_ble_eq_true rfl) rfl (Nat.le_of_ble_eq_true rfl))) (fun g4 => ?_)
    refine r_athrow (pc := 15) dX17_need_15 ?_
    exact x_out (by decide)
  · skip
    exact r_inl (fun _ => rfl) (r_vret (pc := 16) dX17_need_16 rfl)
abbrev ck_X17_word : CK := ("BanquetVotes$Reader", prog_18_method_7_code, 2, (some (.object "java/lang/String")), "word", [], 12)
def f_X17_word_L8 (γ : GP) (x0 : Nat) (x1 : Nat) (K83 : AH → Option ((Nat × AH) ⊕ (Nat × AH))) : Nat → AH → Option ((Nat × AH) ⊕ (Nat × AH))
  | 0, _ => none
  | n + 1, g => bI ((if hK g x0 = 34 then f_X17_here γ x0 g else none)) fun v5 g4 => (if v5 < (97 : Int32) then K83 g4 else bI ((if hK g4 x0 = 34 then f_X17_here γ x0 g4 else none)) fun v7 g6 => (if (122 : Int32) < v7 then K83 g6 else mO g6 6 fun q8 g9 => bV ((if q8 ≠ 0 then f_J6_init γ q8 g9 else none)) fun g10 => bR ((if hK g10 q8 = 6 then f_J6_append γ q8 (γ.1 25) g10 else none)) fun v12 g11 => bR ((if hK g11 v12 = 6 then f_J6_append_4 γ v12 x1 g11 else none)) fun v14 g13 => bI ((if hK g13 x0 = 34 then f_X17_here γ x0 g13 else none)) fun v16 g15 => bR ((if hK g15 v14 = 6 then f_J6_append_3 γ v14 v16 g15 else none)) fun v18 g17 => bR ((if hK g17 v18 = 6 then f_J6_toString γ v18 g17 else none)) fun v20 g19 => bI ((if hK g19 (γ.1 24) = 7 then f_J7_contains γ (γ.1 24) v20 g19 else none)) fun v22 g21 => bXV ((if hK g21 x0 = 34 then f_X17_need γ x0 v22 g21 else none)) (fun e24 g25 => (thr e24 g25)) fun g23 => bI ((if hK g23 x0 = 34 then f_X17_here γ x0 g23 else none)) fun v27 g26 => bR ((if hK g26 x1 = 6 then f_J6_append_3 γ x1 v27 g26 else none)) fun v29 g28 => gI g28 x0 128 fun v30 => pI γ g28 x0 128 (v30 + (1 : Int32)) fun g31 => f_X17_word_L8 γ x0 x1 K83 n g31))
def f_X17_word (γ : GP) (x0 : Nat) (g : AH) : Option ((Nat × AH) ⊕ (Nat × AH)) := mO g 6 fun q1 g2 => bV ((if q1 ≠ 0 then f_J6_init γ q1 g2 else none)) fun g3 => f_X17_word_L8 γ x0 q1 (fun (g32 : AH) => bI ((if hK g32 q1 = 6 then f_J6_length γ q1 g32 else none)) fun v34 g33 => jn (fun (z35 : Nat) (g36 : AH) => bXV ((if hK g36 z35 = 34 then f_X17_need γ z35 (0 : Int32) g36 else none)) (fun e39 g40 => (thr e39 g40)) fun g38 => bR ((if hK g38 q1 = 6 then f_J6_toString γ q1 g38 else none)) fun v42 g41 => (some (.inl (v42, g41)))) (fun (j37 : Nat → AH → Option ((Nat × AH) ⊕ (Nat × AH))) => (if v34 ≤ 0 then j37 x0 g33 else mO g33 6 fun q43 g44 => bV ((if q43 ≠ 0 then f_J6_init γ q43 g44 else none)) fun g45 => bR ((if hK g45 q43 = 6 then f_J6_append γ q43 (γ.1 25) g45 else none)) fun v47 g46 => bR ((if hK g46 v47 = 6 then f_J6_append_4 γ v47 q1 g46 else none)) fun v49 g48 => bR ((if hK g48 v49 = 6 then f_J6_append γ v49 (γ.1 25) g48 else none)) fun v51 g50 => bR ((if hK g50 v51 = 6 then f_J6_toString γ v51 g50 else none)) fun v53 g52 => bI ((if hK g52 (γ.1 24) = 7 then f_J7_contains γ (γ.1 24) v53 g52 else none)) fun v55 g54 => (if v55 = 0 then j37 x0 g54 else bXV ((if hK g54 x0 = 34 then f_X17_need γ x0 (1 : Int32) g54 else none)) (fun e57 g58 => (thr e57 g58)) fun g56 => bR ((if hK g56 q1 = 6 then f_J6_toString γ q1 g56 else none)) fun v60 g59 => (some (.inl (v60, g59))))))) FU g3
theorem f_X17_word_L8_w (γ : GP) (l : Launch) (hl : l.stackTraces = false) (G0 : AH) (x0 : Nat) (x1 : Nat) (K83 : AH → Option ((Nat × AH) ⊕ (Nat × AH))) (h_K83 : ∀ (g : AH), AW (ρX ρR) γ l ck_X17_word G0 83 [(0, .ref x0), (1, .ref x1)] [] g (K83 g)) : ∀ (n : Nat) (g : AH), AW (ρX ρR) γ l ck_X17_word G0 8 [(0, .ref x0), (1, .ref x1)] [] g (f_X17_word_L8 γ x0 x1 K83 n g) := by
  intro n
  induction n with
  | zero => intro g; exact AW_none
  | succ n ih =>
    intro g
    unfold f_X17_word_L8
    refine r_aload_n (pc := 8) dX17_word_8 rfl 0 rfl ?_
    refine r_cI (pc := 9) (rest := []) (RunOK_chk (fun h => run_V (n := 0) (c9 := 34) (As := []) (rest := []) (t_X17_here γ l hl x0 g) dX17_word_9 q3033 q3035 qs44 q175 q3036 (by decide +kernel) rfl h ⟨rfl, by decide, by decide⟩ (Nat.le_of_ble_eq_true rfl) (Nat.le_of_ble_eq_true rfl) rfl (Nat.le_of_ble_eq_true rfl))) (fun v5 g4 => ?_)
    refine r_bipush (v := (97 : Int32)) (pc := 12) dX17_word_12 (by decide) ?_
    refine r_icmp_lt (tgt := 83) (pc := 14) dX17_word_14 (by decide) ?_ ?_
    · skip
      exact h_K83 g4
    · skip
      refine r_aload_n (pc := 17) dX17_word_17 rfl 0 rfl ?_
      refine r_cI (pc := 18) (rest := []) (RunOK_chk (fun h => run_V (n := 0) (c9 := 34) (As := []) (rest := []) (t_X17_here γ l hl x0 g4) dX17_word_18 q3033 q3035 qs44 q175 q3036 (by decide +kernel) rfl h ⟨rfl, by decide, by decide⟩ (Nat.le_of_ble_eq_true rfl) (Nat.le_of_ble_eq_true rfl) rfl (Nat.le_of_ble_eq_true rfl))) (fun v7 g6 => ?_)
      refine r_bipush (v := (122 : Int32)) (pc := 21) dX17_word_21 (by decide) ?_
      refine r_icmp_gt (tgt := 83) (pc := 23) dX17_word_23 (by decide) ?_ ?_
      · skip
        exact h_K83 g6
      · skip
        refine r_aload_n (pc := 26) dX17_word_26 rfl 0 rfl ?_
        refine r_ldcS (pc := 27) dX17_word_27 (List.mem_of_getElem? (i := 12) rfl) ?_
        refine r_new (c := 6) (pc := 29) dX17_word_29 q3031 (by decide) (by decide) (fun q8 g9 => ?_)
        refine r_dup (pc := 32) dX17_word_32 rfl ?_
        refine r_cV (pc := 33) (rest := [.ref q8, .ref (γ.1 24), .ref x0]) (RunOK_chk (fun h => run_I (n := 0) (As := []) (rest := [.ref q8, .ref (γ.1 24), .ref x0]) (t_J6_init γ l hl q8 g9) dX17_word_33 q3032 q289 q118 q290 rfl (by decide +kernel) rfl h (Nat.le_of_ble_eq_true rfl) (Nat.le_of_ble_eq_true rfl) rfl (Nat.le_of_ble_eq_true rfl))) (fun g10 => ?_)
        refine r_ldcS (pc := 36) dX17_word_36 (List.mem_of_getElem? (i := 13) rfl) ?_
        refine r_cR (pc := 38) (rest := [.ref (γ.1 24), .ref x0]) (RunOK_chk (fun h => run_V (n := 1) (c9 := 6) (As := [.ref (γ.1 25)]) (rest := [.ref (γ.1 24), .ref x0]) (t_J6_append γ l hl q8 (γ.1 25) g10) dX17_word_38 q3051 q462 q463 q118 q464 (by decide +kernel) rfl h ⟨rfl, by decide, by decide⟩ (Nat.le_of_ble_eq_true rfl) (Nat.le_of_ble_eq_true rfl) rfl (Nat.le_of_ble_eq_true rfl))) (fun v12 g11 => ?_)
        refine r_aload_n (pc := 41) dX17_word_41 rfl 1 rfl ?_
        refine r_cR (pc := 42) (rest := [.ref (γ.1 24), .ref x0]) (RunOK_chk (fun h => run_V (n := 1) (c9 := 6) (As := [.ref x1]) (rest := [.ref (γ.1 24), .ref x0]) (t_J6_append_4 γ l hl v12 x1 g11) dX17_word_42 q3052 q3053 q3054 q118 q3055 (by decide +kernel) rfl h ⟨rfl, by decide, by decide⟩ (Nat.le_of_ble_eq_true rfl) (Nat.le_of_ble_eq_true rfl) rfl (Nat.le_of_ble_eq_true rfl))) (fun v14 g13 => ?_)
        refine r_aload_n (pc := 45) dX17_word_45 rfl 0 rfl ?_
        refine r_cI (pc := 46) (rest := [.ref v14, .ref (γ.1 24), .ref x0]) (RunOK_chk (fun h => run_V (n := 0) (c9 := 34) (As := []) (rest := [.ref v14, .ref (γ.1 24), .ref x0]) (t_X17_here γ l hl x0 g13) dX17_word_46 q3033 q3035 qs44 q175 q3036 (by decide +kernel) rfl h ⟨rfl, by decide, by decide⟩ (Nat.le_of_ble_eq_true rfl) (Nat.le_of_ble_eq_true rfl) rfl (Nat.le_of_ble_eq_true rfl))) (fun v16 g15 => ?_)
        refine r_cR (pc := 49) (rest := [.ref (γ.1 24), .ref x0]) (RunOK_chk (fun h => run_V (n := 1) (c9 := 6) (As := [.int v16]) (rest := [.ref (γ.1 24), .ref x0]) (t_J6_append_3 γ l hl v14 v16 g15) dX17_word_49 q3111 q2924 q2925 q118 q2926 (by decide +kernel) rfl h ⟨rfl, by decide, by decide⟩ (Nat.le_of_ble_eq_true rfl) (Nat.le_of_ble_eq_true rfl) rfl (Nat.le_of_ble_eq_true rfl))) (fun v18 g17 => ?_)
        refine r_cR (pc := 52) (rest := [.ref (γ.1 24), .ref x0]) (RunOK_chk (fun h => run_V (n := 0) (c9 := 6) (As := []) (rest := [.ref (γ.1 24), .ref x0]) (t_J6_toString γ l hl v18 g17) dX17_word_52 q3112 q608 q609 q118 q610 (by decide +kernel) rfl h ⟨rfl, by decide, by decide⟩ (Nat.le_of_ble_eq_true rfl) (Nat.le_of_ble_eq_true rfl) rfl (Nat.le_of_ble_eq_true rfl))) (fun v20 g19 => ?_)
        refine r_cI (pc := 55) (rest := [.ref x0]) (RunOK_chk (fun h => run_V (n := 1) (c9 := 7) (As := [.ref v20]) (rest := [.ref x0]) (t_J7_contains γ l hl (γ.1 24) v20 g19) dX17_word_55 q3113 q3114 q3115 q119 q3116 (by decide +kernel) rfl h ⟨rfl, by decide, by decide⟩ (Nat.le_of_ble_eq_true rfl) (Nat.le_of_ble_eq_true rfl) rfl (Nat.le_of_ble_eq_true rfl))) (fun v22 g21 => ?_)
        refine r_cXV (pc := 58) (rest := []) (RunOK_chk (fun h => run_V (n := 1) (c9 := 34) (As := [.int v22]) (rest := []) (t_X17_need γ l hl x0 v22 g21) dX17_word_58 q3151 q3153 qs45 q175 q3154 (by decide +kernel) rfl h ⟨rfl, by decide, by decide⟩ (Nat.le_of_ble_eq_true rfl) (Nat.le_of_ble_eq_true rfl) rfl (Nat.le_of_ble_eq_true rfl))) (fun e24 g25 => ?_) (fun g23 => ?_)
        · skip
          exact x_out (by decide)
        · skip
          refine r_aload_n (pc := 61) dX17_word_61 rfl 1 rfl ?_
          refine r_aload_n (pc := 62) dX17_word_62 rfl 0 rfl ?_
          refine r_cI (pc := 63) (rest := [.ref x1]) (RunOK_chk (fun h => run_V (n := 0) (c9 := 34) (As := []) (rest := [.ref x1]) (t_X17_here γ l hl x0 g23) dX17_word_63 q3033 q3035 qs44 q175 q3036 (by decide +kernel) rfl h ⟨rfl, by decide, by decide⟩ (Nat.le_of_ble_eq_true rfl) (Nat.le_of_ble_eq_true rfl) rfl (Nat.le_of_ble_eq_true rfl))) (fun v27 g26 => ?_)
          refine r_cR (pc := 66) (rest := []) (RunOK_chk (fun h => run_V (n := 1) (c9 := 6) (As := [.int v27]) (rest := []) (t_J6_append_3 γ l hl x1 v27 g26) dX17_word_66 q3111 q2924 q2925 q118 q2926 (by decide +kernel) rfl h ⟨rfl, by decide, by decide⟩ (Nat.le_of_ble_eq_true rfl) (Nat.le_of_ble_eq_true rfl) rfl (Nat.le_of_ble_eq_true rfl))) (fun v29 g28 => ?_)
          refine r_pop (pc := 69) dX17_word_69 rfl ?_
          refine r_aload_n (pc := 70) dX17_word_70 rfl 0 rfl ?_
          refine r_dup (pc := 71) dX17_word_71 rfl ?_
          refine r_getI (f := 128) (pc := 72) dX17_word_72 q3011 (Or.inl rfl) rfl (fun v30 => ?_)
          refine r_iconst (v := (1 : Int32)) (pc := 75) dX17_word_75 (by decide) ?_
          refine r_iadd (pc := 76) dX17_word_76 ?_
          refine r_putI (f := 128) (pc := 77) dX17_word_77 q3011 (Or.inl rfl) (Or.inl rfl) rfl (fun g31 => ?_)
          refine r_goto (tgt := 8) (pc := 80) dX17_word_80 (by decide) ?_
          exact ih g31
theorem t_X17_word (γ : GP) (l : Launch) (hl : l.stackTraces = false) (x0 : Nat) (g : AH) : TrM (ρX ρR) γ l ⟨"BanquetVotes$Reader", "word", "()Ljava/lang/String;"⟩ (ws_ ⟨"BanquetVotes$Reader", "word", "()Ljava/lang/String;"⟩ prog_18_method_7_code 2 (some (.object "java/lang/String"))) 12 [.ref x0] g (f_X17_word γ x0 g) := by
  refine TrM_of (plainFor_of_name (by decide)) (Nat.le_of_ble_eq_true rfl) ?_
  unfold f_X17_word
  change AW (ρX ρR) γ l ck_X17_word g 0 [(0, .ref x0)] [] g _
  refine r_new (c := 6) (pc := 0) dX17_word_0 q3031 (by decide) (by decide) (fun q1 g2 => ?_)
  refine r_dup (pc := 3) dX17_word_3 rfl ?_
  refine r_cV (pc := 4) (rest := [.ref q1]) (RunOK_chk (fun h => run_I (n := 0) (As := []) (rest := [.ref q1]) (t_J6_init γ l hl q1 g2) dX17_word_4 q3032 q289 q118 q290 rfl (by decide +kernel) rfl h (Nat.le_of_ble_eq_true rfl) (Nat.le_of_ble_eq_true rfl) rfl (Nat.le_of_ble_eq_true rfl))) (fun g3 => ?_)
  refine r_astore_n (pc := 7) dX17_word_7 rfl (Nat.le_of_ble_eq_true rfl) rfl ?_
  refine AW_sub [1, 0] rfl ?_
  refine f_X17_word_L8_w γ l hl _ x0 q1 _ ?_ FU g3
  · intro g32
    refine r_aload_n (pc := 83) dX17_word_83 rfl 0 rfl ?_
    refine r_aload_n (pc := 84) dX17_word_84 rfl 1 rfl ?_
    refine r_cI (pc := 85) (rest := [.ref x0]) (RunOK_chk (fun h => run_V (n := 0) (c9 := 6) (As := []) (rest := [.ref x0]) (t_J6_length γ l hl q1 g32) dX17_word_85 q3173 q629 q3910 q118 q630 (by decide +kernel) rfl h ⟨rfl, by decide, by decide⟩ (Nat.le_of_ble_eq_true rfl) (Nat.le_of_ble_eq_true rfl) rfl (Nat.le_of_ble_eq_true rfl))) (fun v34 g33 => ?_)
    refine AW_jn (P := fun (j : Nat → AH → Option ((Nat × AH) ⊕ (Nat × AH))) => ∀ (z35 : Nat) (g36 : AH), AW (ρX ρR) γ l ck_X17_word g 127 [(1, .ref q1)] [.ref z35] g36 (j z35 g36)) (fun z35 g36 => ?_) (fun j37 h_j37 => ?_)
    · skip
      refine r_iconst (v := (0 : Int32)) (pc := 127) dX17_word_127 (by decide) ?_
      refine r_cXV (pc := 128) (rest := []) (RunOK_chk (fun h => run_V (n := 1) (c9 := 34) (As := [.int (0 : Int32)]) (rest := []) (t_X17_need γ l hl z35 (0 : Int32) g36) dX17_word_128 q3151 q3153 qs45 q175 q3154 (by decide +kernel) rfl h ⟨rfl, by decide, by decide⟩ (Nat.le_of_ble_eq_true rfl) (Nat.le_of_ble_eq_true rfl) rfl (Nat.le_of_ble_eq_true rfl))) (fun e39 g40 => ?_) (fun g38 => ?_)
      · skip
        exact x_out (by decide)
      · skip
        refine r_aload_n (pc := 131) dX17_word_131 rfl 0 rfl ?_
        refine r_cR (pc := 132) (rest := []) (RunOK_chk (fun h => run_V (n := 0) (c9 := 6) (As := []) (rest := []) (t_J6_toString γ l hl q1 g38) dX17_word_132 q3112 q608 q609 q118 q610 (by decide +kernel) rfl h ⟨rfl, by decide, by decide⟩ (Nat.le_of_ble_eq_true rfl) (Nat.le_of_ble_eq_true rfl) rfl (Nat.le_of_ble_eq_true rfl))) (fun v42 g41 => ?_)
        exact r_inl (fun _ => rfl) (r_aret (pc := 135) dX17_word_135 rfl (by first | exact Or.inl ⟨_, rfl⟩ | exact Or.inr ⟨_, rfl⟩))
    · skip
      refine r_if_le (tgt := 127) (pc := 88) dX17_word_88 (by decide) ?_ ?_
      · skip
        refine AW_sub [1] rfl ?_
        exact h_j37 x0 g33
      · skip
        refine r_ldcS (pc := 91) dX17_word_91 (List.mem_of_getElem? (i := 12) rfl) ?_
        refine r_new (c := 6) (pc := 93) dX17_word_93 q3031 (by decide) (by decide) (fun q43 g44 => ?_)
        refine r_dup (pc := 96) dX17_word_96 rfl ?_
        refine r_cV (pc := 97) (rest := [.ref q43, .ref (γ.1 24), .ref x0]) (RunOK_chk (fun h => run_I (n := 0) (As := []) (rest := [.ref q43, .ref (γ.1 24), .ref x0]) (t_J6_init γ l hl q43 g44) dX17_word_97 q3032 q289 q118 q290 rfl (by decide +kernel) rfl h (Nat.le_of_ble_eq_true rfl) (Nat.le_of_ble_eq_true rfl) rfl (Nat.le_of_ble_eq_true rfl))) (fun g45 => ?_)
        refine r_ldcS (pc := 100) dX17_word_100 (List.mem_of_getElem? (i := 13) rfl) ?_
        refine r_cR (pc := 102) (rest := [.ref (γ.1 24), .ref x0]) (RunOK_chk (fun h => run_V (n := 1) (c9 := 6) (As := [.ref (γ.1 25)]) (rest := [.ref (γ.1 24), .ref x0]) (t_J6_append γ l hl q43 (γ.1 25) g45) dX17_word_102 q3051 q462 q463 q118 q464 (by decide +kernel) rfl h ⟨rfl, by decide, by decide⟩ (Nat.le_of_ble_eq_true rfl) (Nat.le_of_ble_eq_true rfl) rfl (Nat.le_of_ble_eq_true rfl))) (fun v47 g46 => ?_)
        refine r_aload_n (pc := 105) dX17_word_105 rfl 1 rfl ?_
        refine r_cR (pc := 106) (rest := [.ref (γ.1 24), .ref x0]) (RunOK_chk (fun h => run_V (n := 1) (c9 := 6) (As := [.ref q1]) (rest := [.ref (γ.1 24), .ref x0]) (t_J6_append_4 γ l hl v47 q1 g46) dX17_word_106 q3052 q3053 q3054 q118 q3055 (by decide +kernel) rfl h ⟨rfl, by decide, by decide⟩ (Nat.le_of_ble_eq_true rfl) (Nat.le_of_ble_eq_true rfl) rfl (Nat.le_of_ble_eq_true rfl))) (fun v49 g48 => ?_)
        refine r_ldcS (pc := 109) dX17_word_109 (List.mem_of_getElem? (i := 13) rfl) ?_
        refine r_cR (pc := 111) (rest := [.ref (γ.1 24), .ref x0]) (RunOK_chk (fun h => run_V (n := 1) (c9 := 6) (As := [.ref (γ.1 25)]) (rest := [.ref (γ.1 24), .ref x0]) (t_J6_append γ l hl v49 (γ.1 25) g48) dX17_word_111 q3051 q462 q463 q118 q464 (by decide +kernel) rfl h ⟨rfl, by decide, by decide⟩ (Nat.le_of_ble_eq_true rfl) (Nat.le_of_ble_eq_true rfl) rfl (Nat.le_of_ble_eq_true rfl))) (fun v51 g50 => ?_)
        refine r_cR (pc := 114) (rest := [.ref (γ.1 24), .ref x0]) (RunOK_chk (fun h => run_V (n := 0) (c9 := 6) (As := []) (rest := [.ref (γ.1 24), .ref x0]) (t_J6_toString γ l hl v51 g50) dX17_word_114 q3112 q608 q609 q118 q610 (by decide +kernel) rfl h ⟨rfl, by decide, by decide⟩ (Nat.le_of_ble_eq_true rfl) (Nat.le_of_ble_eq_true rfl) rfl (Nat.le_of_ble_eq_true rfl))) (fun v53 g52 => ?_)
        refine r_cI (pc := 117) (rest := [.ref x0]) (RunOK_chk (fun h => run_V (n := 1) (c9 := 7) (As := [.ref v53]) (rest := [.ref x0]) (t_J7_contains γ l hl (γ.1 24) v53 g52) dX17_word_117 q3113 q3114 q3115 q119 q3116 (by decide +kernel) rfl h ⟨rfl, by decide, by decide⟩ (Nat.le_of_ble_eq_true rfl) (Nat.le_of_ble_eq_true rfl) rfl (Nat.le_of_ble_eq_true rfl))) (fun v55 g54 => ?_)
        refine r_if_eq (tgt := 127) (pc := 120) dX17_word_120 (by decide) ?_ ?_
        · skip
          refine AW_sub [1] rfl ?_
          exact h_j37 x0 g54
        · skip
          refine r_iconst (v := (1 : Int32)) (pc := 123) dX17_word_123 (by decide) ?_
          refine r_goto (tgt := 128) (pc := 124) dX17_word_124 (by decide) ?_
          refine r_cXV (pc := 128) (rest := []) (RunOK_chk (fun h => run_V (n := 1) (c9 := 34) (As := [.int (1 : Int32)]) (rest := []) (t_X17_need γ l hl x0 (1 : Int32) g54) dX17_word_128 q3151 q3153 qs45 q175 q3154 (by decide +kernel) rfl h ⟨rfl, by decide, by decide⟩ (Nat.le_of_ble_eq_true rfl) (Nat.le_of_ble_eq_true rfl) rfl (Nat.le_of_ble_eq_true rfl))) (fun e57 g58 => ?_) (fun g56 => ?_)
          · skip
            exact x_out (by decide)
          · skip
            refine r_aload_n (pc := 131) dX17_word_131 rfl 1 rfl ?_
            refine r_cR (pc := 132) (rest := []) (RunOK_chk (fun h => run_V (n := 0) (c9 := 6) (As := []) (rest := []) (t_J6_toString γ l hl q1 g56) dX17_word_132 q3112 q608 q609 q118 q610 (by decide +kernel) rfl h ⟨rfl, by decide, by decide⟩ (Nat.le_of_ble_eq_true rfl) (Nat.le_of_ble_eq_true rfl) rfl (Nat.le_of_ble_eq_true rfl))) (fun v60 g59 => ?_)
            exact r_inl (fun _ => rfl) (r_aret (pc := 135) dX17_word_135 rfl (by first | exact Or.inl ⟨_, rfl⟩ | exact Or.inr ⟨_, rfl⟩))
abbrev ck_X17_takeAll : CK := ("BanquetVotes$Reader", prog_18_method_4_code, 3, none, "takeAll", [], 8)
def f_X17_takeAll_L2 (γ : GP) (x0 : Nat) (x1 : Nat) : Nat → Int32 → AH → Option ((AH) ⊕ (Nat × AH))
  | 0, _, _ => none
  | n + 1, x2, g => bI ((if hK g x1 = 7 then f_J7_length γ x1 g else none)) fun v2 g1 => (if v2 ≤ x2 then (some (.inl g1)) else bI ((if hK g1 x0 = 34 then f_X17_here γ x0 g1 else none)) fun v4 g3 => bI ((if hK g3 x1 = 7 then f_J7_charAt γ x1 x2 g3 else none)) fun v6 g5 => jn (fun (z7 : Int32) (z8 : Nat) (g9 : AH) => bXV ((if hK g9 z8 = 34 then f_X17_need γ z8 z7 g9 else none)) (fun e12 g13 => (thr e12 g13)) fun g11 => gI g11 x0 128 fun v14 => pI γ g11 x0 128 (v14 + (1 : Int32)) fun g15 => f_X17_takeAll_L2 γ x0 x1 n (x2 + (1 : Int32)) g15) (fun (j10 : Int32 → Nat → AH → Option ((AH) ⊕ (Nat × AH))) => (if v4 = v6 then j10 (1 : Int32) x0 g5 else j10 (0 : Int32) x0 g5)))
def f_X17_takeAll (γ : GP) (x0 : Nat) (x1 : Nat) (g : AH) : Option ((AH) ⊕ (Nat × AH)) := f_X17_takeAll_L2 γ x0 x1 FU (0 : Int32) g
theorem f_X17_takeAll_L2_w (γ : GP) (l : Launch) (hl : l.stackTraces = false) (G0 : AH) (x0 : Nat) (x1 : Nat) : ∀ (n : Nat) (x2 : Int32) (g : AH), AW (ρX ρV) γ l ck_X17_takeAll G0 2 [(0, .ref x0), (1, .ref x1), (2, .int x2)] [] g (f_X17_takeAll_L2 γ x0 x1 n x2 g) := by
  intro n
  induction n with
  | zero => intro x2 g; exact AW_none
  | succ n ih =>
    intro x2 g
    unfold f_X17_takeAll_L2
    refine r_iload_n (pc := 2) dX17_takeAll_2 rfl 2 rfl ?_
    refine r_aload_n (pc := 3) dX17_takeAll_3 rfl 1 rfl ?_
    refine r_cI (pc := 4) (rest := [.int x2]) (RunOK_chk (fun h => run_V (n := 0) (c9 := 7) (As := []) (rest := [.int x2]) (t_J7_length γ l hl x1 g) dX17_takeAll_4 q3037 q539 q540 q119 q541 (by decide +kernel) rfl h ⟨rfl, by decide, by decide⟩ (Nat.le_of_ble_eq_true rfl) (Nat.le_of_ble_eq_true rfl) rfl (Nat.le_of_ble_eq_true rfl))) (fun v2 g1 => ?_)
    refine r_icmp_ge (tgt := 47) (pc := 7) dX17_takeAll_7 (by decide) ?_ ?_
    · skip
      exact r_inl (fun _ => rfl) (r_vret (pc := 47) dX17_takeAll_47 rfl)
    · skip
      refine r_aload_n (pc := 10) dX17_takeAll_10 rfl 0 rfl ?_
      refine r_aload_n (pc := 11) dX17_takeAll_11 rfl 0 rfl ?_
      refine r_cI (pc := 12) (rest := [.ref x0]) (RunOK_chk (fun h => run_V (n := 0) (c9 := 34) (As := []) (rest := [.ref x0]) (t_X17_here γ l hl x0 g1) dX17_takeAll_12 q3033 q3035 qs44 q175 q3036 (by decide +kernel) rfl h ⟨rfl, by decide, by decide⟩ (Nat.le_of_ble_eq_true rfl) (Nat.le_of_ble_eq_true rfl) rfl (Nat.le_of_ble_eq_true rfl))) (fun v4 g3 => ?_)
      refine r_aload_n (pc := 15) dX17_takeAll_15 rfl 1 rfl ?_
      refine r_iload_n (pc := 16) dX17_takeAll_16 rfl 2 rfl ?_
      refine r_cI (pc := 17) (rest := [.int v4, .ref x0]) (RunOK_chk (fun h => run_V (n := 1) (c9 := 7) (As := [.int x2]) (rest := [.int v4, .ref x0]) (t_J7_charAt γ l hl x1 x2 g3) dX17_takeAll_17 q3038 q3039 q3040 q119 q3041 (by decide +kernel) rfl h ⟨rfl, by decide, by decide⟩ (Nat.le_of_ble_eq_true rfl) (Nat.le_of_ble_eq_true rfl) rfl (Nat.le_of_ble_eq_true rfl))) (fun v6 g5 => ?_)
      refine AW_jn (P := fun (j : Int32 → Nat → AH → Option ((AH) ⊕ (Nat × AH))) => ∀ (z7 : Int32) (z8 : Nat) (g9 : AH), AW (ρX ρV) γ l ck_X17_takeAll G0 28 [(0, .ref x0), (1, .ref x1), (2, .int x2)] [.int z7, .ref z8] g9 (j z7 z8 g9)) (fun z7 z8 g9 => ?_) (fun j10 h_j10 => ?_)
      · skip
        refine r_cXV (pc := 28) (rest := []) (RunOK_chk (fun h => run_V (n := 1) (c9 := 34) (As := [.int z7]) (rest := []) (t_X17_need γ l hl z8 z7 g9) dX17_takeAll_28 q3151 q3153 qs45 q175 q3154 (by decide +kernel) rfl h ⟨rfl, by decide, by decide⟩ (Nat.le_of_ble_eq_true rfl) (Nat.le_of_ble_eq_true rfl) rfl (Nat.le_of_ble_eq_true rfl))) (fun e12 g13 => ?_) (fun g11 => ?_)
        · skip
          exact x_out (by decide)
        · skip
          refine r_aload_n (pc := 31) dX17_takeAll_31 rfl 0 rfl ?_
          refine r_dup (pc := 32) dX17_takeAll_32 rfl ?_
          refine r_getI (f := 128) (pc := 33) dX17_takeAll_33 q3011 (Or.inl rfl) rfl (fun v14 => ?_)
          refine r_iconst (v := (1 : Int32)) (pc := 36) dX17_takeAll_36 (by decide) ?_
          refine r_iadd (pc := 37) dX17_takeAll_37 ?_
          refine r_putI (f := 128) (pc := 38) dX17_takeAll_38 q3011 (Or.inl rfl) (Or.inl rfl) rfl (fun g15 => ?_)
          refine r_iinc (j := 2) (v := (x2 + (1 : Int32))) (pc := 41) dX17_takeAll_41 rfl rfl (Nat.le_of_ble_eq_true rfl) rfl ?_
          refine r_goto (tgt := 2) (pc := 44) dX17_takeAll_44 (by decide) ?_
          refine AW_sub [1, 2, 0] rfl ?_
          exact ih (x2 + (1 : Int32)) g15
      · skip
        refine r_icmp_ne (tgt := 27) (pc := 20) dX17_takeAll_20 (by decide) ?_ ?_
        · skip
          refine r_iconst (v := (1 : Int32)) (pc := 23) dX17_takeAll_23 (by decide) ?_
          refine r_goto (tgt := 28) (pc := 24) dX17_takeAll_24 (by decide) ?_
          exact h_j10 (1 : Int32) x0 g5
        · skip
          refine r_iconst (v := (0 : Int32)) (pc := 27) dX17_takeAll_27 (by decide) ?_
          exact h_j10 (0 : Int32) x0 g5
theorem t_X17_takeAll (γ : GP) (l : Launch) (hl : l.stackTraces = false) (x0 : Nat) (x1 : Nat) (g : AH) : TrM (ρX ρV) γ l ⟨"BanquetVotes$Reader", "takeAll", "(Ljava/lang/String;)V"⟩ (ws_ ⟨"BanquetVotes$Reader", "takeAll", "(Ljava/lang/String;)V"⟩ prog_18_method_4_code 3 none) 8 [.ref x0, .ref x1] g (f_X17_takeAll γ x0 x1 g) := by
  refine TrM_of (plainFor_of_name (by decide)) (Nat.le_of_ble_eq_true rfl) ?_
  unfold f_X17_takeAll
  change AW (ρX ρV) γ l ck_X17_takeAll g 0 [(0, .ref x0), (1, .ref x1)] [] g _
  refine r_iconst (v := (0 : Int32)) (pc := 0) dX17_takeAll_0 (by decide) ?_
  refine r_istore_n (pc := 1) dX17_takeAll_1 rfl (Nat.le_of_ble_eq_true rfl) rfl ?_
  refine AW_sub [1, 2, 0] rfl ?_
  refine f_X17_takeAll_L2_w γ l hl _ x0 x1 FU (0 : Int32) g
abbrev ck_X17_isDigit : CK := ("BanquetVotes$Reader", prog_18_method_5_code, 1, (some .boolean), "isDigit", [], 7)
def f_X17_isDigit (γ : GP) (x0 : Nat) (g : AH) : Option (Int32 × AH) := bI ((if hK g x0 = 34 then f_X17_here γ x0 g else none)) fun v2 g1 => (if v2 < (48 : Int32) then (rtN .boolean (0 : Int32) g1) else bI ((if hK g1 x0 = 34 then f_X17_here γ x0 g1 else none)) fun v4 g3 => (if (57 : Int32) < v4 then (rtN .boolean (0 : Int32) g3) else (rtN .boolean (1 : Int32) g3)))
theorem t_X17_isDigit (γ : GP) (l : Launch) (hl : l.stackTraces = false) (x0 : Nat) (g : AH) : TrM ρI γ l ⟨"BanquetVotes$Reader", "isDigit", "()Z"⟩ (ws_ ⟨"BanquetVotes$Reader", "isDigit", "()Z"⟩ prog_18_method_5_code 1 (some .boolean)) 7 [.ref x0] g (f_X17_isDigit γ x0 g) := by
  refine TrM_of (plainFor_of_name (by decide)) (Nat.le_of_ble_eq_true rfl) ?_
  unfold f_X17_isDigit
  change AW ρI γ l ck_X17_isDigit g 0 [(0, .ref x0)] [] g _
  refine r_aload_n (pc := 0) dX17_isDigit_0 rfl 0 rfl ?_
  refine r_cI (pc := 1) (rest := []) (RunOK_chk (fun h => run_V (n := 0) (c9 := 34) (As := []) (rest := []) (t_X17_here γ l hl x0 g) dX17_isDigit_1 q3033 q3035 qs44 q175 q3036 (by decide +kernel) rfl h ⟨rfl, by decide, by decide⟩ (Nat.le_of_ble_eq_true rfl) (Nat.le_of_ble_eq_true rfl) rfl (Nat.le_of_ble_eq_true rfl))) (fun v2 g1 => ?_)
  refine r_bipush (v := (48 : Int32)) (pc := 4) dX17_isDigit_4 (by decide) ?_
  refine r_icmp_lt (tgt := 22) (pc := 6) dX17_isDigit_6 (by decide) ?_ ?_
  · skip
    refine r_iconst (v := (0 : Int32)) (pc := 22) dX17_isDigit_22 (by decide) ?_
    exact r_zret (ty := .boolean) (pc := 23) dX17_isDigit_23 rfl
  · skip
    refine r_aload_n (pc := 9) dX17_isDigit_9 rfl 0 rfl ?_
    refine r_cI (pc := 10) (rest := []) (RunOK_chk (fun h => run_V (n := 0) (c9 := 34) (As := []) (rest := []) (t_X17_here γ l hl x0 g1) dX17_isDigit_10 q3033 q3035 qs44 q175 q3036 (by decide +kernel) rfl h ⟨rfl, by decide, by decide⟩ (Nat.le_of_ble_eq_true rfl) (Nat.le_of_ble_eq_true rfl) rfl (Nat.le_of_ble_eq_true rfl))) (fun v4 g3 => ?_)
    refine r_bipush (v := (57 : Int32)) (pc := 13) dX17_isDigit_13 (by decide) ?_
    refine r_icmp_gt (tgt := 22) (pc := 15) dX17_isDigit_15 (by decide) ?_ ?_
    · skip
      refine r_iconst (v := (0 : Int32)) (pc := 22) dX17_isDigit_22 (by decide) ?_
      exact r_zret (ty := .boolean) (pc := 23) dX17_isDigit_23 rfl
    · skip
      refine r_iconst (v := (1 : Int32)) (pc := 18) dX17_isDigit_18 (by decide) ?_
      refine r_goto (tgt := 23) (pc := 19) dX17_isDigit_19 (by decide) ?_
      exact r_zret (ty := .boolean) (pc := 23) dX17_isDigit_23 rfl
abbrev ck_X17_digit : CK := ("BanquetVotes$Reader", prog_18_method_6_code, 1, (some .int), "digit", [], 8)
def f_X17_digit (γ : GP) (x0 : Nat) (g : AH) : Option ((Int32 × AH) ⊕ (Nat × AH)) := bI ((if hK g x0 = 34 then f_X17_isDigit γ x0 g else none)) fun v2 g1 => bXV ((if hK g1 x0 = 34 then f_X17_need γ x0 v2 g1 else none)) (fun e4 g5 => (thr e4 g5)) fun g3 => gI g3 x0 128 fun v6 => pI γ g3 x0 128 (v6 + (1 : Int32)) fun g7 => gR g7 x0 127 fun v8 => gI g7 x0 128 fun v9 => bI ((if hK g7 v8 = 7 then f_J7_charAt γ v8 (v9 - (1 : Int32)) g7 else none)) fun v11 g10 => (some (.inl ((v11 - (48 : Int32)), g10)))
theorem t_X17_digit (γ : GP) (l : Launch) (hl : l.stackTraces = false) (x0 : Nat) (g : AH) : TrM (ρX ρI) γ l ⟨"BanquetVotes$Reader", "digit", "()I"⟩ (ws_ ⟨"BanquetVotes$Reader", "digit", "()I"⟩ prog_18_method_6_code 1 (some .int)) 8 [.ref x0] g (f_X17_digit γ x0 g) := by
  refine TrM_of (plainFor_of_name (by decide)) (Nat.le_of_ble_eq_true rfl) ?_
  unfold f_X17_digit
  change AW (ρX ρI) γ l ck_X17_digit g 0 [(0, .ref x0)] [] g _
  refine r_aload_n (pc := 0) dX17_digit_0 rfl 0 rfl ?_
  refine r_aload_n (pc := 1) dX17_digit_1 rfl 0 rfl ?_
  refine r_cI (pc := 2) (rest := [.ref x0]) (RunOK_chk (fun h => run_V (n := 0) (c9 := 34) (As := []) (rest := [.ref x0]) (t_X17_isDigit γ l hl x0 g) dX17_digit_2 q3193 q3195 qs49 q175 q3196 (by decide +kernel) rfl h ⟨rfl, by decide, by decide⟩ (Nat.le_of_ble_eq_true rfl) (Nat.le_of_ble_eq_true rfl) rfl (Nat.le_of_ble_eq_true rfl))) (fun v2 g1 => ?_)
  refine r_cXV (pc := 5) (rest := []) (RunOK_chk (fun h => run_V (n := 1) (c9 := 34) (As := [.int v2]) (rest := []) (t_X17_need γ l hl x0 v2 g1) dX17_digit_5 q3151 q3153 qs45 q175 q3154 (by decide +kernel) rfl h ⟨rfl, by decide, by decide⟩ (Nat.le_of_ble_eq_true rfl) (Nat.le_of_ble_eq_true rfl) rfl (Nat.le_of_ble_eq_true rfl))) (fun e4 g5 => ?_) (fun g3 => ?_)
  · skip
    exact x_out (by decide)
  · skip
    refine r_aload_n (pc := 8) dX17_digit_8 rfl 0 rfl ?_
    refine r_dup (pc := 9) dX17_digit_9 rfl ?_
    refine r_getI (f := 128) (pc := 10) dX17_digit_10 q3011 (Or.inl rfl) rfl (fun v6 => ?_)
    refine r_iconst (v := (1 : Int32)) (pc := 13) dX17_digit_13 (by decide) ?_
    refine r_iadd (pc := 14) dX17_digit_14 ?_
    refine r_putI (f := 128) (pc := 15) dX17_digit_15 q3011 (Or.inl rfl) (Or.inl rfl) rfl (fun g7 => ?_)
    refine r_aload_n (pc := 18) dX17_digit_18 rfl 0 rfl ?_
    refine r_getR (f := 127) (pc := 19) dX17_digit_19 q3010 (Or.inl rfl) rfl (fun v8 => ?_)
    refine r_aload_n (pc := 22) dX17_digit_22 rfl 0 rfl ?_
    refine r_getI (f := 128) (pc := 23) dX17_digit_23 q3011 (Or.inl rfl) rfl (fun v9 => ?_)
    refine r_iconst (v := (1 : Int32)) (pc := 26) dX17_digit_26 (by decide) ?_
    refine r_isub (pc := 27) dX17_digit_27 ?_
    refine r_cI (pc := 28) (rest := []) (RunOK_chk (fun h => run_V (n := 1) (c9 := 7) (As := [.int (v9 - (1 : Int32))]) (rest := []) (t_J7_charAt γ l hl v8 (v9 - (1 : Int32)) g7) dX17_digit_28 q3038 q3039 q3040 q119 q3041 (by decide +kernel) rfl h ⟨rfl, by decide, by decide⟩ (Nat.le_of_ble_eq_true rfl) (Nat.le_of_ble_eq_true rfl) rfl (Nat.le_of_ble_eq_true rfl))) (fun v11 g10 => ?_)
    refine r_bipush (v := (48 : Int32)) (pc := 31) dX17_digit_31 (by decide) ?_
    refine r_isub (pc := 33) dX17_digit_33 ?_
    exact r_inl (fun _ => rfl) (r_iret (pc := 34) dX17_digit_34 rfl)
abbrev ck_X17_who : CK := ("BanquetVotes$Reader", prog_18_method_8_code, 1, (some .int), "who", [], 9)
def f_X17_who (γ : GP) (x0 : Nat) (g : AH) : Option ((Int32 × AH) ⊕ (Nat × AH)) := bI ((if hK g x0 = 34 then f_X17_here γ x0 g else none)) fun v2 g1 => (if v2 = (104 : Int32) then bXV ((if hK g1 x0 = 34 then f_X17_takeAll γ x0 (γ.1 30) g1 else none)) (fun e4 g5 => (thr e4 g5)) fun g3 => (some (.inl ((-1 : Int32), g3))) else bXI ((if hK g1 x0 = 34 then f_X17_digit γ x0 g1 else none)) (fun e8 g9 => (thr e8 g9)) fun v7 g6 => (some (.inl (v7, g6))))
theorem t_X17_who (γ : GP) (l : Launch) (hl : l.stackTraces = false) (x0 : Nat) (g : AH) : TrM (ρX ρI) γ l ⟨"BanquetVotes$Reader", "who", "()I"⟩ (ws_ ⟨"BanquetVotes$Reader", "who", "()I"⟩ prog_18_method_8_code 1 (some .int)) 9 [.ref x0] g (f_X17_who γ x0 g) := by
  refine TrM_of (plainFor_of_name (by decide)) (Nat.le_of_ble_eq_true rfl) ?_
  unfold f_X17_who
  change AW (ρX ρI) γ l ck_X17_who g 0 [(0, .ref x0)] [] g _
  refine r_aload_n (pc := 0) dX17_who_0 rfl 0 rfl ?_
  refine r_cI (pc := 1) (rest := []) (RunOK_chk (fun h => run_V (n := 0) (c9 := 34) (As := []) (rest := []) (t_X17_here γ l hl x0 g) dX17_who_1 q3033 q3035 qs44 q175 q3036 (by decide +kernel) rfl h ⟨rfl, by decide, by decide⟩ (Nat.le_of_ble_eq_true rfl) (Nat.le_of_ble_eq_true rfl) rfl (Nat.le_of_ble_eq_true rfl))) (fun v2 g1 => ?_)
  refine r_bipush (v := (104 : Int32)) (pc := 4) dX17_who_4 (by decide) ?_
  refine r_icmp_eq (tgt := 14) (pc := 6) dX17_who_6 (by decide) ?_ ?_
  · skip
    refine r_aload_n (pc := 14) dX17_who_14 rfl 0 rfl ?_
    refine r_ldcS (pc := 15) dX17_who_15 (List.mem_of_getElem? (i := 18) rfl) ?_
    refine r_cXV (pc := 17) (rest := []) (RunOK_chk (fun h => run_V (n := 1) (c9 := 34) (As := [.ref (γ.1 30)]) (rest := []) (t_X17_takeAll γ l hl x0 (γ.1 30) g1) dX17_who_17 q3174 q3176 qs46 q175 q3177 (by decide +kernel) rfl h ⟨rfl, by decide, by decide⟩ (Nat.le_of_ble_eq_true rfl) (Nat.le_of_ble_eq_true rfl) rfl (Nat.le_of_ble_eq_true rfl))) (fun e4 g5 => ?_) (fun g3 => ?_)
    · skip
      exact x_out (by decide)
    · skip
      refine r_iconst (v := (-1 : Int32)) (pc := 20) dX17_who_20 (by decide) ?_
      exact r_inl (fun _ => rfl) (r_iret (pc := 21) dX17_who_21 rfl)
  · skip
    refine r_aload_n (pc := 9) dX17_who_9 rfl 0 rfl ?_
    refine r_cXI (pc := 10) (rest := []) (RunOK_chk (fun h => run_V (n := 0) (c9 := 34) (As := []) (rest := []) (t_X17_digit γ l hl x0 g1) dX17_who_10 q3189 q3191 qs48 q175 q3192 (by decide +kernel) rfl h ⟨rfl, by decide, by decide⟩ (Nat.le_of_ble_eq_true rfl) (Nat.le_of_ble_eq_true rfl) rfl (Nat.le_of_ble_eq_true rfl))) (fun e8 g9 => ?_) (fun v7 g6 => ?_)
    · skip
      exact x_out (by decide)
    · skip
      exact r_inl (fun _ => rfl) (r_iret (pc := 13) dX17_who_13 rfl)
abbrev ck_X17_command : CK := ("BanquetVotes$Reader", prog_18_method_9_code, 7, (some (.object "BanquetVotes$Command")), "command", [], 13)
def f_X17_command (γ : GP) (x0 : Nat) (g : AH) : Option ((Nat × AH) ⊕ (Nat × AH)) := bXR ((if hK g x0 = 34 then f_X17_word γ x0 g else none)) (fun e3 g4 => (thr e3 g4)) fun v2 g1 => bXV ((if hK g1 x0 = 34 then f_X17_takeAll γ x0 (γ.1 25) g1 else none)) (fun e6 g7 => (thr e6 g7)) fun g5 => bI ((if hK g5 v2 = 7 then f_J7_hashCode γ v2 g5 else none)) fun v9 g8 => jn (fun (y10 : Int32) (g11 : AH) => (if y10 = (0 : Int32) then mO g11 27 fun q13 g14 => bXI ((if hK g14 x0 = 34 then f_X17_who γ x0 g14 else none)) (fun e17 g18 => (thr e17 g18)) fun v16 g15 => bV ((if q13 ≠ 0 then f_X11_init γ q13 v2 v16 (0 : Int32) (0 : Int32) g15 else none)) fun g19 => (some (.inl (q13, g19))) else (if y10 = (1 : Int32) then mO g11 27 fun q20 g21 => bXI ((if hK g21 x0 = 34 then f_X17_who γ x0 g21 else none)) (fun e24 g25 => (thr e24 g25)) fun v23 g22 => bV ((if q20 ≠ 0 then f_X11_init γ q20 v2 v23 (0 : Int32) (0 : Int32) g22 else none)) fun g26 => (some (.inl (q20, g26))) else (if y10 = (2 : Int32) then bXI ((if hK g11 x0 = 34 then f_X17_digit γ x0 g11 else none)) (fun e29 g30 => (thr e29 g30)) fun v28 g27 => bXV ((if hK g27 x0 = 34 then f_X17_takeAll γ x0 (γ.1 25) g27 else none)) (fun e32 g33 => (thr e32 g33)) fun g31 => bXI ((if hK g31 x0 = 34 then f_X17_digit γ x0 g31 else none)) (fun e36 g37 => (thr e36 g37)) fun v35 g34 => bXV ((if hK g34 x0 = 34 then f_X17_takeAll γ x0 (γ.1 25) g34 else none)) (fun e39 g40 => (thr e39 g40)) fun g38 => mO g38 27 fun q41 g42 => bXI ((if hK g42 x0 = 34 then f_X17_digit γ x0 g42 else none)) (fun e45 g46 => (thr e45 g46)) fun v44 g43 => bV ((if q41 ≠ 0 then f_X11_init γ q41 v2 v28 v35 v44 g43 else none)) fun g47 => (some (.inl (q41, g47))) else (if y10 = (3 : Int32) then bXI ((if hK g11 x0 = 34 then f_X17_digit γ x0 g11 else none)) (fun e50 g51 => (thr e50 g51)) fun v49 g48 => mO g48 27 fun q52 g53 => bI ((if hK g53 x0 = 34 then f_X17_isDigit γ x0 g53 else none)) fun v55 g54 => jn (fun (z56 : Int32) (z57 : Nat) (z58 : Nat) (z59 : Nat) (g60 : AH) => bV ((if z58 ≠ 0 then f_X11_init γ z58 z57 z56 (0 : Int32) (0 : Int32) g60 else none)) fun g62 => (some (.inl (z59, g62)))) (fun (j61 : Int32 → Nat → Nat → Nat → AH → Option ((Nat × AH) ⊕ (Nat × AH))) => (if v55 = 0 then j61 v49 v2 q52 q52 g54 else bXI ((if hK g54 x0 = 34 then f_X17_digit γ x0 g54 else none)) (fun e65 g66 => (thr e65 g66)) fun v64 g63 => j61 (((10 : Int32) * v49) + v64) v2 q52 q52 g63)) else mO g11 27 fun q67 g68 => bXI ((if hK g68 x0 = 34 then f_X17_digit γ x0 g68 else none)) (fun e71 g72 => (thr e71 g72)) fun v70 g69 => bV ((if q67 ≠ 0 then f_X11_init γ q67 v2 v70 (0 : Int32) (0 : Int32) g69 else none)) fun g73 => (some (.inl (q67, g73)))))))) (fun (j12 : Int32 → AH → Option ((Nat × AH) ⊕ (Nat × AH))) => (if v9 = (3641717 : Int32) then bI ((if hK g8 v2 = 7 then f_J7_equals γ v2 (γ.1 29) g8 else none)) fun v75 g74 => (if v75 = 0 then j12 (-1 : Int32) g74 else j12 (3 : Int32) g74) else (if v9 = (3641764 : Int32) then bI ((if hK g8 v2 = 7 then f_J7_equals γ v2 (γ.1 27) g8 else none)) fun v77 g76 => (if v77 = 0 then j12 (-1 : Int32) g76 else j12 (1 : Int32) g76) else (if v9 = (97193300 : Int32) then bI ((if hK g8 v2 = 7 then f_J7_equals γ v2 (γ.1 26) g8 else none)) fun v79 g78 => (if v79 = 0 then j12 (-1 : Int32) g78 else j12 (0 : Int32) g78) else (if v9 = (102846020 : Int32) then bI ((if hK g8 v2 = 7 then f_J7_equals γ v2 (γ.1 28) g8 else none)) fun v81 g80 => (if v81 = 0 then j12 (-1 : Int32) g80 else j12 (2 : Int32) g80) else j12 (-1 : Int32) g8)))))
theorem t_X17_command (γ : GP) (l : Launch) (hl : l.stackTraces = false) (x0 : Nat) (g : AH) : TrM (ρX ρR) γ l ⟨"BanquetVotes$Reader", "command", "()LBanquetVotes$Command;"⟩ (ws_ ⟨"BanquetVotes$Reader", "command", "()LBanquetVotes$Command;"⟩ prog_18_method_9_code 7 (some (.object "BanquetVotes$Command"))) 13 [.ref x0] g (f_X17_command γ x0 g) := by
  refine TrM_of (plainFor_of_name (by decide)) (Nat.le_of_ble_eq_true rfl) ?_
  unfold f_X17_command
  change AW (ρX ρR) γ l ck_X17_command g 0 [(0, .ref x0)] [] g _
  refine r_aload_n (pc := 0) dX17_command_0 rfl 0 rfl ?_
  refine r_cXR (pc := 1) (rest := []) (RunOK_chk (fun h => run_V (n := 0) (c9 := 34) (As := []) (rest := []) (t_X17_word γ l hl x0 g) dX17_command_1 q3027 q3029 qs43 q175 q3030 (by decide +kernel) rfl h ⟨rfl, by decide, by decide⟩ (Nat.le_of_ble_eq_true rfl) (Nat.le_of_ble_eq_true rfl) rfl (Nat.le_of_ble_eq_true rfl))) (fun e3 g4 => ?_) (fun v2 g1 => ?_)
  · skip
    exact x_out (by decide)
  · skip
    refine r_astore_n (pc := 4) dX17_command_4 rfl (Nat.le_of_ble_eq_true rfl) rfl ?_
    refine r_aload_n (pc := 5) dX17_command_5 rfl 1 rfl ?_
    refine r_ldcS (pc := 6) dX17_command_6 (List.mem_of_getElem? (i := 13) rfl) ?_
    refine r_cXV (pc := 8) (rest := []) (RunOK_chk (fun h => run_V (n := 1) (c9 := 34) (As := [.ref (γ.1 25)]) (rest := []) (t_X17_takeAll γ l hl x0 (γ.1 25) g1) dX17_command_8 q3174 q3176 qs46 q175 q3177 (by decide +kernel) rfl h ⟨rfl, by decide, by decide⟩ (Nat.le_of_ble_eq_true rfl) (Nat.le_of_ble_eq_true rfl) rfl (Nat.le_of_ble_eq_true rfl))) (fun e6 g7 => ?_) (fun g5 => ?_)
    · skip
      exact x_out (by decide)
    · skip
      refine r_aload_n (pc := 11) dX17_command_11 rfl 0 rfl ?_
      refine r_astore_n (pc := 12) dX17_command_12 rfl (Nat.le_of_ble_eq_true rfl) rfl ?_
      refine r_iconst (v := (-1 : Int32)) (pc := 13) dX17_command_13 (by decide) ?_
      refine r_istore_n (pc := 14) dX17_command_14 rfl (Nat.le_of_ble_eq_true rfl) rfl ?_
      refine r_aload_n (pc := 15) dX17_command_15 rfl 1 rfl ?_
      refine r_cI (pc := 16) (rest := []) (RunOK_chk (fun h => run_V (n := 0) (c9 := 7) (As := []) (rest := []) (t_J7_hashCode γ l hl v2 g5) dX17_command_16 q3178 q2283 q2284 q119 q2285 (by decide +kernel) rfl h ⟨rfl, by decide, by decide⟩ (Nat.le_of_ble_eq_true rfl) (Nat.le_of_ble_eq_true rfl) rfl (Nat.le_of_ble_eq_true rfl))) (fun v9 g8 => ?_)
      refine AW_jn (P := fun (j : Int32 → AH → Option ((Nat × AH) ⊕ (Nat × AH))) => ∀ (y10 : Int32) (g11 : AH), AW (ρX ρR) γ l ck_X17_command g 113 [(0, .ref x0), (1, .ref v2), (3, .int y10)] [] g11 (j y10 g11)) (fun y10 g11 => ?_) (fun j12 h_j12 => ?_)
      · skip
        refine r_iload_n (pc := 113) dX17_command_113 rfl 2 rfl ?_
        refine r_tabC (v := (0 : Int32)) (tgt := 144) (pc := 114) dX17_command_114 (by decide) (by decide) rfl (by decide) ?_ (fun c0 => ?_)
        · skip
          refine r_new (c := 27) (pc := 144) dX17_command_144 q3184 (by decide) (by decide) (fun q13 g14 => ?_)
          refine r_dup (pc := 147) dX17_command_147 rfl ?_
          refine r_aload_n (pc := 148) dX17_command_148 rfl 1 rfl ?_
          refine r_aload_n (pc := 149) dX17_command_149 rfl 0 rfl ?_
          refine r_cXI (pc := 150) (rest := [.ref v2, .ref q13, .ref q13]) (RunOK_chk (fun h => run_V (n := 0) (c9 := 34) (As := []) (rest := [.ref v2, .ref q13, .ref q13]) (t_X17_who γ l hl x0 g14) dX17_command_150 q3185 q3187 qs47 q175 q3188 (by decide +kernel) rfl h ⟨rfl, by decide, by decide⟩ (Nat.le_of_ble_eq_true rfl) (Nat.le_of_ble_eq_true rfl) rfl (Nat.le_of_ble_eq_true rfl))) (fun e17 g18 => ?_) (fun v16 g15 => ?_)
          · skip
            exact x_out (by decide)
          · skip
            refine r_iconst (v := (0 : Int32)) (pc := 153) dX17_command_153 (by decide) ?_
            refine r_iconst (v := (0 : Int32)) (pc := 154) dX17_command_154 (by decide) ?_
            refine r_cV (pc := 155) (rest := [.ref q13]) (RunOK_chk (fun h => run_I (n := 4) (As := [.ref v2, .int v16, .int (0 : Int32), .int (0 : Int32)]) (rest := [.ref q13]) (t_X11_init γ l hl q13 v2 v16 (0 : Int32) (0 : Int32) g15) dX17_command_155 q3198 q2262 q165 q2263 rfl (by decide +kernel) rfl h (Nat.le_of_ble_eq_true rfl) (Nat.le_of_ble_eq_true rfl) rfl (Nat.le_of_ble_eq_true rfl))) (fun g19 => ?_)
            exact r_inl (fun _ => rfl) (r_aret (pc := 158) dX17_command_158 rfl (by first | exact Or.inl ⟨_, rfl⟩ | exact Or.inr ⟨_, rfl⟩))
        · skip
          refine r_tabC (v := (1 : Int32)) (tgt := 144) (pc := 114) dX17_command_114 (by decide) (by decide) rfl (by decide) ?_ (fun c1 => ?_)
          · skip
            refine r_new (c := 27) (pc := 144) dX17_command_144 q3184 (by decide) (by decide) (fun q20 g21 => ?_)
            refine r_dup (pc := 147) dX17_command_147 rfl ?_
            refine r_aload_n (pc := 148) dX17_command_148 rfl 1 rfl ?_
            refine r_aload_n (pc := 149) dX17_command_149 rfl 0 rfl ?_
            refine r_cXI (pc := 150) (rest := [.ref v2, .ref q20, .ref q20]) (RunOK_chk (fun h => run_V (n := 0) (c9 := 34) (As := []) (rest := [.ref v2, .ref q20, .ref q20]) (t_X17_who γ l hl x0 g21) dX17_command_150 q3185 q3187 qs47 q175 q3188 (by decide +kernel) rfl h ⟨rfl, by decide, by decide⟩ (Nat.le_of_ble_eq_true rfl) (Nat.le_of_ble_eq_true rfl) rfl (Nat.le_of_ble_eq_true rfl))) (fun e24 g25 => ?_) (fun v23 g22 => ?_)
            · skip
              exact x_out (by decide)
            · skip
              refine r_iconst (v := (0 : Int32)) (pc := 153) dX17_command_153 (by decide) ?_
              refine r_iconst (v := (0 : Int32)) (pc := 154) dX17_command_154 (by decide) ?_
              refine r_cV (pc := 155) (rest := [.ref q20]) (RunOK_chk (fun h => run_I (n := 4) (As := [.ref v2, .int v23, .int (0 : Int32), .int (0 : Int32)]) (rest := [.ref q20]) (t_X11_init γ l hl q20 v2 v23 (0 : Int32) (0 : Int32) g22) dX17_command_155 q3198 q2262 q165 q2263 rfl (by decide +kernel) rfl h (Nat.le_of_ble_eq_true rfl) (Nat.le_of_ble_eq_true rfl) rfl (Nat.le_of_ble_eq_true rfl))) (fun g26 => ?_)
              exact r_inl (fun _ => rfl) (r_aret (pc := 158) dX17_command_158 rfl (by first | exact Or.inl ⟨_, rfl⟩ | exact Or.inr ⟨_, rfl⟩))
          · skip
            refine r_tabC (v := (2 : Int32)) (tgt := 159) (pc := 114) dX17_command_114 (by decide) (by decide) rfl (by decide) ?_ (fun c2 => ?_)
            · skip
              refine r_aload_n (pc := 159) dX17_command_159 rfl 0 rfl ?_
              refine r_cXI (pc := 160) (rest := []) (RunOK_chk (fun h => run_V (n := 0) (c9 := 34) (As := []) (rest := []) (t_X17_digit γ l hl x0 g11) dX17_command_160 q3189 q3191 qs48 q175 q3192 (by decide +kernel) rfl h ⟨rfl, by decide, by decide⟩ (Nat.le_of_ble_eq_true rfl) (Nat.le_of_ble_eq_true rfl) rfl (Nat.le_of_ble_eq_true rfl))) (fun e29 g30 => ?_) (fun v28 g27 => ?_)
              · skip
                exact x_out (by decide)
              · skip
                refine r_istore (pc := 163) dX17_command_163 (Nat.le_of_ble_eq_true rfl) rfl ?_
                refine r_aload_n (pc := 165) dX17_command_165 rfl 1 rfl ?_
                refine r_ldcS (pc := 166) dX17_command_166 (List.mem_of_getElem? (i := 13) rfl) ?_
                refine r_cXV (pc := 168) (rest := []) (RunOK_chk (fun h => run_V (n := 1) (c9 := 34) (As := [.ref (γ.1 25)]) (rest := []) (t_X17_takeAll γ l hl x0 (γ.1 25) g27) dX17_command_168 q3174 q3176 qs46 q175 q3177 (by decide +kernel) rfl h ⟨rfl, by decide, by decide⟩ (Nat.le_of_ble_eq_true rfl) (Nat.le_of_ble_eq_true rfl) rfl (Nat.le_of_ble_eq_true rfl))) (fun e32 g33 => ?_) (fun g31 => ?_)
                · skip
                  exact x_out (by decide)
                · skip
                  refine r_aload_n (pc := 171) dX17_command_171 rfl 1 rfl ?_
                  refine r_cXI (pc := 172) (rest := []) (RunOK_chk (fun h => run_V (n := 0) (c9 := 34) (As := []) (rest := []) (t_X17_digit γ l hl x0 g31) dX17_command_172 q3189 q3191 qs48 q175 q3192 (by decide +kernel) rfl h ⟨rfl, by decide, by decide⟩ (Nat.le_of_ble_eq_true rfl) (Nat.le_of_ble_eq_true rfl) rfl (Nat.le_of_ble_eq_true rfl))) (fun e36 g37 => ?_) (fun v35 g34 => ?_)
                  · skip
                    exact x_out (by decide)
                  · skip
                    refine r_istore (pc := 175) dX17_command_175 (Nat.le_of_ble_eq_true rfl) rfl ?_
                    refine r_aload_n (pc := 177) dX17_command_177 rfl 2 rfl ?_
                    refine r_ldcS (pc := 178) dX17_command_178 (List.mem_of_getElem? (i := 13) rfl) ?_
                    refine r_cXV (pc := 180) (rest := []) (RunOK_chk (fun h => run_V (n := 1) (c9 := 34) (As := [.ref (γ.1 25)]) (rest := []) (t_X17_takeAll γ l hl x0 (γ.1 25) g34) dX17_command_180 q3174 q3176 qs46 q175 q3177 (by decide +kernel) rfl h ⟨rfl, by decide, by decide⟩ (Nat.le_of_ble_eq_true rfl) (Nat.le_of_ble_eq_true rfl) rfl (Nat.le_of_ble_eq_true rfl))) (fun e39 g40 => ?_) (fun g38 => ?_)
                    · skip
                      exact x_out (by decide)
                    · skip
                      refine r_new (c := 27) (pc := 183) dX17_command_183 q3184 (by decide) (by decide) (fun q41 g42 => ?_)
                      refine r_dup (pc := 186) dX17_command_186 rfl ?_
                      refine r_aload_n (pc := 187) dX17_command_187 rfl 3 rfl ?_
                      refine r_iload (pc := 188) dX17_command_188 1 rfl ?_
                      refine r_iload (pc := 190) dX17_command_190 0 rfl ?_
                      refine r_aload_n (pc := 192) dX17_command_192 rfl 2 rfl ?_
                      refine r_cXI (pc := 193) (rest := [.int v35, .int v28, .ref v2, .ref q41, .ref q41]) (RunOK_chk (fun h => run_V (n := 0) (c9 := 34) (As := []) (rest := [.int v35, .int v28, .ref v2, .ref q41, .ref q41]) (t_X17_digit γ l hl x0 g42) dX17_command_193 q3189 q3191 qs48 q175 q3192 (by decide +kernel) rfl h ⟨rfl, by decide, by decide⟩ (Nat.le_of_ble_eq_true rfl) (Nat.le_of_ble_eq_true rfl) rfl (Nat.le_of_ble_eq_true rfl))) (fun e45 g46 => ?_) (fun v44 g43 => ?_)
                      · skip
                        exact x_out (by decide)
                      · skip
                        refine r_cV (pc := 196) (rest := [.ref q41]) (RunOK_chk (fun h => run_I (n := 4) (As := [.ref v2, .int v28, .int v35, .int v44]) (rest := [.ref q41]) (t_X11_init γ l hl q41 v2 v28 v35 v44 g43) dX17_command_196 q3198 q2262 q165 q2263 rfl (by decide +kernel) rfl h (Nat.le_of_ble_eq_true rfl) (Nat.le_of_ble_eq_true rfl) rfl (Nat.le_of_ble_eq_true rfl))) (fun g47 => ?_)
                        exact r_inl (fun _ => rfl) (r_aret (pc := 199) dX17_command_199 rfl (by first | exact Or.inl ⟨_, rfl⟩ | exact Or.inr ⟨_, rfl⟩))
            · skip
              refine r_tabC (v := (3 : Int32)) (tgt := 200) (pc := 114) dX17_command_114 (by decide) (by decide) rfl (by decide) ?_ (fun c3 => ?_)
              · skip
                refine r_aload_n (pc := 200) dX17_command_200 rfl 0 rfl ?_
                refine r_cXI (pc := 201) (rest := []) (RunOK_chk (fun h => run_V (n := 0) (c9 := 34) (As := []) (rest := []) (t_X17_digit γ l hl x0 g11) dX17_command_201 q3189 q3191 qs48 q175 q3192 (by decide +kernel) rfl h ⟨rfl, by decide, by decide⟩ (Nat.le_of_ble_eq_true rfl) (Nat.le_of_ble_eq_true rfl) rfl (Nat.le_of_ble_eq_true rfl))) (fun e50 g51 => ?_) (fun v49 g48 => ?_)
                · skip
                  exact x_out (by decide)
                · skip
                  refine r_istore (pc := 204) dX17_command_204 (Nat.le_of_ble_eq_true rfl) rfl ?_
                  refine r_new (c := 27) (pc := 206) dX17_command_206 q3184 (by decide) (by decide) (fun q52 g53 => ?_)
                  refine r_dup (pc := 209) dX17_command_209 rfl ?_
                  refine r_aload_n (pc := 210) dX17_command_210 rfl 2 rfl ?_
                  refine r_aload_n (pc := 211) dX17_command_211 rfl 1 rfl ?_
                  refine r_cI (pc := 212) (rest := [.ref v2, .ref q52, .ref q52]) (RunOK_chk (fun h => run_V (n := 0) (c9 := 34) (As := []) (rest := [.ref v2, .ref q52, .ref q52]) (t_X17_isDigit γ l hl x0 g53) dX17_command_212 q3193 q3195 qs49 q175 q3196 (by decide +kernel) rfl h ⟨rfl, by decide, by decide⟩ (Nat.le_of_ble_eq_true rfl) (Nat.le_of_ble_eq_true rfl) rfl (Nat.le_of_ble_eq_true rfl))) (fun v55 g54 => ?_)
                  refine AW_jn (P := fun (j : Int32 → Nat → Nat → Nat → AH → Option ((Nat × AH) ⊕ (Nat × AH))) => ∀ (z56 : Int32) (z57 : Nat) (z58 : Nat) (z59 : Nat) (g60 : AH), AW (ρX ρR) γ l ck_X17_command g 233 [] [.int z56, .ref z57, .ref z58, .ref z59] g60 (j z56 z57 z58 z59 g60)) (fun z56 z57 z58 z59 g60 => ?_) (fun j61 h_j61 => ?_)
                  · skip
                    refine r_iconst (v := (0 : Int32)) (pc := 233) dX17_command_233 (by decide) ?_
                    refine r_iconst (v := (0 : Int32)) (pc := 234) dX17_command_234 (by decide) ?_
                    refine r_cV (pc := 235) (rest := [.ref z59]) (RunOK_chk (fun h => run_I (n := 4) (As := [.ref z57, .int z56, .int (0 : Int32), .int (0 : Int32)]) (rest := [.ref z59]) (t_X11_init γ l hl z58 z57 z56 (0 : Int32) (0 : Int32) g60) dX17_command_235 q3198 q2262 q165 q2263 rfl (by decide +kernel) rfl h (Nat.le_of_ble_eq_true rfl) (Nat.le_of_ble_eq_true rfl) rfl (Nat.le_of_ble_eq_true rfl))) (fun g62 => ?_)
                    exact r_inl (fun _ => rfl) (r_aret (pc := 238) dX17_command_238 rfl (by first | exact Or.inl ⟨_, rfl⟩ | exact Or.inr ⟨_, rfl⟩))
                  · skip
                    refine r_if_eq (tgt := 231) (pc := 215) dX17_command_215 (by decide) ?_ ?_
                    · skip
                      refine r_iload (pc := 231) dX17_command_231 0 rfl ?_
                      refine AW_sub [] rfl ?_
                      exact h_j61 v49 v2 q52 q52 g54
                    · skip
                      refine r_bipush (v := (10 : Int32)) (pc := 218) dX17_command_218 (by decide) ?_
                      refine r_iload (pc := 220) dX17_command_220 0 rfl ?_
                      refine r_imul (pc := 222) dX17_command_222 ?_
                      refine r_aload_n (pc := 223) dX17_command_223 rfl 1 rfl ?_
                      refine r_cXI (pc := 224) (rest := [.int ((10 : Int32) * v49), .ref v2, .ref q52, .ref q52]) (RunOK_chk (fun h => run_V (n := 0) (c9 := 34) (As := []) (rest := [.int ((10 : Int32) * v49), .ref v2, .ref q52, .ref q52]) (t_X17_digit γ l hl x0 g54) dX17_command_224 q3189 q3191 qs48 q175 q3192 (by decide +kernel) rfl h ⟨rfl, by decide, by decide⟩ (Nat.le_of_ble_eq_true rfl) (Nat.le_of_ble_eq_true rfl) rfl (Nat.le_of_ble_eq_true rfl))) (fun e65 g66 => ?_) (fun v64 g63 => ?_)
                      · skip
                        exact x_out (by decide)
                      · skip
                        refine r_iadd (pc := 227) dX17_command_227 ?_
                        refine r_goto (tgt := 233) (pc := 228) dX17_command_228 (by decide) ?_
                        refine AW_sub [] rfl ?_
                        exact h_j61 (((10 : Int32) * v49) + v64) v2 q52 q52 g63
              · skip
                refine r_tabD (tgt := 239) (pc := 114) dX17_command_114 (by have e0 := lv_neT c0 (a := 0) rfl; have e1 := lv_neT c1 (a := 1) rfl; have e2 := lv_neT c2 (a := 2) rfl; have e3 := lv_neT c3 (a := 3) rfl; omega) (by decide) ?_
                refine r_new (c := 27) (pc := 239) dX17_command_239 q3184 (by decide) (by decide) (fun q67 g68 => ?_)
                refine r_dup (pc := 242) dX17_command_242 rfl ?_
                refine r_aload_n (pc := 243) dX17_command_243 rfl 1 rfl ?_
                refine r_aload_n (pc := 244) dX17_command_244 rfl 0 rfl ?_
                refine r_cXI (pc := 245) (rest := [.ref v2, .ref q67, .ref q67]) (RunOK_chk (fun h => run_V (n := 0) (c9 := 34) (As := []) (rest := [.ref v2, .ref q67, .ref q67]) (t_X17_digit γ l hl x0 g68) dX17_command_245 q3189 q3191 qs48 q175 q3192 (by decide +kernel) rfl h ⟨rfl, by decide, by decide⟩ (Nat.le_of_ble_eq_true rfl) (Nat.le_of_ble_eq_true rfl) rfl (Nat.le_of_ble_eq_true rfl))) (fun e71 g72 => ?_) (fun v70 g69 => ?_)
                · skip
                  exact x_out (by decide)
                · skip
                  refine r_iconst (v := (0 : Int32)) (pc := 248) dX17_command_248 (by decide) ?_
                  refine r_iconst (v := (0 : Int32)) (pc := 249) dX17_command_249 (by decide) ?_
                  refine r_cV (pc := 250) (rest := [.ref q67]) (RunOK_chk (fun h => run_I (n := 4) (As := [.ref v2, .int v70, .int (0 : Int32), .int (0 : Int32)]) (rest := [.ref q67]) (t_X11_init γ l hl q67 v2 v70 (0 : Int32) (0 : Int32) g69) dX17_command_250 q3198 q2262 q165 q2263 rfl (by decide +kernel) rfl h (Nat.le_of_ble_eq_true rfl) (Nat.le_of_ble_eq_true rfl) rfl (Nat.le_of_ble_eq_true rfl))) (fun g73 => ?_)
                  exact r_inl (fun _ => rfl) (r_aret (pc := 253) dX17_command_253 rfl (by first | exact Or.inl ⟨_, rfl⟩ | exact Or.inr ⟨_, rfl⟩))
      · skip
        refine r_lookC (v := (3641717 : Int32)) (tgt := 102) (pc := 19) dX17_command_19 rfl rfl (by decide) ?_ (fun c0 => ?_)
        · skip
          refine r_aload_n (pc := 102) dX17_command_102 rfl 1 rfl ?_
          refine r_ldcS (pc := 103) dX17_command_103 (List.mem_of_getElem? (i := 17) rfl) ?_
          refine r_cI (pc := 105) (rest := []) (RunOK_chk (fun h => run_V (n := 1) (c9 := 7) (As := [.ref (γ.1 29)]) (rest := []) (t_J7_equals γ l hl v2 (γ.1 29) g8) dX17_command_105 q3180 q2345 q2346 q119 q2347 (by decide +kernel) rfl h ⟨rfl, by decide, by decide⟩ (Nat.le_of_ble_eq_true rfl) (Nat.le_of_ble_eq_true rfl) rfl (Nat.le_of_ble_eq_true rfl))) (fun v75 g74 => ?_)
          refine r_if_eq (tgt := 113) (pc := 108) dX17_command_108 (by decide) ?_ ?_
          · skip
            refine AW_sub [3, 2, 0] rfl ?_
            exact h_j12 (-1 : Int32) g74
          · skip
            refine r_iconst (v := (3 : Int32)) (pc := 111) dX17_command_111 (by decide) ?_
            refine r_istore_n (pc := 112) dX17_command_112 rfl (Nat.le_of_ble_eq_true rfl) rfl ?_
            refine AW_sub [3, 2, 0] rfl ?_
            exact h_j12 (3 : Int32) g74
        · skip
          refine r_lookC (v := (3641764 : Int32)) (tgt := 74) (pc := 19) dX17_command_19 rfl rfl (by decide) ?_ (fun c1 => ?_)
          · skip
            refine r_aload_n (pc := 74) dX17_command_74 rfl 1 rfl ?_
            refine r_ldcS (pc := 75) dX17_command_75 (List.mem_of_getElem? (i := 15) rfl) ?_
            refine r_cI (pc := 77) (rest := []) (RunOK_chk (fun h => run_V (n := 1) (c9 := 7) (As := [.ref (γ.1 27)]) (rest := []) (t_J7_equals γ l hl v2 (γ.1 27) g8) dX17_command_77 q3180 q2345 q2346 q119 q2347 (by decide +kernel) rfl h ⟨rfl, by decide, by decide⟩ (Nat.le_of_ble_eq_true rfl) (Nat.le_of_ble_eq_true rfl) rfl (Nat.le_of_ble_eq_true rfl))) (fun v77 g76 => ?_)
            refine r_if_eq (tgt := 113) (pc := 80) dX17_command_80 (by decide) ?_ ?_
            · skip
              refine AW_sub [3, 2, 0] rfl ?_
              exact h_j12 (-1 : Int32) g76
            · skip
              refine r_iconst (v := (1 : Int32)) (pc := 83) dX17_command_83 (by decide) ?_
              refine r_istore_n (pc := 84) dX17_command_84 rfl (Nat.le_of_ble_eq_true rfl) rfl ?_
              refine r_goto (tgt := 113) (pc := 85) dX17_command_85 (by decide) ?_
              refine AW_sub [3, 2, 0] rfl ?_
              exact h_j12 (1 : Int32) g76
          · skip
            refine r_lookC (v := (97193300 : Int32)) (tgt := 60) (pc := 19) dX17_command_19 rfl rfl (by decide) ?_ (fun c2 => ?_)
            · skip
              refine r_aload_n (pc := 60) dX17_command_60 rfl 1 rfl ?_
              refine r_ldcS (pc := 61) dX17_command_61 (List.mem_of_getElem? (i := 14) rfl) ?_
              refine r_cI (pc := 63) (rest := []) (RunOK_chk (fun h => run_V (n := 1) (c9 := 7) (As := [.ref (γ.1 26)]) (rest := []) (t_J7_equals γ l hl v2 (γ.1 26) g8) dX17_command_63 q3180 q2345 q2346 q119 q2347 (by decide +kernel) rfl h ⟨rfl, by decide, by decide⟩ (Nat.le_of_ble_eq_true rfl) (Nat.le_of_ble_eq_true rfl) rfl (Nat.le_of_ble_eq_true rfl))) (fun v79 g78 => ?_)
              refine r_if_eq (tgt := 113) (pc := 66) dX17_command_66 (by decide) ?_ ?_
              · skip
                refine AW_sub [3, 2, 0] rfl ?_
                exact h_j12 (-1 : Int32) g78
              · skip
                refine r_iconst (v := (0 : Int32)) (pc := 69) dX17_command_69 (by decide) ?_
                refine r_istore_n (pc := 70) dX17_command_70 rfl (Nat.le_of_ble_eq_true rfl) rfl ?_
                refine r_goto (tgt := 113) (pc := 71) dX17_command_71 (by decide) ?_
                refine AW_sub [3, 2, 0] rfl ?_
                exact h_j12 (0 : Int32) g78
            · skip
              refine r_lookC (v := (102846020 : Int32)) (tgt := 88) (pc := 19) dX17_command_19 rfl rfl (by decide) ?_ (fun c3 => ?_)
              · skip
                refine r_aload_n (pc := 88) dX17_command_88 rfl 1 rfl ?_
                refine r_ldcS (pc := 89) dX17_command_89 (List.mem_of_getElem? (i := 16) rfl) ?_
                refine r_cI (pc := 91) (rest := []) (RunOK_chk (fun h => run_V (n := 1) (c9 := 7) (As := [.ref (γ.1 28)]) (rest := []) (t_J7_equals γ l hl v2 (γ.1 28) g8) dX17_command_91 q3180 q2345 q2346 q119 q2347 (by decide +kernel) rfl h ⟨rfl, by decide, by decide⟩ (Nat.le_of_ble_eq_true rfl) (Nat.le_of_ble_eq_true rfl) rfl (Nat.le_of_ble_eq_true rfl))) (fun v81 g80 => ?_)
                refine r_if_eq (tgt := 113) (pc := 94) dX17_command_94 (by decide) ?_ ?_
                · skip
                  refine AW_sub [3, 2, 0] rfl ?_
                  exact h_j12 (-1 : Int32) g80
                · skip
                  refine r_iconst (v := (2 : Int32)) (pc := 97) dX17_command_97 (by decide) ?_
                  refine r_istore_n (pc := 98) dX17_command_98 rfl (Nat.le_of_ble_eq_true rfl) rfl ?_
                  refine r_goto (tgt := 113) (pc := 99) dX17_command_99 (by decide) ?_
                  refine AW_sub [3, 2, 0] rfl ?_
                  exact h_j12 (2 : Int32) g80
              · skip
                refine r_lookD (tgt := 113) (pc := 19) dX17_command_19 rfl (by refine (lv_osw c0 rfl).trans ?_; refine (lv_osw c1 rfl).trans ?_; refine (lv_osw c2 rfl).trans ?_; refine (lv_osw c3 rfl).trans ?_; rfl) (by decide) ?_
                refine AW_sub [3, 2, 0] rfl ?_
                exact h_j12 (-1 : Int32) g8
abbrev ck_X17_commands : CK := ("BanquetVotes$Reader", prog_18_method_10_code, 2, (some (.object "java/util/List")), "commands", [], 14)
def f_X17_commands_L19 (γ : GP) (x0 : Nat) (x1 : Nat) : Nat → AH → Option ((Nat × AH) ⊕ (Nat × AH))
  | 0, _ => none
  | n + 1, g => gI g x0 128 fun v10 => gR g x0 127 fun v11 => bI ((if hK g v11 = 7 then f_J7_length γ v11 g else none)) fun v13 g12 => (if v13 ≤ v10 then (some (.inl (x1, g12))) else bXV ((if hK g12 x0 = 34 then f_X17_takeAll γ x0 (γ.1 31) g12 else none)) (fun e15 g16 => (thr e15 g16)) fun g14 => bXR ((if hK g14 x0 = 34 then f_X17_command γ x0 g14 else none)) (fun e19 g20 => (thr e19 g20)) fun v18 g17 => bI ((if hK g17 x1 = 3 then f_J2_add γ x1 v18 g17 else none)) fun v22 g21 => f_X17_commands_L19 γ x0 x1 n g21)
def f_X17_commands (γ : GP) (x0 : Nat) (g : AH) : Option ((Nat × AH) ⊕ (Nat × AH)) := mO g 3 fun q1 g2 => bV ((if q1 ≠ 0 then f_J2_init γ q1 g2 else none)) fun g3 => bXR ((if hK g3 x0 = 34 then f_X17_command γ x0 g3 else none)) (fun e6 g7 => (thr e6 g7)) fun v5 g4 => bI ((if hK g4 q1 = 3 then f_J2_add γ q1 v5 g4 else none)) fun v9 g8 => f_X17_commands_L19 γ x0 q1 FU g8
theorem f_X17_commands_L19_w (γ : GP) (l : Launch) (hl : l.stackTraces = false) (G0 : AH) (x0 : Nat) (x1 : Nat) : ∀ (n : Nat) (g : AH), AW (ρX ρR) γ l ck_X17_commands G0 19 [(0, .ref x0), (1, .ref x1)] [] g (f_X17_commands_L19 γ x0 x1 n g) := by
  intro n
  induction n with
  | zero => intro g; exact AW_none
  | succ n ih =>
    intro g
    unfold f_X17_commands_L19
    refine r_aload_n (pc := 19) dX17_commands_19 rfl 0 rfl ?_
    refine r_getI (f := 128) (pc := 20) dX17_commands_20 q3011 (Or.inl rfl) rfl (fun v10 => ?_)
    refine r_aload_n (pc := 23) dX17_commands_23 rfl 0 rfl ?_
    refine r_getR (f := 127) (pc := 24) dX17_commands_24 q3010 (Or.inl rfl) rfl (fun v11 => ?_)
    refine r_cI (pc := 27) (rest := [.int v10]) (RunOK_chk (fun h => run_V (n := 0) (c9 := 7) (As := []) (rest := [.int v10]) (t_J7_length γ l hl v11 g) dX17_commands_27 q3037 q539 q540 q119 q541 (by decide +kernel) rfl h ⟨rfl, by decide, by decide⟩ (Nat.le_of_ble_eq_true rfl) (Nat.le_of_ble_eq_true rfl) rfl (Nat.le_of_ble_eq_true rfl))) (fun v13 g12 => ?_)
    refine r_icmp_ge (tgt := 53) (pc := 30) dX17_commands_30 (by decide) ?_ ?_
    · skip
      refine r_aload_n (pc := 53) dX17_commands_53 rfl 1 rfl ?_
      exact r_inl (fun _ => rfl) (r_aret (pc := 54) dX17_commands_54 rfl (by first | exact Or.inl ⟨_, rfl⟩ | exact Or.inr ⟨_, rfl⟩))
    · skip
      refine r_aload_n (pc := 33) dX17_commands_33 rfl 0 rfl ?_
      refine r_ldcS (pc := 34) dX17_commands_34 (List.mem_of_getElem? (i := 19) rfl) ?_
      refine r_cXV (pc := 36) (rest := []) (RunOK_chk (fun h => run_V (n := 1) (c9 := 34) (As := [.ref (γ.1 31)]) (rest := []) (t_X17_takeAll γ l hl x0 (γ.1 31) g12) dX17_commands_36 q3174 q3176 qs46 q175 q3177 (by decide +kernel) rfl h ⟨rfl, by decide, by decide⟩ (Nat.le_of_ble_eq_true rfl) (Nat.le_of_ble_eq_true rfl) rfl (Nat.le_of_ble_eq_true rfl))) (fun e15 g16 => ?_) (fun g14 => ?_)
      · skip
        exact x_out (by decide)
      · skip
        refine r_aload_n (pc := 39) dX17_commands_39 rfl 1 rfl ?_
        refine r_aload_n (pc := 40) dX17_commands_40 rfl 0 rfl ?_
        refine r_cXR (pc := 41) (rest := [.ref x1]) (RunOK_chk (fun h => run_V (n := 0) (c9 := 34) (As := []) (rest := [.ref x1]) (t_X17_command γ l hl x0 g14) dX17_commands_41 q3023 q3025 qs42 q175 q3026 (by decide +kernel) rfl h ⟨rfl, by decide, by decide⟩ (Nat.le_of_ble_eq_true rfl) (Nat.le_of_ble_eq_true rfl) rfl (Nat.le_of_ble_eq_true rfl))) (fun e19 g20 => ?_) (fun v18 g17 => ?_)
        · skip
          exact x_out (by decide)
        · skip
          refine r_cI (pc := 44) (rest := []) (RunOK_chk (fun h => run_F (n := 1) (c9 := 3) (As := [.ref v18]) (rest := []) (t_J2_add γ l hl x1 v18 g17) dX17_commands_44 q3200 q1383 q1385 q112 q1387 (by decide +kernel) (by decide +kernel) rfl h ⟨by decide, by decide⟩ (Nat.le_of_ble_eq_true rfl) (Nat.le_of_ble_eq_true rfl) rfl (Nat.le_of_ble_eq_true rfl))) (fun v22 g21 => ?_)
          refine r_pop (pc := 49) dX17_commands_49 rfl ?_
          refine r_goto (tgt := 19) (pc := 50) dX17_commands_50 (by decide) ?_
          exact ih g21
theorem t_X17_commands (γ : GP) (l : Launch) (hl : l.stackTraces = false) (x0 : Nat) (g : AH) : TrM (ρX ρR) γ l ⟨"BanquetVotes$Reader", "commands", "()Ljava/util/List;"⟩ (ws_ ⟨"BanquetVotes$Reader", "commands", "()Ljava/util/List;"⟩ prog_18_method_10_code 2 (some (.object "java/util/List"))) 14 [.ref x0] g (f_X17_commands γ x0 g) := by
  refine TrM_of (plainFor_of_name (by decide)) (Nat.le_of_ble_eq_true rfl) ?_
  unfold f_X17_commands
  change AW (ρX ρR) γ l ck_X17_commands g 0 [(0, .ref x0)] [] g _
  refine r_new (c := 3) (pc := 0) dX17_commands_0 q3021 (by decide) (by decide) (fun q1 g2 => ?_)
  refine r_dup (pc := 3) dX17_commands_3 rfl ?_
  refine r_cV (pc := 4) (rest := [.ref q1]) (RunOK_chk (fun h => run_I (n := 0) (As := []) (rest := [.ref q1]) (t_J2_init γ l hl q1 g2) dX17_commands_4 q3022 q196 q112 q197 rfl (by decide +kernel) rfl h (Nat.le_of_ble_eq_true rfl) (Nat.le_of_ble_eq_true rfl) rfl (Nat.le_of_ble_eq_true rfl))) (fun g3 => ?_)
  refine r_astore_n (pc := 7) dX17_commands_7 rfl (Nat.le_of_ble_eq_true rfl) rfl ?_
  refine r_aload_n (pc := 8) dX17_commands_8 rfl 0 rfl ?_
  refine r_aload_n (pc := 9) dX17_commands_9 rfl 1 rfl ?_
  refine r_cXR (pc := 10) (rest := [.ref q1]) (RunOK_chk (fun h => run_V (n := 0) (c9 := 34) (As := []) (rest := [.ref q1]) (t_X17_command γ l hl x0 g3) dX17_commands_10 q3023 q3025 qs42 q175 q3026 (by decide +kernel) rfl h ⟨rfl, by decide, by decide⟩ (Nat.le_of_ble_eq_true rfl) (Nat.le_of_ble_eq_true rfl) rfl (Nat.le_of_ble_eq_true rfl))) (fun e6 g7 => ?_) (fun v5 g4 => ?_)
  · skip
    exact x_out (by decide)
  · skip
    refine r_cI (pc := 13) (rest := []) (RunOK_chk (fun h => run_F (n := 1) (c9 := 3) (As := [.ref v5]) (rest := []) (t_J2_add γ l hl q1 v5 g4) dX17_commands_13 q3200 q1383 q1385 q112 q1387 (by decide +kernel) (by decide +kernel) rfl h ⟨by decide, by decide⟩ (Nat.le_of_ble_eq_true rfl) (Nat.le_of_ble_eq_true rfl) rfl (Nat.le_of_ble_eq_true rfl))) (fun v9 g8 => ?_)
    refine r_pop (pc := 18) dX17_commands_18 rfl ?_
    refine AW_sub [1, 0] rfl ?_
    refine f_X17_commands_L19_w γ l hl _ x0 q1 FU g8
