set_option maxRecDepth 100000
abbrev cX5_learn : ByteArray := prog_25_method_62_code
def dkwX5_learn_1 : List UInt8 := [182, 0, 155, 167, 0, 9, 42, 21, 4, 182, 0, 149, 172]
abbrev dktX5_learn_1 : List UInt8 := dkwX5_learn_1 ++ []
def dkwX5_learn_0 : List UInt8 := [42, 182, 0, 146, 42, 27, 28, 29, 182, 0, 202, 54, 4, 21, 4, 154, 0, 14, 42, 42, 180, 0, 53]
abbrev dktX5_learn_0 : List UInt8 := dkwX5_learn_0 ++ dktX5_learn_1
theorem dksX5_learn_0 : cX5_learn.data.toList.drop 0 = dktX5_learn_0 := by decide +kernel
theorem dksX5_learn_1 : cX5_learn.data.toList.drop 23 = dktX5_learn_1 := dk_seg dksX5_learn_0 23 rfl rfl
theorem dX5_learn_0 : decode cX5_learn 0 = .ok (.aload_n 0, 1) := dk_42 (dk_at dksX5_learn_0 0 rfl rfl)
theorem dX5_learn_1 : decode cX5_learn 1 = .ok (.invokevirtual 146, 3) := dk_182 0 146 (dk_at dksX5_learn_0 1 rfl rfl)
theorem dX5_learn_4 : decode cX5_learn 4 = .ok (.aload_n 0, 1) := dk_42 (dk_at dksX5_learn_0 4 rfl rfl)
theorem dX5_learn_5 : decode cX5_learn 5 = .ok (.iload_n 1, 1) := dk_27 (dk_at dksX5_learn_0 5 rfl rfl)
theorem dX5_learn_6 : decode cX5_learn 6 = .ok (.iload_n 2, 1) := dk_28 (dk_at dksX5_learn_0 6 rfl rfl)
theorem dX5_learn_7 : decode cX5_learn 7 = .ok (.iload_n 3, 1) := dk_29 (dk_at dksX5_learn_0 7 rfl rfl)
theorem dX5_learn_8 : decode cX5_learn 8 = .ok (.invokevirtual 202, 3) := dk_182 0 202 (dk_at dksX5_learn_0 8 rfl rfl)
theorem dX5_learn_11 : decode cX5_learn 11 = .ok (.istore 4, 2) := dk_54 4 (dk_at dksX5_learn_0 11 rfl rfl)
theorem dX5_learn_13 : decode cX5_learn 13 = .ok (.iload 4, 2) := dk_21 4 (dk_at dksX5_learn_0 13 rfl rfl)
theorem dX5_learn_15 : decode cX5_learn 15 = .ok (.ifCond .ne 14, 3) := dk_154 0 14 (dk_at dksX5_learn_0 15 rfl rfl)
theorem dX5_learn_18 : decode cX5_learn 18 = .ok (.aload_n 0, 1) := dk_42 (dk_at dksX5_learn_0 18 rfl rfl)
theorem dX5_learn_19 : decode cX5_learn 19 = .ok (.aload_n 0, 1) := dk_42 (dk_at dksX5_learn_0 19 rfl rfl)
theorem dX5_learn_20 : decode cX5_learn 20 = .ok (.getfield 53, 3) := dk_180 0 53 (dk_at dksX5_learn_0 20 rfl rfl)
theorem dX5_learn_23 : decode cX5_learn 23 = .ok (.invokevirtual 155, 3) := dk_182 0 155 (dk_at dksX5_learn_1 0 rfl rfl)
theorem dX5_learn_26 : decode cX5_learn 26 = .ok (.goto 9, 3) := dk_167 0 9 (dk_at dksX5_learn_1 3 rfl rfl)
theorem dX5_learn_29 : decode cX5_learn 29 = .ok (.aload_n 0, 1) := dk_42 (dk_at dksX5_learn_1 6 rfl rfl)
theorem dX5_learn_30 : decode cX5_learn 30 = .ok (.iload 4, 2) := dk_21 4 (dk_at dksX5_learn_1 7 rfl rfl)
theorem dX5_learn_32 : decode cX5_learn 32 = .ok (.invokevirtual 149, 3) := dk_182 0 149 (dk_at dksX5_learn_1 9 rfl rfl)
theorem dX5_learn_35 : decode cX5_learn 35 = .ok (.ireturn, 1) := dk_172 (dk_at dksX5_learn_1 12 rfl rfl)
abbrev cX5_learns : ByteArray := prog_25_method_61_code
def dkwX5_learns_7 : List UInt8 := [42, 29, 27, 182, 0, 81, 182, 0, 177, 172]
abbrev dktX5_learns_7 : List UInt8 := dkwX5_learns_7 ++ []
def dkwX5_learns_6 : List UInt8 := [21, 4, 182, 0, 152, 172, 42, 27, 29, 21, 4, 6, 160, 0, 7, 6, 167, 0, 4, 7, 182, 0, 131, 42]
abbrev dktX5_learns_6 : List UInt8 := dkwX5_learns_6 ++ dktX5_learns_7
def dkwX5_learns_5 : List UInt8 := [16, 11, 28, 182, 0, 152, 172, 42, 29, 28, 182, 0, 81, 54, 4, 21, 4, 5, 162, 0, 12, 42, 16, 12]
abbrev dktX5_learns_5 : List UInt8 := dkwX5_learns_5 ++ dktX5_learns_6
def dkwX5_learns_4 : List UInt8 := [182, 0, 124, 153, 0, 11, 42, 16, 11, 27, 182, 0, 152, 172, 42, 28, 182, 0, 124, 153, 0, 11, 42]
abbrev dktX5_learns_4 : List UInt8 := dkwX5_learns_4 ++ dktX5_learns_5
def dkwX5_learns_3 : List UInt8 := [182, 0, 81, 4, 159, 0, 16, 42, 16, 10, 42, 29, 27, 182, 0, 81, 182, 0, 152, 172, 42, 27]
abbrev dktX5_learns_3 : List UInt8 := dkwX5_learns_3 ++ dktX5_learns_4
def dkwX5_learns_2 : List UInt8 := [182, 0, 152, 172, 42, 29, 28, 182, 0, 77, 154, 0, 11, 42, 16, 9, 28, 182, 0, 152, 172, 42, 29, 27]
abbrev dktX5_learns_2 : List UInt8 := dkwX5_learns_2 ++ dktX5_learns_3
def dkwX5_learns_1 : List UInt8 := [4, 172, 27, 28, 160, 0, 5, 5, 172, 42, 29, 27, 182, 0, 77, 154, 0, 11, 42, 16, 9, 27]
abbrev dktX5_learns_1 : List UInt8 := dkwX5_learns_1 ++ dktX5_learns_2
def dkwX5_learns_0 : List UInt8 := [42, 29, 182, 0, 167, 153, 0, 19, 42, 27, 182, 0, 158, 153, 0, 11, 42, 28, 182, 0, 158, 154, 0, 5]
abbrev dktX5_learns_0 : List UInt8 := dkwX5_learns_0 ++ dktX5_learns_1
theorem dksX5_learns_0 : cX5_learns.data.toList.drop 0 = dktX5_learns_0 := by decide +kernel
theorem dksX5_learns_1 : cX5_learns.data.toList.drop 24 = dktX5_learns_1 := dk_seg dksX5_learns_0 24 rfl rfl
theorem dksX5_learns_2 : cX5_learns.data.toList.drop 46 = dktX5_learns_2 := dk_seg dksX5_learns_1 22 rfl rfl
theorem dksX5_learns_3 : cX5_learns.data.toList.drop 70 = dktX5_learns_3 := dk_seg dksX5_learns_2 24 rfl rfl
theorem dksX5_learns_4 : cX5_learns.data.toList.drop 92 = dktX5_learns_4 := dk_seg dksX5_learns_3 22 rfl rfl
theorem dksX5_learns_5 : cX5_learns.data.toList.drop 115 = dktX5_learns_5 := dk_seg dksX5_learns_4 23 rfl rfl
theorem dksX5_learns_6 : cX5_learns.data.toList.drop 139 = dktX5_learns_6 := dk_seg dksX5_learns_5 24 rfl rfl
theorem dksX5_learns_7 : cX5_learns.data.toList.drop 163 = dktX5_learns_7 := dk_seg dksX5_learns_6 24 rfl rfl
theorem dX5_learns_0 : decode cX5_learns 0 = .ok (.aload_n 0, 1) := dk_42 (dk_at dksX5_learns_0 0 rfl rfl)
theorem dX5_learns_1 : decode cX5_learns 1 = .ok (.iload_n 3, 1) := dk_29 (dk_at dksX5_learns_0 1 rfl rfl)
theorem dX5_learns_2 : decode cX5_learns 2 = .ok (.invokevirtual 167, 3) := dk_182 0 167 (dk_at dksX5_learns_0 2 rfl rfl)
theorem dX5_learns_5 : decode cX5_learns 5 = .ok (.ifCond .eq 19, 3) := dk_153 0 19 (dk_at dksX5_learns_0 5 rfl rfl)
theorem dX5_learns_8 : decode cX5_learns 8 = .ok (.aload_n 0, 1) := dk_42 (dk_at dksX5_learns_0 8 rfl rfl)
theorem dX5_learns_9 : decode cX5_learns 9 = .ok (.iload_n 1, 1) := dk_27 (dk_at dksX5_learns_0 9 rfl rfl)
theorem dX5_learns_10 : decode cX5_learns 10 = .ok (.invokevirtual 158, 3) := dk_182 0 158 (dk_at dksX5_learns_0 10 rfl rfl)
theorem dX5_learns_13 : decode cX5_learns 13 = .ok (.ifCond .eq 11, 3) := dk_153 0 11 (dk_at dksX5_learns_0 13 rfl rfl)
theorem dX5_learns_16 : decode cX5_learns 16 = .ok (.aload_n 0, 1) := dk_42 (dk_at dksX5_learns_0 16 rfl rfl)
theorem dX5_learns_17 : decode cX5_learns 17 = .ok (.iload_n 2, 1) := dk_28 (dk_at dksX5_learns_0 17 rfl rfl)
theorem dX5_learns_18 : decode cX5_learns 18 = .ok (.invokevirtual 158, 3) := dk_182 0 158 (dk_at dksX5_learns_0 18 rfl rfl)
theorem dX5_learns_21 : decode cX5_learns 21 = .ok (.ifCond .ne 5, 3) := dk_154 0 5 (dk_at dksX5_learns_0 21 rfl rfl)
theorem dX5_learns_24 : decode cX5_learns 24 = .ok (.iconst 1, 1) := dk_4 (dk_at dksX5_learns_1 0 rfl rfl)
theorem dX5_learns_25 : decode cX5_learns 25 = .ok (.ireturn, 1) := dk_172 (dk_at dksX5_learns_1 1 rfl rfl)
theorem dX5_learns_26 : decode cX5_learns 26 = .ok (.iload_n 1, 1) := dk_27 (dk_at dksX5_learns_1 2 rfl rfl)
theorem dX5_learns_27 : decode cX5_learns 27 = .ok (.iload_n 2, 1) := dk_28 (dk_at dksX5_learns_1 3 rfl rfl)
theorem dX5_learns_28 : decode cX5_learns 28 = .ok (.if_icmp .ne 5, 3) := dk_160 0 5 (dk_at dksX5_learns_1 4 rfl rfl)
theorem dX5_learns_31 : decode cX5_learns 31 = .ok (.iconst 2, 1) := dk_5 (dk_at dksX5_learns_1 7 rfl rfl)
theorem dX5_learns_32 : decode cX5_learns 32 = .ok (.ireturn, 1) := dk_172 (dk_at dksX5_learns_1 8 rfl rfl)
theorem dX5_learns_33 : decode cX5_learns 33 = .ok (.aload_n 0, 1) := dk_42 (dk_at dksX5_learns_1 9 rfl rfl)
theorem dX5_learns_34 : decode cX5_learns 34 = .ok (.iload_n 3, 1) := dk_29 (dk_at dksX5_learns_1 10 rfl rfl)
theorem dX5_learns_35 : decode cX5_learns 35 = .ok (.iload_n 1, 1) := dk_27 (dk_at dksX5_learns_1 11 rfl rfl)
theorem dX5_learns_36 : decode cX5_learns 36 = .ok (.invokevirtual 77, 3) := dk_182 0 77 (dk_at dksX5_learns_1 12 rfl rfl)
theorem dX5_learns_39 : decode cX5_learns 39 = .ok (.ifCond .ne 11, 3) := dk_154 0 11 (dk_at dksX5_learns_1 15 rfl rfl)
theorem dX5_learns_42 : decode cX5_learns 42 = .ok (.aload_n 0, 1) := dk_42 (dk_at dksX5_learns_1 18 rfl rfl)
theorem dX5_learns_43 : decode cX5_learns 43 = .ok (.bipush 9, 2) := dk_16 9 (dk_at dksX5_learns_1 19 rfl rfl)
theorem dX5_learns_45 : decode cX5_learns 45 = .ok (.iload_n 1, 1) := dk_27 (dk_at dksX5_learns_1 21 rfl rfl)
theorem dX5_learns_46 : decode cX5_learns 46 = .ok (.invokevirtual 152, 3) := dk_182 0 152 (dk_at dksX5_learns_2 0 rfl rfl)
theorem dX5_learns_49 : decode cX5_learns 49 = .ok (.ireturn, 1) := dk_172 (dk_at dksX5_learns_2 3 rfl rfl)
theorem dX5_learns_50 : decode cX5_learns 50 = .ok (.aload_n 0, 1) := dk_42 (dk_at dksX5_learns_2 4 rfl rfl)
theorem dX5_learns_51 : decode cX5_learns 51 = .ok (.iload_n 3, 1) := dk_29 (dk_at dksX5_learns_2 5 rfl rfl)
theorem dX5_learns_52 : decode cX5_learns 52 = .ok (.iload_n 2, 1) := dk_28 (dk_at dksX5_learns_2 6 rfl rfl)
theorem dX5_learns_53 : decode cX5_learns 53 = .ok (.invokevirtual 77, 3) := dk_182 0 77 (dk_at dksX5_learns_2 7 rfl rfl)
theorem dX5_learns_56 : decode cX5_learns 56 = .ok (.ifCond .ne 11, 3) := dk_154 0 11 (dk_at dksX5_learns_2 10 rfl rfl)
theorem dX5_learns_59 : decode cX5_learns 59 = .ok (.aload_n 0, 1) := dk_42 (dk_at dksX5_learns_2 13 rfl rfl)
theorem dX5_learns_60 : decode cX5_learns 60 = .ok (.bipush 9, 2) := dk_16 9 (dk_at dksX5_learns_2 14 rfl rfl)
theorem dX5_learns_62 : decode cX5_learns 62 = .ok (.iload_n 2, 1) := dk_28 (dk_at dksX5_learns_2 16 rfl rfl)
theorem dX5_learns_63 : decode cX5_learns 63 = .ok (.invokevirtual 152, 3) := dk_182 0 152 (dk_at dksX5_learns_2 17 rfl rfl)
theorem dX5_learns_66 : decode cX5_learns 66 = .ok (.ireturn, 1) := dk_172 (dk_at dksX5_learns_2 20 rfl rfl)
theorem dX5_learns_67 : decode cX5_learns 67 = .ok (.aload_n 0, 1) := dk_42 (dk_at dksX5_learns_2 21 rfl rfl)
theorem dX5_learns_68 : decode cX5_learns 68 = .ok (.iload_n 3, 1) := dk_29 (dk_at dksX5_learns_2 22 rfl rfl)
theorem dX5_learns_69 : decode cX5_learns 69 = .ok (.iload_n 1, 1) := dk_27 (dk_at dksX5_learns_2 23 rfl rfl)
theorem dX5_learns_70 : decode cX5_learns 70 = .ok (.invokevirtual 81, 3) := dk_182 0 81 (dk_at dksX5_learns_3 0 rfl rfl)
theorem dX5_learns_73 : decode cX5_learns 73 = .ok (.iconst 1, 1) := dk_4 (dk_at dksX5_learns_3 3 rfl rfl)
theorem dX5_learns_74 : decode cX5_learns 74 = .ok (.if_icmp .eq 16, 3) := dk_159 0 16 (dk_at dksX5_learns_3 4 rfl rfl)
theorem dX5_learns_77 : decode cX5_learns 77 = .ok (.aload_n 0, 1) := dk_42 (dk_at dksX5_learns_3 7 rfl rfl)
theorem dX5_learns_78 : decode cX5_learns 78 = .ok (.bipush 10, 2) := dk_16 10 (dk_at dksX5_learns_3 8 rfl rfl)
theorem dX5_learns_80 : decode cX5_learns 80 = .ok (.aload_n 0, 1) := dk_42 (dk_at dksX5_learns_3 10 rfl rfl)
theorem dX5_learns_81 : decode cX5_learns 81 = .ok (.iload_n 3, 1) := dk_29 (dk_at dksX5_learns_3 11 rfl rfl)
theorem dX5_learns_82 : decode cX5_learns 82 = .ok (.iload_n 1, 1) := dk_27 (dk_at dksX5_learns_3 12 rfl rfl)
theorem dX5_learns_83 : decode cX5_learns 83 = .ok (.invokevirtual 81, 3) := dk_182 0 81 (dk_at dksX5_learns_3 13 rfl rfl)
theorem dX5_learns_86 : decode cX5_learns 86 = .ok (.invokevirtual 152, 3) := dk_182 0 152 (dk_at dksX5_learns_3 16 rfl rfl)
theorem dX5_learns_89 : decode cX5_learns 89 = .ok (.ireturn, 1) := dk_172 (dk_at dksX5_learns_3 19 rfl rfl)
theorem dX5_learns_90 : decode cX5_learns 90 = .ok (.aload_n 0, 1) := dk_42 (dk_at dksX5_learns_3 20 rfl rfl)
theorem dX5_learns_91 : decode cX5_learns 91 = .ok (.iload_n 1, 1) := dk_27 (dk_at dksX5_learns_3 21 rfl rfl)
theorem dX5_learns_92 : decode cX5_learns 92 = .ok (.invokevirtual 124, 3) := dk_182 0 124 (dk_at dksX5_learns_4 0 rfl rfl)
theorem dX5_learns_95 : decode cX5_learns 95 = .ok (.ifCond .eq 11, 3) := dk_153 0 11 (dk_at dksX5_learns_4 3 rfl rfl)
theorem dX5_learns_98 : decode cX5_learns 98 = .ok (.aload_n 0, 1) := dk_42 (dk_at dksX5_learns_4 6 rfl rfl)
theorem dX5_learns_99 : decode cX5_learns 99 = .ok (.bipush 11, 2) := dk_16 11 (dk_at dksX5_learns_4 7 rfl rfl)
theorem dX5_learns_101 : decode cX5_learns 101 = .ok (.iload_n 1, 1) := dk_27 (dk_at dksX5_learns_4 9 rfl rfl)
theorem dX5_learns_102 : decode cX5_learns 102 = .ok (.invokevirtual 152, 3) := dk_182 0 152 (dk_at dksX5_learns_4 10 rfl rfl)
theorem dX5_learns_105 : decode cX5_learns 105 = .ok (.ireturn, 1) := dk_172 (dk_at dksX5_learns_4 13 rfl rfl)
theorem dX5_learns_106 : decode cX5_learns 106 = .ok (.aload_n 0, 1) := dk_42 (dk_at dksX5_learns_4 14 rfl rfl)
theorem dX5_learns_107 : decode cX5_learns 107 = .ok (.iload_n 2, 1) := dk_28 (dk_at dksX5_learns_4 15 rfl rfl)
theorem dX5_learns_108 : decode cX5_learns 108 = .ok (.invokevirtual 124, 3) := dk_182 0 124 (dk_at dksX5_learns_4 16 rfl rfl)
theorem dX5_learns_111 : decode cX5_learns 111 = .ok (.ifCond .eq 11, 3) := dk_153 0 11 (dk_at dksX5_learns_4 19 rfl rfl)
theorem dX5_learns_114 : decode cX5_learns 114 = .ok (.aload_n 0, 1) := dk_42 (dk_at dksX5_learns_4 22 rfl rfl)
theorem dX5_learns_115 : decode cX5_learns 115 = .ok (.bipush 11, 2) := dk_16 11 (dk_at dksX5_learns_5 0 rfl rfl)
theorem dX5_learns_117 : decode cX5_learns 117 = .ok (.iload_n 2, 1) := dk_28 (dk_at dksX5_learns_5 2 rfl rfl)
theorem dX5_learns_118 : decode cX5_learns 118 = .ok (.invokevirtual 152, 3) := dk_182 0 152 (dk_at dksX5_learns_5 3 rfl rfl)
theorem dX5_learns_121 : decode cX5_learns 121 = .ok (.ireturn, 1) := dk_172 (dk_at dksX5_learns_5 6 rfl rfl)
theorem dX5_learns_122 : decode cX5_learns 122 = .ok (.aload_n 0, 1) := dk_42 (dk_at dksX5_learns_5 7 rfl rfl)
theorem dX5_learns_123 : decode cX5_learns 123 = .ok (.iload_n 3, 1) := dk_29 (dk_at dksX5_learns_5 8 rfl rfl)
theorem dX5_learns_124 : decode cX5_learns 124 = .ok (.iload_n 2, 1) := dk_28 (dk_at dksX5_learns_5 9 rfl rfl)
theorem dX5_learns_125 : decode cX5_learns 125 = .ok (.invokevirtual 81, 3) := dk_182 0 81 (dk_at dksX5_learns_5 10 rfl rfl)
theorem dX5_learns_128 : decode cX5_learns 128 = .ok (.istore 4, 2) := dk_54 4 (dk_at dksX5_learns_5 13 rfl rfl)
theorem dX5_learns_130 : decode cX5_learns 130 = .ok (.iload 4, 2) := dk_21 4 (dk_at dksX5_learns_5 15 rfl rfl)
theorem dX5_learns_132 : decode cX5_learns 132 = .ok (.iconst 2, 1) := dk_5 (dk_at dksX5_learns_5 17 rfl rfl)
theorem dX5_learns_133 : decode cX5_learns 133 = .ok (.if_icmp .ge 12, 3) := dk_162 0 12 (dk_at dksX5_learns_5 18 rfl rfl)
theorem dX5_learns_136 : decode cX5_learns 136 = .ok (.aload_n 0, 1) := dk_42 (dk_at dksX5_learns_5 21 rfl rfl)
theorem dX5_learns_137 : decode cX5_learns 137 = .ok (.bipush 12, 2) := dk_16 12 (dk_at dksX5_learns_5 22 rfl rfl)
theorem dX5_learns_139 : decode cX5_learns 139 = .ok (.iload 4, 2) := dk_21 4 (dk_at dksX5_learns_6 0 rfl rfl)
theorem dX5_learns_141 : decode cX5_learns 141 = .ok (.invokevirtual 152, 3) := dk_182 0 152 (dk_at dksX5_learns_6 2 rfl rfl)
theorem dX5_learns_144 : decode cX5_learns 144 = .ok (.ireturn, 1) := dk_172 (dk_at dksX5_learns_6 5 rfl rfl)
theorem dX5_learns_145 : decode cX5_learns 145 = .ok (.aload_n 0, 1) := dk_42 (dk_at dksX5_learns_6 6 rfl rfl)
theorem dX5_learns_146 : decode cX5_learns 146 = .ok (.iload_n 1, 1) := dk_27 (dk_at dksX5_learns_6 7 rfl rfl)
theorem dX5_learns_147 : decode cX5_learns 147 = .ok (.iload_n 3, 1) := dk_29 (dk_at dksX5_learns_6 8 rfl rfl)
theorem dX5_learns_148 : decode cX5_learns 148 = .ok (.iload 4, 2) := dk_21 4 (dk_at dksX5_learns_6 9 rfl rfl)
theorem dX5_learns_150 : decode cX5_learns 150 = .ok (.iconst 3, 1) := dk_6 (dk_at dksX5_learns_6 11 rfl rfl)
theorem dX5_learns_151 : decode cX5_learns 151 = .ok (.if_icmp .ne 7, 3) := dk_160 0 7 (dk_at dksX5_learns_6 12 rfl rfl)
theorem dX5_learns_154 : decode cX5_learns 154 = .ok (.iconst 3, 1) := dk_6 (dk_at dksX5_learns_6 15 rfl rfl)
theorem dX5_learns_155 : decode cX5_learns 155 = .ok (.goto 4, 3) := dk_167 0 4 (dk_at dksX5_learns_6 16 rfl rfl)
theorem dX5_learns_158 : decode cX5_learns 158 = .ok (.iconst 4, 1) := dk_7 (dk_at dksX5_learns_6 19 rfl rfl)
theorem dX5_learns_159 : decode cX5_learns 159 = .ok (.invokevirtual 131, 3) := dk_182 0 131 (dk_at dksX5_learns_6 20 rfl rfl)
theorem dX5_learns_162 : decode cX5_learns 162 = .ok (.aload_n 0, 1) := dk_42 (dk_at dksX5_learns_6 23 rfl rfl)
theorem dX5_learns_163 : decode cX5_learns 163 = .ok (.aload_n 0, 1) := dk_42 (dk_at dksX5_learns_7 0 rfl rfl)
theorem dX5_learns_164 : decode cX5_learns 164 = .ok (.iload_n 3, 1) := dk_29 (dk_at dksX5_learns_7 1 rfl rfl)
theorem dX5_learns_165 : decode cX5_learns 165 = .ok (.iload_n 1, 1) := dk_27 (dk_at dksX5_learns_7 2 rfl rfl)
theorem dX5_learns_166 : decode cX5_learns 166 = .ok (.invokevirtual 81, 3) := dk_182 0 81 (dk_at dksX5_learns_7 3 rfl rfl)
theorem dX5_learns_169 : decode cX5_learns 169 = .ok (.invokevirtual 177, 3) := dk_182 0 177 (dk_at dksX5_learns_7 6 rfl rfl)
theorem dX5_learns_172 : decode cX5_learns 172 = .ok (.ireturn, 1) := dk_172 (dk_at dksX5_learns_7 9 rfl rfl)
abbrev cX5_hears : ByteArray := prog_25_method_36_code
def dkwX5_hears_4 : List UInt8 := [21, 4, 5, 162, 0, 10, 42, 28, 27, 7, 182, 0, 118, 177]
abbrev dktX5_hears_4 : List UInt8 := dkwX5_hears_4 ++ []
def dkwX5_hears_3 : List UInt8 := [21, 5, 96, 182, 0, 66, 21, 6, 96, 182, 0, 115, 42, 28, 27, 6, 182, 0, 118, 29, 7, 160, 0, 16]
abbrev dktX5_hears_3 : List UInt8 := dkwX5_hears_3 ++ dktX5_hears_4
def dkwX5_hears_2 : List UInt8 := [6, 21, 5, 96, 182, 0, 66, 21, 6, 100, 182, 0, 115, 42, 27, 16, 11, 21, 5, 96, 42, 27, 16, 11]
abbrev dktX5_hears_2 : List UInt8 := dkwX5_hears_2 ++ dktX5_hears_3
def dkwX5_hears_1 : List UInt8 := [182, 0, 73, 4, 100, 54, 5, 42, 28, 27, 4, 182, 0, 73, 54, 6, 42, 27, 6, 21, 5, 96, 42, 27]
abbrev dktX5_hears_1 : List UInt8 := dkwX5_hears_1 ++ dktX5_hears_2
def dkwX5_hears_0 : List UInt8 := [42, 28, 27, 182, 0, 81, 54, 4, 29, 6, 160, 0, 80, 21, 4, 4, 160, 0, 74, 42, 28, 27, 3]
abbrev dktX5_hears_0 : List UInt8 := dkwX5_hears_0 ++ dktX5_hears_1
theorem dksX5_hears_0 : cX5_hears.data.toList.drop 0 = dktX5_hears_0 := by decide +kernel
theorem dksX5_hears_1 : cX5_hears.data.toList.drop 23 = dktX5_hears_1 := dk_seg dksX5_hears_0 23 rfl rfl
theorem dksX5_hears_2 : cX5_hears.data.toList.drop 47 = dktX5_hears_2 := dk_seg dksX5_hears_1 24 rfl rfl
theorem dksX5_hears_3 : cX5_hears.data.toList.drop 71 = dktX5_hears_3 := dk_seg dksX5_hears_2 24 rfl rfl
theorem dksX5_hears_4 : cX5_hears.data.toList.drop 95 = dktX5_hears_4 := dk_seg dksX5_hears_3 24 rfl rfl
theorem dX5_hears_0 : decode cX5_hears 0 = .ok (.aload_n 0, 1) := dk_42 (dk_at dksX5_hears_0 0 rfl rfl)
theorem dX5_hears_1 : decode cX5_hears 1 = .ok (.iload_n 2, 1) := dk_28 (dk_at dksX5_hears_0 1 rfl rfl)
theorem dX5_hears_2 : decode cX5_hears 2 = .ok (.iload_n 1, 1) := dk_27 (dk_at dksX5_hears_0 2 rfl rfl)
theorem dX5_hears_3 : decode cX5_hears 3 = .ok (.invokevirtual 81, 3) := dk_182 0 81 (dk_at dksX5_hears_0 3 rfl rfl)
theorem dX5_hears_6 : decode cX5_hears 6 = .ok (.istore 4, 2) := dk_54 4 (dk_at dksX5_hears_0 6 rfl rfl)
theorem dX5_hears_8 : decode cX5_hears 8 = .ok (.iload_n 3, 1) := dk_29 (dk_at dksX5_hears_0 8 rfl rfl)
theorem dX5_hears_9 : decode cX5_hears 9 = .ok (.iconst 3, 1) := dk_6 (dk_at dksX5_hears_0 9 rfl rfl)
theorem dX5_hears_10 : decode cX5_hears 10 = .ok (.if_icmp .ne 80, 3) := dk_160 0 80 (dk_at dksX5_hears_0 10 rfl rfl)
theorem dX5_hears_13 : decode cX5_hears 13 = .ok (.iload 4, 2) := dk_21 4 (dk_at dksX5_hears_0 13 rfl rfl)
theorem dX5_hears_15 : decode cX5_hears 15 = .ok (.iconst 1, 1) := dk_4 (dk_at dksX5_hears_0 15 rfl rfl)
theorem dX5_hears_16 : decode cX5_hears 16 = .ok (.if_icmp .ne 74, 3) := dk_160 0 74 (dk_at dksX5_hears_0 16 rfl rfl)
theorem dX5_hears_19 : decode cX5_hears 19 = .ok (.aload_n 0, 1) := dk_42 (dk_at dksX5_hears_0 19 rfl rfl)
theorem dX5_hears_20 : decode cX5_hears 20 = .ok (.iload_n 2, 1) := dk_28 (dk_at dksX5_hears_0 20 rfl rfl)
theorem dX5_hears_21 : decode cX5_hears 21 = .ok (.iload_n 1, 1) := dk_27 (dk_at dksX5_hears_0 21 rfl rfl)
theorem dX5_hears_22 : decode cX5_hears 22 = .ok (.iconst 0, 1) := dk_3 (dk_at dksX5_hears_0 22 rfl rfl)
theorem dX5_hears_23 : decode cX5_hears 23 = .ok (.invokevirtual 73, 3) := dk_182 0 73 (dk_at dksX5_hears_1 0 rfl rfl)
theorem dX5_hears_26 : decode cX5_hears 26 = .ok (.iconst 1, 1) := dk_4 (dk_at dksX5_hears_1 3 rfl rfl)
theorem dX5_hears_27 : decode cX5_hears 27 = .ok (.isub, 1) := dk_100 (dk_at dksX5_hears_1 4 rfl rfl)
theorem dX5_hears_28 : decode cX5_hears 28 = .ok (.istore 5, 2) := dk_54 5 (dk_at dksX5_hears_1 5 rfl rfl)
theorem dX5_hears_30 : decode cX5_hears 30 = .ok (.aload_n 0, 1) := dk_42 (dk_at dksX5_hears_1 7 rfl rfl)
theorem dX5_hears_31 : decode cX5_hears 31 = .ok (.iload_n 2, 1) := dk_28 (dk_at dksX5_hears_1 8 rfl rfl)
theorem dX5_hears_32 : decode cX5_hears 32 = .ok (.iload_n 1, 1) := dk_27 (dk_at dksX5_hears_1 9 rfl rfl)
theorem dX5_hears_33 : decode cX5_hears 33 = .ok (.iconst 1, 1) := dk_4 (dk_at dksX5_hears_1 10 rfl rfl)
theorem dX5_hears_34 : decode cX5_hears 34 = .ok (.invokevirtual 73, 3) := dk_182 0 73 (dk_at dksX5_hears_1 11 rfl rfl)
theorem dX5_hears_37 : decode cX5_hears 37 = .ok (.istore 6, 2) := dk_54 6 (dk_at dksX5_hears_1 14 rfl rfl)
theorem dX5_hears_39 : decode cX5_hears 39 = .ok (.aload_n 0, 1) := dk_42 (dk_at dksX5_hears_1 16 rfl rfl)
theorem dX5_hears_40 : decode cX5_hears 40 = .ok (.iload_n 1, 1) := dk_27 (dk_at dksX5_hears_1 17 rfl rfl)
theorem dX5_hears_41 : decode cX5_hears 41 = .ok (.iconst 3, 1) := dk_6 (dk_at dksX5_hears_1 18 rfl rfl)
theorem dX5_hears_42 : decode cX5_hears 42 = .ok (.iload 5, 2) := dk_21 5 (dk_at dksX5_hears_1 19 rfl rfl)
theorem dX5_hears_44 : decode cX5_hears 44 = .ok (.iadd, 1) := dk_96 (dk_at dksX5_hears_1 21 rfl rfl)
theorem dX5_hears_45 : decode cX5_hears 45 = .ok (.aload_n 0, 1) := dk_42 (dk_at dksX5_hears_1 22 rfl rfl)
theorem dX5_hears_46 : decode cX5_hears 46 = .ok (.iload_n 1, 1) := dk_27 (dk_at dksX5_hears_1 23 rfl rfl)
theorem dX5_hears_47 : decode cX5_hears 47 = .ok (.iconst 3, 1) := dk_6 (dk_at dksX5_hears_2 0 rfl rfl)
theorem dX5_hears_48 : decode cX5_hears 48 = .ok (.iload 5, 2) := dk_21 5 (dk_at dksX5_hears_2 1 rfl rfl)
theorem dX5_hears_50 : decode cX5_hears 50 = .ok (.iadd, 1) := dk_96 (dk_at dksX5_hears_2 3 rfl rfl)
theorem dX5_hears_51 : decode cX5_hears 51 = .ok (.invokevirtual 66, 3) := dk_182 0 66 (dk_at dksX5_hears_2 4 rfl rfl)
theorem dX5_hears_54 : decode cX5_hears 54 = .ok (.iload 6, 2) := dk_21 6 (dk_at dksX5_hears_2 7 rfl rfl)
theorem dX5_hears_56 : decode cX5_hears 56 = .ok (.isub, 1) := dk_100 (dk_at dksX5_hears_2 9 rfl rfl)
theorem dX5_hears_57 : decode cX5_hears 57 = .ok (.invokevirtual 115, 3) := dk_182 0 115 (dk_at dksX5_hears_2 10 rfl rfl)
theorem dX5_hears_60 : decode cX5_hears 60 = .ok (.aload_n 0, 1) := dk_42 (dk_at dksX5_hears_2 13 rfl rfl)
theorem dX5_hears_61 : decode cX5_hears 61 = .ok (.iload_n 1, 1) := dk_27 (dk_at dksX5_hears_2 14 rfl rfl)
theorem dX5_hears_62 : decode cX5_hears 62 = .ok (.bipush 11, 2) := dk_16 11 (dk_at dksX5_hears_2 15 rfl rfl)
theorem dX5_hears_64 : decode cX5_hears 64 = .ok (.iload 5, 2) := dk_21 5 (dk_at dksX5_hears_2 17 rfl rfl)
theorem dX5_hears_66 : decode cX5_hears 66 = .ok (.iadd, 1) := dk_96 (dk_at dksX5_hears_2 19 rfl rfl)
theorem dX5_hears_67 : decode cX5_hears 67 = .ok (.aload_n 0, 1) := dk_42 (dk_at dksX5_hears_2 20 rfl rfl)
theorem dX5_hears_68 : decode cX5_hears 68 = .ok (.iload_n 1, 1) := dk_27 (dk_at dksX5_hears_2 21 rfl rfl)
theorem dX5_hears_69 : decode cX5_hears 69 = .ok (.bipush 11, 2) := dk_16 11 (dk_at dksX5_hears_2 22 rfl rfl)
theorem dX5_hears_71 : decode cX5_hears 71 = .ok (.iload 5, 2) := dk_21 5 (dk_at dksX5_hears_3 0 rfl rfl)
theorem dX5_hears_73 : decode cX5_hears 73 = .ok (.iadd, 1) := dk_96 (dk_at dksX5_hears_3 2 rfl rfl)
theorem dX5_hears_74 : decode cX5_hears 74 = .ok (.invokevirtual 66, 3) := dk_182 0 66 (dk_at dksX5_hears_3 3 rfl rfl)
theorem dX5_hears_77 : decode cX5_hears 77 = .ok (.iload 6, 2) := dk_21 6 (dk_at dksX5_hears_3 6 rfl rfl)
theorem dX5_hears_79 : decode cX5_hears 79 = .ok (.iadd, 1) := dk_96 (dk_at dksX5_hears_3 8 rfl rfl)
theorem dX5_hears_80 : decode cX5_hears 80 = .ok (.invokevirtual 115, 3) := dk_182 0 115 (dk_at dksX5_hears_3 9 rfl rfl)
theorem dX5_hears_83 : decode cX5_hears 83 = .ok (.aload_n 0, 1) := dk_42 (dk_at dksX5_hears_3 12 rfl rfl)
theorem dX5_hears_84 : decode cX5_hears 84 = .ok (.iload_n 2, 1) := dk_28 (dk_at dksX5_hears_3 13 rfl rfl)
theorem dX5_hears_85 : decode cX5_hears 85 = .ok (.iload_n 1, 1) := dk_27 (dk_at dksX5_hears_3 14 rfl rfl)
theorem dX5_hears_86 : decode cX5_hears 86 = .ok (.iconst 3, 1) := dk_6 (dk_at dksX5_hears_3 15 rfl rfl)
theorem dX5_hears_87 : decode cX5_hears 87 = .ok (.invokevirtual 118, 3) := dk_182 0 118 (dk_at dksX5_hears_3 16 rfl rfl)
theorem dX5_hears_90 : decode cX5_hears 90 = .ok (.iload_n 3, 1) := dk_29 (dk_at dksX5_hears_3 19 rfl rfl)
theorem dX5_hears_91 : decode cX5_hears 91 = .ok (.iconst 4, 1) := dk_7 (dk_at dksX5_hears_3 20 rfl rfl)
theorem dX5_hears_92 : decode cX5_hears 92 = .ok (.if_icmp .ne 16, 3) := dk_160 0 16 (dk_at dksX5_hears_3 21 rfl rfl)
theorem dX5_hears_95 : decode cX5_hears 95 = .ok (.iload 4, 2) := dk_21 4 (dk_at dksX5_hears_4 0 rfl rfl)
theorem dX5_hears_97 : decode cX5_hears 97 = .ok (.iconst 2, 1) := dk_5 (dk_at dksX5_hears_4 2 rfl rfl)
theorem dX5_hears_98 : decode cX5_hears 98 = .ok (.if_icmp .ge 10, 3) := dk_162 0 10 (dk_at dksX5_hears_4 3 rfl rfl)
theorem dX5_hears_101 : decode cX5_hears 101 = .ok (.aload_n 0, 1) := dk_42 (dk_at dksX5_hears_4 6 rfl rfl)
theorem dX5_hears_102 : decode cX5_hears 102 = .ok (.iload_n 2, 1) := dk_28 (dk_at dksX5_hears_4 7 rfl rfl)
theorem dX5_hears_103 : decode cX5_hears 103 = .ok (.iload_n 1, 1) := dk_27 (dk_at dksX5_hears_4 8 rfl rfl)
theorem dX5_hears_104 : decode cX5_hears 104 = .ok (.iconst 4, 1) := dk_7 (dk_at dksX5_hears_4 9 rfl rfl)
theorem dX5_hears_105 : decode cX5_hears 105 = .ok (.invokevirtual 118, 3) := dk_182 0 118 (dk_at dksX5_hears_4 10 rfl rfl)
theorem dX5_hears_108 : decode cX5_hears 108 = .ok (.return_, 1) := dk_177 (dk_at dksX5_hears_4 13 rfl rfl)
abbrev cX5_pass : ByteArray := prog_25_method_64_code
def dkwX5_pass_1 : List UInt8 := [4, 182, 0, 149, 172]
abbrev dktX5_pass_1 : List UInt8 := dkwX5_pass_1 ++ []
def dkwX5_pass_0 : List UInt8 := [42, 182, 0, 146, 42, 27, 182, 0, 208, 154, 0, 14, 42, 42, 180, 0, 53, 182, 0, 155, 167, 0, 8, 42]
abbrev dktX5_pass_0 : List UInt8 := dkwX5_pass_0 ++ dktX5_pass_1
theorem dksX5_pass_0 : cX5_pass.data.toList.drop 0 = dktX5_pass_0 := by decide +kernel
theorem dksX5_pass_1 : cX5_pass.data.toList.drop 24 = dktX5_pass_1 := dk_seg dksX5_pass_0 24 rfl rfl
theorem dX5_pass_0 : decode cX5_pass 0 = .ok (.aload_n 0, 1) := dk_42 (dk_at dksX5_pass_0 0 rfl rfl)
theorem dX5_pass_1 : decode cX5_pass 1 = .ok (.invokevirtual 146, 3) := dk_182 0 146 (dk_at dksX5_pass_0 1 rfl rfl)
theorem dX5_pass_4 : decode cX5_pass 4 = .ok (.aload_n 0, 1) := dk_42 (dk_at dksX5_pass_0 4 rfl rfl)
theorem dX5_pass_5 : decode cX5_pass 5 = .ok (.iload_n 1, 1) := dk_27 (dk_at dksX5_pass_0 5 rfl rfl)
theorem dX5_pass_6 : decode cX5_pass 6 = .ok (.invokevirtual 208, 3) := dk_182 0 208 (dk_at dksX5_pass_0 6 rfl rfl)
theorem dX5_pass_9 : decode cX5_pass 9 = .ok (.ifCond .ne 14, 3) := dk_154 0 14 (dk_at dksX5_pass_0 9 rfl rfl)
theorem dX5_pass_12 : decode cX5_pass 12 = .ok (.aload_n 0, 1) := dk_42 (dk_at dksX5_pass_0 12 rfl rfl)
theorem dX5_pass_13 : decode cX5_pass 13 = .ok (.aload_n 0, 1) := dk_42 (dk_at dksX5_pass_0 13 rfl rfl)
theorem dX5_pass_14 : decode cX5_pass 14 = .ok (.getfield 53, 3) := dk_180 0 53 (dk_at dksX5_pass_0 14 rfl rfl)
theorem dX5_pass_17 : decode cX5_pass 17 = .ok (.invokevirtual 155, 3) := dk_182 0 155 (dk_at dksX5_pass_0 17 rfl rfl)
theorem dX5_pass_20 : decode cX5_pass 20 = .ok (.goto 8, 3) := dk_167 0 8 (dk_at dksX5_pass_0 20 rfl rfl)
theorem dX5_pass_23 : decode cX5_pass 23 = .ok (.aload_n 0, 1) := dk_42 (dk_at dksX5_pass_0 23 rfl rfl)
theorem dX5_pass_24 : decode cX5_pass 24 = .ok (.iconst 1, 1) := dk_4 (dk_at dksX5_pass_1 0 rfl rfl)
theorem dX5_pass_25 : decode cX5_pass 25 = .ok (.invokevirtual 149, 3) := dk_182 0 149 (dk_at dksX5_pass_1 1 rfl rfl)
theorem dX5_pass_28 : decode cX5_pass 28 = .ok (.ireturn, 1) := dk_172 (dk_at dksX5_pass_1 4 rfl rfl)
abbrev cX5_passes : ByteArray := prog_25_method_63_code
def dkwX5_passes_1 : List UInt8 := [42, 182, 0, 205, 132, 2, 1, 167, 255, 244, 42, 42, 180, 0, 101, 182, 0, 177, 172]
abbrev dktX5_passes_1 : List UInt8 := dkwX5_passes_1 ++ []
def dkwX5_passes_0 : List UInt8 := [27, 4, 16, 60, 184, 0, 62, 154, 0, 5, 5, 172, 42, 3, 181, 0, 101, 3, 61, 28, 27, 162, 0, 13]
abbrev dktX5_passes_0 : List UInt8 := dkwX5_passes_0 ++ dktX5_passes_1
theorem dksX5_passes_0 : cX5_passes.data.toList.drop 0 = dktX5_passes_0 := by decide +kernel
theorem dksX5_passes_1 : cX5_passes.data.toList.drop 24 = dktX5_passes_1 := dk_seg dksX5_passes_0 24 rfl rfl
theorem dX5_passes_0 : decode cX5_passes 0 = .ok (.iload_n 1, 1) := dk_27 (dk_at dksX5_passes_0 0 rfl rfl)
theorem dX5_passes_1 : decode cX5_passes 1 = .ok (.iconst 1, 1) := dk_4 (dk_at dksX5_passes_0 1 rfl rfl)
theorem dX5_passes_2 : decode cX5_passes 2 = .ok (.bipush 60, 2) := dk_16 60 (dk_at dksX5_passes_0 2 rfl rfl)
theorem dX5_passes_4 : decode cX5_passes 4 = .ok (.invokestatic 62, 3) := dk_184 0 62 (dk_at dksX5_passes_0 4 rfl rfl)
theorem dX5_passes_7 : decode cX5_passes 7 = .ok (.ifCond .ne 5, 3) := dk_154 0 5 (dk_at dksX5_passes_0 7 rfl rfl)
theorem dX5_passes_10 : decode cX5_passes 10 = .ok (.iconst 2, 1) := dk_5 (dk_at dksX5_passes_0 10 rfl rfl)
theorem dX5_passes_11 : decode cX5_passes 11 = .ok (.ireturn, 1) := dk_172 (dk_at dksX5_passes_0 11 rfl rfl)
theorem dX5_passes_12 : decode cX5_passes 12 = .ok (.aload_n 0, 1) := dk_42 (dk_at dksX5_passes_0 12 rfl rfl)
theorem dX5_passes_13 : decode cX5_passes 13 = .ok (.iconst 0, 1) := dk_3 (dk_at dksX5_passes_0 13 rfl rfl)
theorem dX5_passes_14 : decode cX5_passes 14 = .ok (.putfield 101, 3) := dk_181 0 101 (dk_at dksX5_passes_0 14 rfl rfl)
theorem dX5_passes_17 : decode cX5_passes 17 = .ok (.iconst 0, 1) := dk_3 (dk_at dksX5_passes_0 17 rfl rfl)
theorem dX5_passes_18 : decode cX5_passes 18 = .ok (.istore_n 2, 1) := dk_61 (dk_at dksX5_passes_0 18 rfl rfl)
theorem dX5_passes_19 : decode cX5_passes 19 = .ok (.iload_n 2, 1) := dk_28 (dk_at dksX5_passes_0 19 rfl rfl)
theorem dX5_passes_20 : decode cX5_passes 20 = .ok (.iload_n 1, 1) := dk_27 (dk_at dksX5_passes_0 20 rfl rfl)
theorem dX5_passes_21 : decode cX5_passes 21 = .ok (.if_icmp .ge 13, 3) := dk_162 0 13 (dk_at dksX5_passes_0 21 rfl rfl)
theorem dX5_passes_24 : decode cX5_passes 24 = .ok (.aload_n 0, 1) := dk_42 (dk_at dksX5_passes_1 0 rfl rfl)
theorem dX5_passes_25 : decode cX5_passes 25 = .ok (.invokevirtual 205, 3) := dk_182 0 205 (dk_at dksX5_passes_1 1 rfl rfl)
theorem dX5_passes_28 : decode cX5_passes 28 = .ok (.iinc 2 1, 3) := dk_132 2 1 (dk_at dksX5_passes_1 4 rfl rfl)
theorem dX5_passes_31 : decode cX5_passes 31 = .ok (.goto (-12), 3) := dk_167 255 244 (dk_at dksX5_passes_1 7 rfl rfl)
theorem dX5_passes_34 : decode cX5_passes 34 = .ok (.aload_n 0, 1) := dk_42 (dk_at dksX5_passes_1 10 rfl rfl)
theorem dX5_passes_35 : decode cX5_passes 35 = .ok (.aload_n 0, 1) := dk_42 (dk_at dksX5_passes_1 11 rfl rfl)
theorem dX5_passes_36 : decode cX5_passes 36 = .ok (.getfield 101, 3) := dk_180 0 101 (dk_at dksX5_passes_1 12 rfl rfl)
theorem dX5_passes_39 : decode cX5_passes 39 = .ok (.invokevirtual 177, 3) := dk_182 0 177 (dk_at dksX5_passes_1 15 rfl rfl)
theorem dX5_passes_42 : decode cX5_passes 42 = .ok (.ireturn, 1) := dk_172 (dk_at dksX5_passes_1 18 rfl rfl)
abbrev cX5_minuteGoes : ByteArray := prog_25_method_39_code
def dkwX5_minuteGoes_11 : List UInt8 := [29, 182, 0, 91, 132, 3, 1, 167, 255, 177, 132, 2, 1, 167, 255, 159, 177]
abbrev dktX5_minuteGoes_11 : List UInt8 := dkwX5_minuteGoes_11 ++ []
def dkwX5_minuteGoes_10 : List UInt8 := [28, 6, 182, 0, 73, 100, 54, 4, 21, 4, 158, 0, 18, 21, 4, 16, 8, 112, 154, 0, 10, 42, 8, 28]
abbrev dktX5_minuteGoes_10 : List UInt8 := dkwX5_minuteGoes_10 ++ dktX5_minuteGoes_11
def dkwX5_minuteGoes_9 : List UInt8 := [153, 0, 52, 42, 29, 28, 182, 0, 81, 4, 159, 0, 6, 167, 0, 39, 42, 180, 0, 9, 3, 46, 42, 29]
abbrev dktX5_minuteGoes_9 : List UInt8 := dkwX5_minuteGoes_9 ++ dktX5_minuteGoes_10
def dkwX5_minuteGoes_8 : List UInt8 := [42, 180, 0, 9, 5, 46, 162, 0, 75, 42, 28, 182, 0, 124, 154, 0, 61, 42, 29, 28, 182, 0, 77]
abbrev dktX5_minuteGoes_8 : List UInt8 := dkwX5_minuteGoes_8 ++ dktX5_minuteGoes_9
def dkwX5_minuteGoes_7 : List UInt8 := [182, 0, 134, 132, 2, 1, 167, 255, 202, 3, 61, 28, 42, 180, 0, 9, 4, 46, 162, 0, 93, 3, 62, 29]
abbrev dktX5_minuteGoes_7 : List UInt8 := dkwX5_minuteGoes_7 ++ dktX5_minuteGoes_8
def dkwX5_minuteGoes_6 : List UInt8 := [160, 0, 27, 42, 180, 0, 9, 3, 46, 42, 28, 4, 182, 0, 70, 100, 16, 12, 161, 0, 9, 42, 28, 3]
abbrev dktX5_minuteGoes_6 : List UInt8 := dkwX5_minuteGoes_6 ++ dktX5_minuteGoes_7
def dkwX5_minuteGoes_5 : List UInt8 := [180, 0, 9, 5, 46, 162, 0, 50, 42, 2, 182, 0, 124, 154, 0, 42, 42, 28, 182, 0, 84, 4]
abbrev dktX5_minuteGoes_5 : List UInt8 := dkwX5_minuteGoes_5 ++ dktX5_minuteGoes_6
def dkwX5_minuteGoes_4 : List UInt8 := [167, 255, 228, 132, 1, 1, 132, 2, 1, 167, 255, 167, 42, 180, 0, 9, 8, 27, 79, 3, 61, 28, 42]
abbrev dktX5_minuteGoes_4 : List UInt8 := dkwX5_minuteGoes_4 ++ dktX5_minuteGoes_5
def dkwX5_minuteGoes_3 : List UInt8 := [180, 0, 9, 17, 2, 145, 7, 27, 104, 96, 29, 96, 42, 28, 29, 182, 0, 140, 79, 132, 3, 1]
abbrev dktX5_minuteGoes_3 : List UInt8 := dkwX5_minuteGoes_3 ++ dktX5_minuteGoes_4
def dkwX5_minuteGoes_2 : List UInt8 := [4, 182, 0, 140, 42, 28, 5, 182, 0, 140, 182, 0, 143, 167, 0, 39, 3, 62, 29, 7, 162, 0, 29, 42]
abbrev dktX5_minuteGoes_2 : List UInt8 := dkwX5_minuteGoes_2 ++ dktX5_minuteGoes_3
def dkwX5_minuteGoes_1 : List UInt8 := [42, 28, 6, 182, 0, 140, 42, 180, 0, 9, 3, 46, 160, 0, 28, 42, 42, 28, 3, 182, 0, 140, 42, 28]
abbrev dktX5_minuteGoes_1 : List UInt8 := dkwX5_minuteGoes_1 ++ dktX5_minuteGoes_2
def dkwX5_minuteGoes_0 : List UInt8 := [42, 180, 0, 9, 3, 92, 46, 4, 96, 79, 3, 60, 3, 61, 28, 42, 180, 0, 9, 8, 46, 162, 0, 85]
abbrev dktX5_minuteGoes_0 : List UInt8 := dkwX5_minuteGoes_0 ++ dktX5_minuteGoes_1
theorem dksX5_minuteGoes_0 : cX5_minuteGoes.data.toList.drop 0 = dktX5_minuteGoes_0 := by decide +kernel
theorem dksX5_minuteGoes_1 : cX5_minuteGoes.data.toList.drop 24 = dktX5_minuteGoes_1 := dk_seg dksX5_minuteGoes_0 24 rfl rfl
theorem dksX5_minuteGoes_2 : cX5_minuteGoes.data.toList.drop 48 = dktX5_minuteGoes_2 := dk_seg dksX5_minuteGoes_1 24 rfl rfl
theorem dksX5_minuteGoes_3 : cX5_minuteGoes.data.toList.drop 72 = dktX5_minuteGoes_3 := dk_seg dksX5_minuteGoes_2 24 rfl rfl
theorem dksX5_minuteGoes_4 : cX5_minuteGoes.data.toList.drop 94 = dktX5_minuteGoes_4 := dk_seg dksX5_minuteGoes_3 22 rfl rfl
theorem dksX5_minuteGoes_5 : cX5_minuteGoes.data.toList.drop 117 = dktX5_minuteGoes_5 := dk_seg dksX5_minuteGoes_4 23 rfl rfl
theorem dksX5_minuteGoes_6 : cX5_minuteGoes.data.toList.drop 139 = dktX5_minuteGoes_6 := dk_seg dksX5_minuteGoes_5 22 rfl rfl
theorem dksX5_minuteGoes_7 : cX5_minuteGoes.data.toList.drop 163 = dktX5_minuteGoes_7 := dk_seg dksX5_minuteGoes_6 24 rfl rfl
theorem dksX5_minuteGoes_8 : cX5_minuteGoes.data.toList.drop 187 = dktX5_minuteGoes_8 := dk_seg dksX5_minuteGoes_7 24 rfl rfl
theorem dksX5_minuteGoes_9 : cX5_minuteGoes.data.toList.drop 210 = dktX5_minuteGoes_9 := dk_seg dksX5_minuteGoes_8 23 rfl rfl
theorem dksX5_minuteGoes_10 : cX5_minuteGoes.data.toList.drop 234 = dktX5_minuteGoes_10 := dk_seg dksX5_minuteGoes_9 24 rfl rfl
theorem dksX5_minuteGoes_11 : cX5_minuteGoes.data.toList.drop 258 = dktX5_minuteGoes_11 := dk_seg dksX5_minuteGoes_10 24 rfl rfl
theorem dX5_minuteGoes_0 : decode cX5_minuteGoes 0 = .ok (.aload_n 0, 1) := dk_42 (dk_at dksX5_minuteGoes_0 0 rfl rfl)
theorem dX5_minuteGoes_1 : decode cX5_minuteGoes 1 = .ok (.getfield 9, 3) := dk_180 0 9 (dk_at dksX5_minuteGoes_0 1 rfl rfl)
theorem dX5_minuteGoes_4 : decode cX5_minuteGoes 4 = .ok (.iconst 0, 1) := dk_3 (dk_at dksX5_minuteGoes_0 4 rfl rfl)
theorem dX5_minuteGoes_5 : decode cX5_minuteGoes 5 = .ok (.dup2, 1) := dk_92 (dk_at dksX5_minuteGoes_0 5 rfl rfl)
theorem dX5_minuteGoes_6 : decode cX5_minuteGoes 6 = .ok (.iaload, 1) := dk_46 (dk_at dksX5_minuteGoes_0 6 rfl rfl)
theorem dX5_minuteGoes_7 : decode cX5_minuteGoes 7 = .ok (.iconst 1, 1) := dk_4 (dk_at dksX5_minuteGoes_0 7 rfl rfl)
theorem dX5_minuteGoes_8 : decode cX5_minuteGoes 8 = .ok (.iadd, 1) := dk_96 (dk_at dksX5_minuteGoes_0 8 rfl rfl)
theorem dX5_minuteGoes_9 : decode cX5_minuteGoes 9 = .ok (.iastore, 1) := dk_79 (dk_at dksX5_minuteGoes_0 9 rfl rfl)
theorem dX5_minuteGoes_10 : decode cX5_minuteGoes 10 = .ok (.iconst 0, 1) := dk_3 (dk_at dksX5_minuteGoes_0 10 rfl rfl)
theorem dX5_minuteGoes_11 : decode cX5_minuteGoes 11 = .ok (.istore_n 1, 1) := dk_60 (dk_at dksX5_minuteGoes_0 11 rfl rfl)
theorem dX5_minuteGoes_12 : decode cX5_minuteGoes 12 = .ok (.iconst 0, 1) := dk_3 (dk_at dksX5_minuteGoes_0 12 rfl rfl)
theorem dX5_minuteGoes_13 : decode cX5_minuteGoes 13 = .ok (.istore_n 2, 1) := dk_61 (dk_at dksX5_minuteGoes_0 13 rfl rfl)
theorem dX5_minuteGoes_14 : decode cX5_minuteGoes 14 = .ok (.iload_n 2, 1) := dk_28 (dk_at dksX5_minuteGoes_0 14 rfl rfl)
theorem dX5_minuteGoes_15 : decode cX5_minuteGoes 15 = .ok (.aload_n 0, 1) := dk_42 (dk_at dksX5_minuteGoes_0 15 rfl rfl)
theorem dX5_minuteGoes_16 : decode cX5_minuteGoes 16 = .ok (.getfield 9, 3) := dk_180 0 9 (dk_at dksX5_minuteGoes_0 16 rfl rfl)
theorem dX5_minuteGoes_19 : decode cX5_minuteGoes 19 = .ok (.iconst 5, 1) := dk_8 (dk_at dksX5_minuteGoes_0 19 rfl rfl)
theorem dX5_minuteGoes_20 : decode cX5_minuteGoes 20 = .ok (.iaload, 1) := dk_46 (dk_at dksX5_minuteGoes_0 20 rfl rfl)
theorem dX5_minuteGoes_21 : decode cX5_minuteGoes 21 = .ok (.if_icmp .ge 85, 3) := dk_162 0 85 (dk_at dksX5_minuteGoes_0 21 rfl rfl)
theorem dX5_minuteGoes_24 : decode cX5_minuteGoes 24 = .ok (.aload_n 0, 1) := dk_42 (dk_at dksX5_minuteGoes_1 0 rfl rfl)
theorem dX5_minuteGoes_25 : decode cX5_minuteGoes 25 = .ok (.iload_n 2, 1) := dk_28 (dk_at dksX5_minuteGoes_1 1 rfl rfl)
theorem dX5_minuteGoes_26 : decode cX5_minuteGoes 26 = .ok (.iconst 3, 1) := dk_6 (dk_at dksX5_minuteGoes_1 2 rfl rfl)
theorem dX5_minuteGoes_27 : decode cX5_minuteGoes 27 = .ok (.invokevirtual 140, 3) := dk_182 0 140 (dk_at dksX5_minuteGoes_1 3 rfl rfl)
theorem dX5_minuteGoes_30 : decode cX5_minuteGoes 30 = .ok (.aload_n 0, 1) := dk_42 (dk_at dksX5_minuteGoes_1 6 rfl rfl)
theorem dX5_minuteGoes_31 : decode cX5_minuteGoes 31 = .ok (.getfield 9, 3) := dk_180 0 9 (dk_at dksX5_minuteGoes_1 7 rfl rfl)
theorem dX5_minuteGoes_34 : decode cX5_minuteGoes 34 = .ok (.iconst 0, 1) := dk_3 (dk_at dksX5_minuteGoes_1 10 rfl rfl)
theorem dX5_minuteGoes_35 : decode cX5_minuteGoes 35 = .ok (.iaload, 1) := dk_46 (dk_at dksX5_minuteGoes_1 11 rfl rfl)
theorem dX5_minuteGoes_36 : decode cX5_minuteGoes 36 = .ok (.if_icmp .ne 28, 3) := dk_160 0 28 (dk_at dksX5_minuteGoes_1 12 rfl rfl)
theorem dX5_minuteGoes_39 : decode cX5_minuteGoes 39 = .ok (.aload_n 0, 1) := dk_42 (dk_at dksX5_minuteGoes_1 15 rfl rfl)
theorem dX5_minuteGoes_40 : decode cX5_minuteGoes 40 = .ok (.aload_n 0, 1) := dk_42 (dk_at dksX5_minuteGoes_1 16 rfl rfl)
theorem dX5_minuteGoes_41 : decode cX5_minuteGoes 41 = .ok (.iload_n 2, 1) := dk_28 (dk_at dksX5_minuteGoes_1 17 rfl rfl)
theorem dX5_minuteGoes_42 : decode cX5_minuteGoes 42 = .ok (.iconst 0, 1) := dk_3 (dk_at dksX5_minuteGoes_1 18 rfl rfl)
theorem dX5_minuteGoes_43 : decode cX5_minuteGoes 43 = .ok (.invokevirtual 140, 3) := dk_182 0 140 (dk_at dksX5_minuteGoes_1 19 rfl rfl)
theorem dX5_minuteGoes_46 : decode cX5_minuteGoes 46 = .ok (.aload_n 0, 1) := dk_42 (dk_at dksX5_minuteGoes_1 22 rfl rfl)
theorem dX5_minuteGoes_47 : decode cX5_minuteGoes 47 = .ok (.iload_n 2, 1) := dk_28 (dk_at dksX5_minuteGoes_1 23 rfl rfl)
theorem dX5_minuteGoes_48 : decode cX5_minuteGoes 48 = .ok (.iconst 1, 1) := dk_4 (dk_at dksX5_minuteGoes_2 0 rfl rfl)
theorem dX5_minuteGoes_49 : decode cX5_minuteGoes 49 = .ok (.invokevirtual 140, 3) := dk_182 0 140 (dk_at dksX5_minuteGoes_2 1 rfl rfl)
theorem dX5_minuteGoes_52 : decode cX5_minuteGoes 52 = .ok (.aload_n 0, 1) := dk_42 (dk_at dksX5_minuteGoes_2 4 rfl rfl)
theorem dX5_minuteGoes_53 : decode cX5_minuteGoes 53 = .ok (.iload_n 2, 1) := dk_28 (dk_at dksX5_minuteGoes_2 5 rfl rfl)
theorem dX5_minuteGoes_54 : decode cX5_minuteGoes 54 = .ok (.iconst 2, 1) := dk_5 (dk_at dksX5_minuteGoes_2 6 rfl rfl)
theorem dX5_minuteGoes_55 : decode cX5_minuteGoes 55 = .ok (.invokevirtual 140, 3) := dk_182 0 140 (dk_at dksX5_minuteGoes_2 7 rfl rfl)
theorem dX5_minuteGoes_58 : decode cX5_minuteGoes 58 = .ok (.invokevirtual 143, 3) := dk_182 0 143 (dk_at dksX5_minuteGoes_2 10 rfl rfl)
theorem dX5_minuteGoes_61 : decode cX5_minuteGoes 61 = .ok (.goto 39, 3) := dk_167 0 39 (dk_at dksX5_minuteGoes_2 13 rfl rfl)
theorem dX5_minuteGoes_64 : decode cX5_minuteGoes 64 = .ok (.iconst 0, 1) := dk_3 (dk_at dksX5_minuteGoes_2 16 rfl rfl)
theorem dX5_minuteGoes_65 : decode cX5_minuteGoes 65 = .ok (.istore_n 3, 1) := dk_62 (dk_at dksX5_minuteGoes_2 17 rfl rfl)
theorem dX5_minuteGoes_66 : decode cX5_minuteGoes 66 = .ok (.iload_n 3, 1) := dk_29 (dk_at dksX5_minuteGoes_2 18 rfl rfl)
theorem dX5_minuteGoes_67 : decode cX5_minuteGoes 67 = .ok (.iconst 4, 1) := dk_7 (dk_at dksX5_minuteGoes_2 19 rfl rfl)
theorem dX5_minuteGoes_68 : decode cX5_minuteGoes 68 = .ok (.if_icmp .ge 29, 3) := dk_162 0 29 (dk_at dksX5_minuteGoes_2 20 rfl rfl)
theorem dX5_minuteGoes_71 : decode cX5_minuteGoes 71 = .ok (.aload_n 0, 1) := dk_42 (dk_at dksX5_minuteGoes_2 23 rfl rfl)
theorem dX5_minuteGoes_72 : decode cX5_minuteGoes 72 = .ok (.getfield 9, 3) := dk_180 0 9 (dk_at dksX5_minuteGoes_3 0 rfl rfl)
theorem dX5_minuteGoes_75 : decode cX5_minuteGoes 75 = .ok (.sipush 657, 3) := dk_17 2 145 (dk_at dksX5_minuteGoes_3 3 rfl rfl)
theorem dX5_minuteGoes_78 : decode cX5_minuteGoes 78 = .ok (.iconst 4, 1) := dk_7 (dk_at dksX5_minuteGoes_3 6 rfl rfl)
theorem dX5_minuteGoes_79 : decode cX5_minuteGoes 79 = .ok (.iload_n 1, 1) := dk_27 (dk_at dksX5_minuteGoes_3 7 rfl rfl)
theorem dX5_minuteGoes_80 : decode cX5_minuteGoes 80 = .ok (.imul, 1) := dk_104 (dk_at dksX5_minuteGoes_3 8 rfl rfl)
theorem dX5_minuteGoes_81 : decode cX5_minuteGoes 81 = .ok (.iadd, 1) := dk_96 (dk_at dksX5_minuteGoes_3 9 rfl rfl)
theorem dX5_minuteGoes_82 : decode cX5_minuteGoes 82 = .ok (.iload_n 3, 1) := dk_29 (dk_at dksX5_minuteGoes_3 10 rfl rfl)
theorem dX5_minuteGoes_83 : decode cX5_minuteGoes 83 = .ok (.iadd, 1) := dk_96 (dk_at dksX5_minuteGoes_3 11 rfl rfl)
theorem dX5_minuteGoes_84 : decode cX5_minuteGoes 84 = .ok (.aload_n 0, 1) := dk_42 (dk_at dksX5_minuteGoes_3 12 rfl rfl)
theorem dX5_minuteGoes_85 : decode cX5_minuteGoes 85 = .ok (.iload_n 2, 1) := dk_28 (dk_at dksX5_minuteGoes_3 13 rfl rfl)
theorem dX5_minuteGoes_86 : decode cX5_minuteGoes 86 = .ok (.iload_n 3, 1) := dk_29 (dk_at dksX5_minuteGoes_3 14 rfl rfl)
theorem dX5_minuteGoes_87 : decode cX5_minuteGoes 87 = .ok (.invokevirtual 140, 3) := dk_182 0 140 (dk_at dksX5_minuteGoes_3 15 rfl rfl)
theorem dX5_minuteGoes_90 : decode cX5_minuteGoes 90 = .ok (.iastore, 1) := dk_79 (dk_at dksX5_minuteGoes_3 18 rfl rfl)
theorem dX5_minuteGoes_91 : decode cX5_minuteGoes 91 = .ok (.iinc 3 1, 3) := dk_132 3 1 (dk_at dksX5_minuteGoes_3 19 rfl rfl)
theorem dX5_minuteGoes_94 : decode cX5_minuteGoes 94 = .ok (.goto (-28), 3) := dk_167 255 228 (dk_at dksX5_minuteGoes_4 0 rfl rfl)
theorem dX5_minuteGoes_97 : decode cX5_minuteGoes 97 = .ok (.iinc 1 1, 3) := dk_132 1 1 (dk_at dksX5_minuteGoes_4 3 rfl rfl)
theorem dX5_minuteGoes_100 : decode cX5_minuteGoes 100 = .ok (.iinc 2 1, 3) := dk_132 2 1 (dk_at dksX5_minuteGoes_4 6 rfl rfl)
theorem dX5_minuteGoes_103 : decode cX5_minuteGoes 103 = .ok (.goto (-89), 3) := dk_167 255 167 (dk_at dksX5_minuteGoes_4 9 rfl rfl)
theorem dX5_minuteGoes_106 : decode cX5_minuteGoes 106 = .ok (.aload_n 0, 1) := dk_42 (dk_at dksX5_minuteGoes_4 12 rfl rfl)
theorem dX5_minuteGoes_107 : decode cX5_minuteGoes 107 = .ok (.getfield 9, 3) := dk_180 0 9 (dk_at dksX5_minuteGoes_4 13 rfl rfl)
theorem dX5_minuteGoes_110 : decode cX5_minuteGoes 110 = .ok (.iconst 5, 1) := dk_8 (dk_at dksX5_minuteGoes_4 16 rfl rfl)
theorem dX5_minuteGoes_111 : decode cX5_minuteGoes 111 = .ok (.iload_n 1, 1) := dk_27 (dk_at dksX5_minuteGoes_4 17 rfl rfl)
theorem dX5_minuteGoes_112 : decode cX5_minuteGoes 112 = .ok (.iastore, 1) := dk_79 (dk_at dksX5_minuteGoes_4 18 rfl rfl)
theorem dX5_minuteGoes_113 : decode cX5_minuteGoes 113 = .ok (.iconst 0, 1) := dk_3 (dk_at dksX5_minuteGoes_4 19 rfl rfl)
theorem dX5_minuteGoes_114 : decode cX5_minuteGoes 114 = .ok (.istore_n 2, 1) := dk_61 (dk_at dksX5_minuteGoes_4 20 rfl rfl)
theorem dX5_minuteGoes_115 : decode cX5_minuteGoes 115 = .ok (.iload_n 2, 1) := dk_28 (dk_at dksX5_minuteGoes_4 21 rfl rfl)
theorem dX5_minuteGoes_116 : decode cX5_minuteGoes 116 = .ok (.aload_n 0, 1) := dk_42 (dk_at dksX5_minuteGoes_4 22 rfl rfl)
theorem dX5_minuteGoes_117 : decode cX5_minuteGoes 117 = .ok (.getfield 9, 3) := dk_180 0 9 (dk_at dksX5_minuteGoes_5 0 rfl rfl)
theorem dX5_minuteGoes_120 : decode cX5_minuteGoes 120 = .ok (.iconst 2, 1) := dk_5 (dk_at dksX5_minuteGoes_5 3 rfl rfl)
theorem dX5_minuteGoes_121 : decode cX5_minuteGoes 121 = .ok (.iaload, 1) := dk_46 (dk_at dksX5_minuteGoes_5 4 rfl rfl)
theorem dX5_minuteGoes_122 : decode cX5_minuteGoes 122 = .ok (.if_icmp .ge 50, 3) := dk_162 0 50 (dk_at dksX5_minuteGoes_5 5 rfl rfl)
theorem dX5_minuteGoes_125 : decode cX5_minuteGoes 125 = .ok (.aload_n 0, 1) := dk_42 (dk_at dksX5_minuteGoes_5 8 rfl rfl)
theorem dX5_minuteGoes_126 : decode cX5_minuteGoes 126 = .ok (.iconst (-1), 1) := dk_2 (dk_at dksX5_minuteGoes_5 9 rfl rfl)
theorem dX5_minuteGoes_127 : decode cX5_minuteGoes 127 = .ok (.invokevirtual 124, 3) := dk_182 0 124 (dk_at dksX5_minuteGoes_5 10 rfl rfl)
theorem dX5_minuteGoes_130 : decode cX5_minuteGoes 130 = .ok (.ifCond .ne 42, 3) := dk_154 0 42 (dk_at dksX5_minuteGoes_5 13 rfl rfl)
theorem dX5_minuteGoes_133 : decode cX5_minuteGoes 133 = .ok (.aload_n 0, 1) := dk_42 (dk_at dksX5_minuteGoes_5 16 rfl rfl)
theorem dX5_minuteGoes_134 : decode cX5_minuteGoes 134 = .ok (.iload_n 2, 1) := dk_28 (dk_at dksX5_minuteGoes_5 17 rfl rfl)
theorem dX5_minuteGoes_135 : decode cX5_minuteGoes 135 = .ok (.invokevirtual 84, 3) := dk_182 0 84 (dk_at dksX5_minuteGoes_5 18 rfl rfl)
theorem dX5_minuteGoes_138 : decode cX5_minuteGoes 138 = .ok (.iconst 1, 1) := dk_4 (dk_at dksX5_minuteGoes_5 21 rfl rfl)
theorem dX5_minuteGoes_139 : decode cX5_minuteGoes 139 = .ok (.if_icmp .ne 27, 3) := dk_160 0 27 (dk_at dksX5_minuteGoes_6 0 rfl rfl)
theorem dX5_minuteGoes_142 : decode cX5_minuteGoes 142 = .ok (.aload_n 0, 1) := dk_42 (dk_at dksX5_minuteGoes_6 3 rfl rfl)
theorem dX5_minuteGoes_143 : decode cX5_minuteGoes 143 = .ok (.getfield 9, 3) := dk_180 0 9 (dk_at dksX5_minuteGoes_6 4 rfl rfl)
theorem dX5_minuteGoes_146 : decode cX5_minuteGoes 146 = .ok (.iconst 0, 1) := dk_3 (dk_at dksX5_minuteGoes_6 7 rfl rfl)
theorem dX5_minuteGoes_147 : decode cX5_minuteGoes 147 = .ok (.iaload, 1) := dk_46 (dk_at dksX5_minuteGoes_6 8 rfl rfl)
theorem dX5_minuteGoes_148 : decode cX5_minuteGoes 148 = .ok (.aload_n 0, 1) := dk_42 (dk_at dksX5_minuteGoes_6 9 rfl rfl)
theorem dX5_minuteGoes_149 : decode cX5_minuteGoes 149 = .ok (.iload_n 2, 1) := dk_28 (dk_at dksX5_minuteGoes_6 10 rfl rfl)
theorem dX5_minuteGoes_150 : decode cX5_minuteGoes 150 = .ok (.iconst 1, 1) := dk_4 (dk_at dksX5_minuteGoes_6 11 rfl rfl)
theorem dX5_minuteGoes_151 : decode cX5_minuteGoes 151 = .ok (.invokevirtual 70, 3) := dk_182 0 70 (dk_at dksX5_minuteGoes_6 12 rfl rfl)
theorem dX5_minuteGoes_154 : decode cX5_minuteGoes 154 = .ok (.isub, 1) := dk_100 (dk_at dksX5_minuteGoes_6 15 rfl rfl)
theorem dX5_minuteGoes_155 : decode cX5_minuteGoes 155 = .ok (.bipush 12, 2) := dk_16 12 (dk_at dksX5_minuteGoes_6 16 rfl rfl)
theorem dX5_minuteGoes_157 : decode cX5_minuteGoes 157 = .ok (.if_icmp .lt 9, 3) := dk_161 0 9 (dk_at dksX5_minuteGoes_6 18 rfl rfl)
theorem dX5_minuteGoes_160 : decode cX5_minuteGoes 160 = .ok (.aload_n 0, 1) := dk_42 (dk_at dksX5_minuteGoes_6 21 rfl rfl)
theorem dX5_minuteGoes_161 : decode cX5_minuteGoes 161 = .ok (.iload_n 2, 1) := dk_28 (dk_at dksX5_minuteGoes_6 22 rfl rfl)
theorem dX5_minuteGoes_162 : decode cX5_minuteGoes 162 = .ok (.iconst 0, 1) := dk_3 (dk_at dksX5_minuteGoes_6 23 rfl rfl)
theorem dX5_minuteGoes_163 : decode cX5_minuteGoes 163 = .ok (.invokevirtual 134, 3) := dk_182 0 134 (dk_at dksX5_minuteGoes_7 0 rfl rfl)
theorem dX5_minuteGoes_166 : decode cX5_minuteGoes 166 = .ok (.iinc 2 1, 3) := dk_132 2 1 (dk_at dksX5_minuteGoes_7 3 rfl rfl)
theorem dX5_minuteGoes_169 : decode cX5_minuteGoes 169 = .ok (.goto (-54), 3) := dk_167 255 202 (dk_at dksX5_minuteGoes_7 6 rfl rfl)
theorem dX5_minuteGoes_172 : decode cX5_minuteGoes 172 = .ok (.iconst 0, 1) := dk_3 (dk_at dksX5_minuteGoes_7 9 rfl rfl)
theorem dX5_minuteGoes_173 : decode cX5_minuteGoes 173 = .ok (.istore_n 2, 1) := dk_61 (dk_at dksX5_minuteGoes_7 10 rfl rfl)
theorem dX5_minuteGoes_174 : decode cX5_minuteGoes 174 = .ok (.iload_n 2, 1) := dk_28 (dk_at dksX5_minuteGoes_7 11 rfl rfl)
theorem dX5_minuteGoes_175 : decode cX5_minuteGoes 175 = .ok (.aload_n 0, 1) := dk_42 (dk_at dksX5_minuteGoes_7 12 rfl rfl)
theorem dX5_minuteGoes_176 : decode cX5_minuteGoes 176 = .ok (.getfield 9, 3) := dk_180 0 9 (dk_at dksX5_minuteGoes_7 13 rfl rfl)
theorem dX5_minuteGoes_179 : decode cX5_minuteGoes 179 = .ok (.iconst 1, 1) := dk_4 (dk_at dksX5_minuteGoes_7 16 rfl rfl)
theorem dX5_minuteGoes_180 : decode cX5_minuteGoes 180 = .ok (.iaload, 1) := dk_46 (dk_at dksX5_minuteGoes_7 17 rfl rfl)
theorem dX5_minuteGoes_181 : decode cX5_minuteGoes 181 = .ok (.if_icmp .ge 93, 3) := dk_162 0 93 (dk_at dksX5_minuteGoes_7 18 rfl rfl)
theorem dX5_minuteGoes_184 : decode cX5_minuteGoes 184 = .ok (.iconst 0, 1) := dk_3 (dk_at dksX5_minuteGoes_7 21 rfl rfl)
theorem dX5_minuteGoes_185 : decode cX5_minuteGoes 185 = .ok (.istore_n 3, 1) := dk_62 (dk_at dksX5_minuteGoes_7 22 rfl rfl)
theorem dX5_minuteGoes_186 : decode cX5_minuteGoes 186 = .ok (.iload_n 3, 1) := dk_29 (dk_at dksX5_minuteGoes_7 23 rfl rfl)
theorem dX5_minuteGoes_187 : decode cX5_minuteGoes 187 = .ok (.aload_n 0, 1) := dk_42 (dk_at dksX5_minuteGoes_8 0 rfl rfl)
theorem dX5_minuteGoes_188 : decode cX5_minuteGoes 188 = .ok (.getfield 9, 3) := dk_180 0 9 (dk_at dksX5_minuteGoes_8 1 rfl rfl)
theorem dX5_minuteGoes_191 : decode cX5_minuteGoes 191 = .ok (.iconst 2, 1) := dk_5 (dk_at dksX5_minuteGoes_8 4 rfl rfl)
theorem dX5_minuteGoes_192 : decode cX5_minuteGoes 192 = .ok (.iaload, 1) := dk_46 (dk_at dksX5_minuteGoes_8 5 rfl rfl)
theorem dX5_minuteGoes_193 : decode cX5_minuteGoes 193 = .ok (.if_icmp .ge 75, 3) := dk_162 0 75 (dk_at dksX5_minuteGoes_8 6 rfl rfl)
theorem dX5_minuteGoes_196 : decode cX5_minuteGoes 196 = .ok (.aload_n 0, 1) := dk_42 (dk_at dksX5_minuteGoes_8 9 rfl rfl)
theorem dX5_minuteGoes_197 : decode cX5_minuteGoes 197 = .ok (.iload_n 2, 1) := dk_28 (dk_at dksX5_minuteGoes_8 10 rfl rfl)
theorem dX5_minuteGoes_198 : decode cX5_minuteGoes 198 = .ok (.invokevirtual 124, 3) := dk_182 0 124 (dk_at dksX5_minuteGoes_8 11 rfl rfl)
theorem dX5_minuteGoes_201 : decode cX5_minuteGoes 201 = .ok (.ifCond .ne 61, 3) := dk_154 0 61 (dk_at dksX5_minuteGoes_8 14 rfl rfl)
theorem dX5_minuteGoes_204 : decode cX5_minuteGoes 204 = .ok (.aload_n 0, 1) := dk_42 (dk_at dksX5_minuteGoes_8 17 rfl rfl)
theorem dX5_minuteGoes_205 : decode cX5_minuteGoes 205 = .ok (.iload_n 3, 1) := dk_29 (dk_at dksX5_minuteGoes_8 18 rfl rfl)
theorem dX5_minuteGoes_206 : decode cX5_minuteGoes 206 = .ok (.iload_n 2, 1) := dk_28 (dk_at dksX5_minuteGoes_8 19 rfl rfl)
theorem dX5_minuteGoes_207 : decode cX5_minuteGoes 207 = .ok (.invokevirtual 77, 3) := dk_182 0 77 (dk_at dksX5_minuteGoes_8 20 rfl rfl)
theorem dX5_minuteGoes_210 : decode cX5_minuteGoes 210 = .ok (.ifCond .eq 52, 3) := dk_153 0 52 (dk_at dksX5_minuteGoes_9 0 rfl rfl)
theorem dX5_minuteGoes_213 : decode cX5_minuteGoes 213 = .ok (.aload_n 0, 1) := dk_42 (dk_at dksX5_minuteGoes_9 3 rfl rfl)
theorem dX5_minuteGoes_214 : decode cX5_minuteGoes 214 = .ok (.iload_n 3, 1) := dk_29 (dk_at dksX5_minuteGoes_9 4 rfl rfl)
theorem dX5_minuteGoes_215 : decode cX5_minuteGoes 215 = .ok (.iload_n 2, 1) := dk_28 (dk_at dksX5_minuteGoes_9 5 rfl rfl)
theorem dX5_minuteGoes_216 : decode cX5_minuteGoes 216 = .ok (.invokevirtual 81, 3) := dk_182 0 81 (dk_at dksX5_minuteGoes_9 6 rfl rfl)
theorem dX5_minuteGoes_219 : decode cX5_minuteGoes 219 = .ok (.iconst 1, 1) := dk_4 (dk_at dksX5_minuteGoes_9 9 rfl rfl)
theorem dX5_minuteGoes_220 : decode cX5_minuteGoes 220 = .ok (.if_icmp .eq 6, 3) := dk_159 0 6 (dk_at dksX5_minuteGoes_9 10 rfl rfl)
theorem dX5_minuteGoes_223 : decode cX5_minuteGoes 223 = .ok (.goto 39, 3) := dk_167 0 39 (dk_at dksX5_minuteGoes_9 13 rfl rfl)
theorem dX5_minuteGoes_226 : decode cX5_minuteGoes 226 = .ok (.aload_n 0, 1) := dk_42 (dk_at dksX5_minuteGoes_9 16 rfl rfl)
theorem dX5_minuteGoes_227 : decode cX5_minuteGoes 227 = .ok (.getfield 9, 3) := dk_180 0 9 (dk_at dksX5_minuteGoes_9 17 rfl rfl)
theorem dX5_minuteGoes_230 : decode cX5_minuteGoes 230 = .ok (.iconst 0, 1) := dk_3 (dk_at dksX5_minuteGoes_9 20 rfl rfl)
theorem dX5_minuteGoes_231 : decode cX5_minuteGoes 231 = .ok (.iaload, 1) := dk_46 (dk_at dksX5_minuteGoes_9 21 rfl rfl)
theorem dX5_minuteGoes_232 : decode cX5_minuteGoes 232 = .ok (.aload_n 0, 1) := dk_42 (dk_at dksX5_minuteGoes_9 22 rfl rfl)
theorem dX5_minuteGoes_233 : decode cX5_minuteGoes 233 = .ok (.iload_n 3, 1) := dk_29 (dk_at dksX5_minuteGoes_9 23 rfl rfl)
theorem dX5_minuteGoes_234 : decode cX5_minuteGoes 234 = .ok (.iload_n 2, 1) := dk_28 (dk_at dksX5_minuteGoes_10 0 rfl rfl)
theorem dX5_minuteGoes_235 : decode cX5_minuteGoes 235 = .ok (.iconst 3, 1) := dk_6 (dk_at dksX5_minuteGoes_10 1 rfl rfl)
theorem dX5_minuteGoes_236 : decode cX5_minuteGoes 236 = .ok (.invokevirtual 73, 3) := dk_182 0 73 (dk_at dksX5_minuteGoes_10 2 rfl rfl)
theorem dX5_minuteGoes_239 : decode cX5_minuteGoes 239 = .ok (.isub, 1) := dk_100 (dk_at dksX5_minuteGoes_10 5 rfl rfl)
theorem dX5_minuteGoes_240 : decode cX5_minuteGoes 240 = .ok (.istore 4, 2) := dk_54 4 (dk_at dksX5_minuteGoes_10 6 rfl rfl)
theorem dX5_minuteGoes_242 : decode cX5_minuteGoes 242 = .ok (.iload 4, 2) := dk_21 4 (dk_at dksX5_minuteGoes_10 8 rfl rfl)
theorem dX5_minuteGoes_244 : decode cX5_minuteGoes 244 = .ok (.ifCond .le 18, 3) := dk_158 0 18 (dk_at dksX5_minuteGoes_10 10 rfl rfl)
theorem dX5_minuteGoes_247 : decode cX5_minuteGoes 247 = .ok (.iload 4, 2) := dk_21 4 (dk_at dksX5_minuteGoes_10 13 rfl rfl)
theorem dX5_minuteGoes_249 : decode cX5_minuteGoes 249 = .ok (.bipush 8, 2) := dk_16 8 (dk_at dksX5_minuteGoes_10 15 rfl rfl)
theorem dX5_minuteGoes_251 : decode cX5_minuteGoes 251 = .ok (.irem, 1) := dk_112 (dk_at dksX5_minuteGoes_10 17 rfl rfl)
theorem dX5_minuteGoes_252 : decode cX5_minuteGoes 252 = .ok (.ifCond .ne 10, 3) := dk_154 0 10 (dk_at dksX5_minuteGoes_10 18 rfl rfl)
theorem dX5_minuteGoes_255 : decode cX5_minuteGoes 255 = .ok (.aload_n 0, 1) := dk_42 (dk_at dksX5_minuteGoes_10 21 rfl rfl)
theorem dX5_minuteGoes_256 : decode cX5_minuteGoes 256 = .ok (.iconst 5, 1) := dk_8 (dk_at dksX5_minuteGoes_10 22 rfl rfl)
theorem dX5_minuteGoes_257 : decode cX5_minuteGoes 257 = .ok (.iload_n 2, 1) := dk_28 (dk_at dksX5_minuteGoes_10 23 rfl rfl)
theorem dX5_minuteGoes_258 : decode cX5_minuteGoes 258 = .ok (.iload_n 3, 1) := dk_29 (dk_at dksX5_minuteGoes_11 0 rfl rfl)
theorem dX5_minuteGoes_259 : decode cX5_minuteGoes 259 = .ok (.invokevirtual 91, 3) := dk_182 0 91 (dk_at dksX5_minuteGoes_11 1 rfl rfl)
theorem dX5_minuteGoes_262 : decode cX5_minuteGoes 262 = .ok (.iinc 3 1, 3) := dk_132 3 1 (dk_at dksX5_minuteGoes_11 4 rfl rfl)
theorem dX5_minuteGoes_265 : decode cX5_minuteGoes 265 = .ok (.goto (-79), 3) := dk_167 255 177 (dk_at dksX5_minuteGoes_11 7 rfl rfl)
theorem dX5_minuteGoes_268 : decode cX5_minuteGoes 268 = .ok (.iinc 2 1, 3) := dk_132 2 1 (dk_at dksX5_minuteGoes_11 10 rfl rfl)
theorem dX5_minuteGoes_271 : decode cX5_minuteGoes 271 = .ok (.goto (-97), 3) := dk_167 255 159 (dk_at dksX5_minuteGoes_11 13 rfl rfl)
theorem dX5_minuteGoes_274 : decode cX5_minuteGoes 274 = .ok (.return_, 1) := dk_177 (dk_at dksX5_minuteGoes_11 16 rfl rfl)
abbrev cX5_message : ByteArray := prog_25_method_28_code
def dkwX5_message_0 : List UInt8 := [42, 180, 0, 9, 17, 2, 145, 7, 27, 104, 96, 28, 96, 46, 172]
abbrev dktX5_message_0 : List UInt8 := dkwX5_message_0 ++ []
theorem dksX5_message_0 : cX5_message.data.toList.drop 0 = dktX5_message_0 := by decide +kernel
theorem dX5_message_0 : decode cX5_message 0 = .ok (.aload_n 0, 1) := dk_42 (dk_at dksX5_message_0 0 rfl rfl)
theorem dX5_message_1 : decode cX5_message 1 = .ok (.getfield 9, 3) := dk_180 0 9 (dk_at dksX5_message_0 1 rfl rfl)
theorem dX5_message_4 : decode cX5_message 4 = .ok (.sipush 657, 3) := dk_17 2 145 (dk_at dksX5_message_0 4 rfl rfl)
theorem dX5_message_7 : decode cX5_message 7 = .ok (.iconst 4, 1) := dk_7 (dk_at dksX5_message_0 7 rfl rfl)
theorem dX5_message_8 : decode cX5_message 8 = .ok (.iload_n 1, 1) := dk_27 (dk_at dksX5_message_0 8 rfl rfl)
theorem dX5_message_9 : decode cX5_message 9 = .ok (.imul, 1) := dk_104 (dk_at dksX5_message_0 9 rfl rfl)
theorem dX5_message_10 : decode cX5_message 10 = .ok (.iadd, 1) := dk_96 (dk_at dksX5_message_0 10 rfl rfl)
theorem dX5_message_11 : decode cX5_message 11 = .ok (.iload_n 2, 1) := dk_28 (dk_at dksX5_message_0 11 rfl rfl)
theorem dX5_message_12 : decode cX5_message 12 = .ok (.iadd, 1) := dk_96 (dk_at dksX5_message_0 12 rfl rfl)
theorem dX5_message_13 : decode cX5_message 13 = .ok (.iaload, 1) := dk_46 (dk_at dksX5_message_0 13 rfl rfl)
theorem dX5_message_14 : decode cX5_message 14 = .ok (.ireturn, 1) := dk_172 (dk_at dksX5_message_0 14 rfl rfl)
abbrev cX5_arrives : ByteArray := prog_25_method_38_code
def dkwX5_arrives_7 : List UInt8 := [182, 0, 134, 177]
abbrev dktX5_arrives_7 : List UInt8 := dkwX5_arrives_7 ++ []
def dkwX5_arrives_6 : List UInt8 := [3, 182, 0, 134, 167, 0, 23, 42, 29, 6, 182, 0, 70, 42, 29, 182, 0, 137, 160, 0, 9, 42, 29, 4]
abbrev dktX5_arrives_6 : List UInt8 := dkwX5_arrives_6 ++ dktX5_arrives_7
def dkwX5_arrives_5 : List UInt8 := [160, 0, 17, 42, 29, 6, 42, 29, 6, 182, 0, 70, 4, 96, 182, 0, 95, 27, 5, 160, 0, 12, 42, 29]
abbrev dktX5_arrives_5 : List UInt8 := dkwX5_arrives_5 ++ dktX5_arrives_6
def dkwX5_arrives_4 : List UInt8 := [182, 0, 108, 28, 29, 182, 0, 91, 167, 0, 65, 42, 29, 182, 0, 84, 4, 160, 0, 56, 27, 4]
abbrev dktX5_arrives_4 : List UInt8 := dkwX5_arrives_4 ++ dktX5_arrives_5
def dkwX5_arrives_3 : List UInt8 := [182, 0, 131, 167, 0, 93, 27, 8, 160, 0, 26, 42, 29, 182, 0, 84, 4, 164, 0, 79, 42, 42, 29]
abbrev dktX5_arrives_3 : List UInt8 := dkwX5_arrives_3 ++ dktX5_arrives_4
def dkwX5_arrives_2 : List UInt8 := [177, 27, 154, 0, 12, 42, 28, 29, 182, 0, 128, 167, 0, 108, 21, 4, 153, 0, 13, 42, 28, 29, 27]
abbrev dktX5_arrives_2 : List UInt8 := dkwX5_arrives_2 ++ dktX5_arrives_3
def dkwX5_arrives_1 : List UInt8 := [153, 0, 7, 28, 167, 0, 4, 2, 182, 0, 124, 153, 0, 14, 42, 180, 0, 9, 7, 92, 46, 4, 96, 79]
abbrev dktX5_arrives_1 : List UInt8 := dkwX5_arrives_1 ++ dktX5_arrives_2
def dkwX5_arrives_0 : List UInt8 := [27, 153, 0, 13, 27, 6, 159, 0, 8, 27, 7, 160, 0, 7, 4, 167, 0, 4, 3, 54, 4, 42, 21, 4]
abbrev dktX5_arrives_0 : List UInt8 := dkwX5_arrives_0 ++ dktX5_arrives_1
theorem dksX5_arrives_0 : cX5_arrives.data.toList.drop 0 = dktX5_arrives_0 := by decide +kernel
theorem dksX5_arrives_1 : cX5_arrives.data.toList.drop 24 = dktX5_arrives_1 := dk_seg dksX5_arrives_0 24 rfl rfl
theorem dksX5_arrives_2 : cX5_arrives.data.toList.drop 48 = dktX5_arrives_2 := dk_seg dksX5_arrives_1 24 rfl rfl
theorem dksX5_arrives_3 : cX5_arrives.data.toList.drop 71 = dktX5_arrives_3 := dk_seg dksX5_arrives_2 23 rfl rfl
theorem dksX5_arrives_4 : cX5_arrives.data.toList.drop 94 = dktX5_arrives_4 := dk_seg dksX5_arrives_3 23 rfl rfl
theorem dksX5_arrives_5 : cX5_arrives.data.toList.drop 116 = dktX5_arrives_5 := dk_seg dksX5_arrives_4 22 rfl rfl
theorem dksX5_arrives_6 : cX5_arrives.data.toList.drop 140 = dktX5_arrives_6 := dk_seg dksX5_arrives_5 24 rfl rfl
theorem dksX5_arrives_7 : cX5_arrives.data.toList.drop 164 = dktX5_arrives_7 := dk_seg dksX5_arrives_6 24 rfl rfl
theorem dX5_arrives_0 : decode cX5_arrives 0 = .ok (.iload_n 1, 1) := dk_27 (dk_at dksX5_arrives_0 0 rfl rfl)
theorem dX5_arrives_1 : decode cX5_arrives 1 = .ok (.ifCond .eq 13, 3) := dk_153 0 13 (dk_at dksX5_arrives_0 1 rfl rfl)
theorem dX5_arrives_4 : decode cX5_arrives 4 = .ok (.iload_n 1, 1) := dk_27 (dk_at dksX5_arrives_0 4 rfl rfl)
theorem dX5_arrives_5 : decode cX5_arrives 5 = .ok (.iconst 3, 1) := dk_6 (dk_at dksX5_arrives_0 5 rfl rfl)
theorem dX5_arrives_6 : decode cX5_arrives 6 = .ok (.if_icmp .eq 8, 3) := dk_159 0 8 (dk_at dksX5_arrives_0 6 rfl rfl)
theorem dX5_arrives_9 : decode cX5_arrives 9 = .ok (.iload_n 1, 1) := dk_27 (dk_at dksX5_arrives_0 9 rfl rfl)
theorem dX5_arrives_10 : decode cX5_arrives 10 = .ok (.iconst 4, 1) := dk_7 (dk_at dksX5_arrives_0 10 rfl rfl)
theorem dX5_arrives_11 : decode cX5_arrives 11 = .ok (.if_icmp .ne 7, 3) := dk_160 0 7 (dk_at dksX5_arrives_0 11 rfl rfl)
theorem dX5_arrives_14 : decode cX5_arrives 14 = .ok (.iconst 1, 1) := dk_4 (dk_at dksX5_arrives_0 14 rfl rfl)
theorem dX5_arrives_15 : decode cX5_arrives 15 = .ok (.goto 4, 3) := dk_167 0 4 (dk_at dksX5_arrives_0 15 rfl rfl)
theorem dX5_arrives_18 : decode cX5_arrives 18 = .ok (.iconst 0, 1) := dk_3 (dk_at dksX5_arrives_0 18 rfl rfl)
theorem dX5_arrives_19 : decode cX5_arrives 19 = .ok (.istore 4, 2) := dk_54 4 (dk_at dksX5_arrives_0 19 rfl rfl)
theorem dX5_arrives_21 : decode cX5_arrives 21 = .ok (.aload_n 0, 1) := dk_42 (dk_at dksX5_arrives_0 21 rfl rfl)
theorem dX5_arrives_22 : decode cX5_arrives 22 = .ok (.iload 4, 2) := dk_21 4 (dk_at dksX5_arrives_0 22 rfl rfl)
theorem dX5_arrives_24 : decode cX5_arrives 24 = .ok (.ifCond .eq 7, 3) := dk_153 0 7 (dk_at dksX5_arrives_1 0 rfl rfl)
theorem dX5_arrives_27 : decode cX5_arrives 27 = .ok (.iload_n 2, 1) := dk_28 (dk_at dksX5_arrives_1 3 rfl rfl)
theorem dX5_arrives_28 : decode cX5_arrives 28 = .ok (.goto 4, 3) := dk_167 0 4 (dk_at dksX5_arrives_1 4 rfl rfl)
theorem dX5_arrives_31 : decode cX5_arrives 31 = .ok (.iconst (-1), 1) := dk_2 (dk_at dksX5_arrives_1 7 rfl rfl)
theorem dX5_arrives_32 : decode cX5_arrives 32 = .ok (.invokevirtual 124, 3) := dk_182 0 124 (dk_at dksX5_arrives_1 8 rfl rfl)
theorem dX5_arrives_35 : decode cX5_arrives 35 = .ok (.ifCond .eq 14, 3) := dk_153 0 14 (dk_at dksX5_arrives_1 11 rfl rfl)
theorem dX5_arrives_38 : decode cX5_arrives 38 = .ok (.aload_n 0, 1) := dk_42 (dk_at dksX5_arrives_1 14 rfl rfl)
theorem dX5_arrives_39 : decode cX5_arrives 39 = .ok (.getfield 9, 3) := dk_180 0 9 (dk_at dksX5_arrives_1 15 rfl rfl)
theorem dX5_arrives_42 : decode cX5_arrives 42 = .ok (.iconst 4, 1) := dk_7 (dk_at dksX5_arrives_1 18 rfl rfl)
theorem dX5_arrives_43 : decode cX5_arrives 43 = .ok (.dup2, 1) := dk_92 (dk_at dksX5_arrives_1 19 rfl rfl)
theorem dX5_arrives_44 : decode cX5_arrives 44 = .ok (.iaload, 1) := dk_46 (dk_at dksX5_arrives_1 20 rfl rfl)
theorem dX5_arrives_45 : decode cX5_arrives 45 = .ok (.iconst 1, 1) := dk_4 (dk_at dksX5_arrives_1 21 rfl rfl)
theorem dX5_arrives_46 : decode cX5_arrives 46 = .ok (.iadd, 1) := dk_96 (dk_at dksX5_arrives_1 22 rfl rfl)
theorem dX5_arrives_47 : decode cX5_arrives 47 = .ok (.iastore, 1) := dk_79 (dk_at dksX5_arrives_1 23 rfl rfl)
theorem dX5_arrives_48 : decode cX5_arrives 48 = .ok (.return_, 1) := dk_177 (dk_at dksX5_arrives_2 0 rfl rfl)
theorem dX5_arrives_49 : decode cX5_arrives 49 = .ok (.iload_n 1, 1) := dk_27 (dk_at dksX5_arrives_2 1 rfl rfl)
theorem dX5_arrives_50 : decode cX5_arrives 50 = .ok (.ifCond .ne 12, 3) := dk_154 0 12 (dk_at dksX5_arrives_2 2 rfl rfl)
theorem dX5_arrives_53 : decode cX5_arrives 53 = .ok (.aload_n 0, 1) := dk_42 (dk_at dksX5_arrives_2 5 rfl rfl)
theorem dX5_arrives_54 : decode cX5_arrives 54 = .ok (.iload_n 2, 1) := dk_28 (dk_at dksX5_arrives_2 6 rfl rfl)
theorem dX5_arrives_55 : decode cX5_arrives 55 = .ok (.iload_n 3, 1) := dk_29 (dk_at dksX5_arrives_2 7 rfl rfl)
theorem dX5_arrives_56 : decode cX5_arrives 56 = .ok (.invokevirtual 128, 3) := dk_182 0 128 (dk_at dksX5_arrives_2 8 rfl rfl)
theorem dX5_arrives_59 : decode cX5_arrives 59 = .ok (.goto 108, 3) := dk_167 0 108 (dk_at dksX5_arrives_2 11 rfl rfl)
theorem dX5_arrives_62 : decode cX5_arrives 62 = .ok (.iload 4, 2) := dk_21 4 (dk_at dksX5_arrives_2 14 rfl rfl)
theorem dX5_arrives_64 : decode cX5_arrives 64 = .ok (.ifCond .eq 13, 3) := dk_153 0 13 (dk_at dksX5_arrives_2 16 rfl rfl)
theorem dX5_arrives_67 : decode cX5_arrives 67 = .ok (.aload_n 0, 1) := dk_42 (dk_at dksX5_arrives_2 19 rfl rfl)
theorem dX5_arrives_68 : decode cX5_arrives 68 = .ok (.iload_n 2, 1) := dk_28 (dk_at dksX5_arrives_2 20 rfl rfl)
theorem dX5_arrives_69 : decode cX5_arrives 69 = .ok (.iload_n 3, 1) := dk_29 (dk_at dksX5_arrives_2 21 rfl rfl)
theorem dX5_arrives_70 : decode cX5_arrives 70 = .ok (.iload_n 1, 1) := dk_27 (dk_at dksX5_arrives_2 22 rfl rfl)
theorem dX5_arrives_71 : decode cX5_arrives 71 = .ok (.invokevirtual 131, 3) := dk_182 0 131 (dk_at dksX5_arrives_3 0 rfl rfl)
theorem dX5_arrives_74 : decode cX5_arrives 74 = .ok (.goto 93, 3) := dk_167 0 93 (dk_at dksX5_arrives_3 3 rfl rfl)
theorem dX5_arrives_77 : decode cX5_arrives 77 = .ok (.iload_n 1, 1) := dk_27 (dk_at dksX5_arrives_3 6 rfl rfl)
theorem dX5_arrives_78 : decode cX5_arrives 78 = .ok (.iconst 5, 1) := dk_8 (dk_at dksX5_arrives_3 7 rfl rfl)
theorem dX5_arrives_79 : decode cX5_arrives 79 = .ok (.if_icmp .ne 26, 3) := dk_160 0 26 (dk_at dksX5_arrives_3 8 rfl rfl)
theorem dX5_arrives_82 : decode cX5_arrives 82 = .ok (.aload_n 0, 1) := dk_42 (dk_at dksX5_arrives_3 11 rfl rfl)
theorem dX5_arrives_83 : decode cX5_arrives 83 = .ok (.iload_n 3, 1) := dk_29 (dk_at dksX5_arrives_3 12 rfl rfl)
theorem dX5_arrives_84 : decode cX5_arrives 84 = .ok (.invokevirtual 84, 3) := dk_182 0 84 (dk_at dksX5_arrives_3 13 rfl rfl)
theorem dX5_arrives_87 : decode cX5_arrives 87 = .ok (.iconst 1, 1) := dk_4 (dk_at dksX5_arrives_3 16 rfl rfl)
theorem dX5_arrives_88 : decode cX5_arrives 88 = .ok (.if_icmp .le 79, 3) := dk_164 0 79 (dk_at dksX5_arrives_3 17 rfl rfl)
theorem dX5_arrives_91 : decode cX5_arrives 91 = .ok (.aload_n 0, 1) := dk_42 (dk_at dksX5_arrives_3 20 rfl rfl)
theorem dX5_arrives_92 : decode cX5_arrives 92 = .ok (.aload_n 0, 1) := dk_42 (dk_at dksX5_arrives_3 21 rfl rfl)
theorem dX5_arrives_93 : decode cX5_arrives 93 = .ok (.iload_n 3, 1) := dk_29 (dk_at dksX5_arrives_3 22 rfl rfl)
theorem dX5_arrives_94 : decode cX5_arrives 94 = .ok (.invokevirtual 108, 3) := dk_182 0 108 (dk_at dksX5_arrives_4 0 rfl rfl)
theorem dX5_arrives_97 : decode cX5_arrives 97 = .ok (.iload_n 2, 1) := dk_28 (dk_at dksX5_arrives_4 3 rfl rfl)
theorem dX5_arrives_98 : decode cX5_arrives 98 = .ok (.iload_n 3, 1) := dk_29 (dk_at dksX5_arrives_4 4 rfl rfl)
theorem dX5_arrives_99 : decode cX5_arrives 99 = .ok (.invokevirtual 91, 3) := dk_182 0 91 (dk_at dksX5_arrives_4 5 rfl rfl)
theorem dX5_arrives_102 : decode cX5_arrives 102 = .ok (.goto 65, 3) := dk_167 0 65 (dk_at dksX5_arrives_4 8 rfl rfl)
theorem dX5_arrives_105 : decode cX5_arrives 105 = .ok (.aload_n 0, 1) := dk_42 (dk_at dksX5_arrives_4 11 rfl rfl)
theorem dX5_arrives_106 : decode cX5_arrives 106 = .ok (.iload_n 3, 1) := dk_29 (dk_at dksX5_arrives_4 12 rfl rfl)
theorem dX5_arrives_107 : decode cX5_arrives 107 = .ok (.invokevirtual 84, 3) := dk_182 0 84 (dk_at dksX5_arrives_4 13 rfl rfl)
theorem dX5_arrives_110 : decode cX5_arrives 110 = .ok (.iconst 1, 1) := dk_4 (dk_at dksX5_arrives_4 16 rfl rfl)
theorem dX5_arrives_111 : decode cX5_arrives 111 = .ok (.if_icmp .ne 56, 3) := dk_160 0 56 (dk_at dksX5_arrives_4 17 rfl rfl)
theorem dX5_arrives_114 : decode cX5_arrives 114 = .ok (.iload_n 1, 1) := dk_27 (dk_at dksX5_arrives_4 20 rfl rfl)
theorem dX5_arrives_115 : decode cX5_arrives 115 = .ok (.iconst 1, 1) := dk_4 (dk_at dksX5_arrives_4 21 rfl rfl)
theorem dX5_arrives_116 : decode cX5_arrives 116 = .ok (.if_icmp .ne 17, 3) := dk_160 0 17 (dk_at dksX5_arrives_5 0 rfl rfl)
theorem dX5_arrives_119 : decode cX5_arrives 119 = .ok (.aload_n 0, 1) := dk_42 (dk_at dksX5_arrives_5 3 rfl rfl)
theorem dX5_arrives_120 : decode cX5_arrives 120 = .ok (.iload_n 3, 1) := dk_29 (dk_at dksX5_arrives_5 4 rfl rfl)
theorem dX5_arrives_121 : decode cX5_arrives 121 = .ok (.iconst 3, 1) := dk_6 (dk_at dksX5_arrives_5 5 rfl rfl)
theorem dX5_arrives_122 : decode cX5_arrives 122 = .ok (.aload_n 0, 1) := dk_42 (dk_at dksX5_arrives_5 6 rfl rfl)
theorem dX5_arrives_123 : decode cX5_arrives 123 = .ok (.iload_n 3, 1) := dk_29 (dk_at dksX5_arrives_5 7 rfl rfl)
theorem dX5_arrives_124 : decode cX5_arrives 124 = .ok (.iconst 3, 1) := dk_6 (dk_at dksX5_arrives_5 8 rfl rfl)
theorem dX5_arrives_125 : decode cX5_arrives 125 = .ok (.invokevirtual 70, 3) := dk_182 0 70 (dk_at dksX5_arrives_5 9 rfl rfl)
theorem dX5_arrives_128 : decode cX5_arrives 128 = .ok (.iconst 1, 1) := dk_4 (dk_at dksX5_arrives_5 12 rfl rfl)
theorem dX5_arrives_129 : decode cX5_arrives 129 = .ok (.iadd, 1) := dk_96 (dk_at dksX5_arrives_5 13 rfl rfl)
theorem dX5_arrives_130 : decode cX5_arrives 130 = .ok (.invokevirtual 95, 3) := dk_182 0 95 (dk_at dksX5_arrives_5 14 rfl rfl)
theorem dX5_arrives_133 : decode cX5_arrives 133 = .ok (.iload_n 1, 1) := dk_27 (dk_at dksX5_arrives_5 17 rfl rfl)
theorem dX5_arrives_134 : decode cX5_arrives 134 = .ok (.iconst 2, 1) := dk_5 (dk_at dksX5_arrives_5 18 rfl rfl)
theorem dX5_arrives_135 : decode cX5_arrives 135 = .ok (.if_icmp .ne 12, 3) := dk_160 0 12 (dk_at dksX5_arrives_5 19 rfl rfl)
theorem dX5_arrives_138 : decode cX5_arrives 138 = .ok (.aload_n 0, 1) := dk_42 (dk_at dksX5_arrives_5 22 rfl rfl)
theorem dX5_arrives_139 : decode cX5_arrives 139 = .ok (.iload_n 3, 1) := dk_29 (dk_at dksX5_arrives_5 23 rfl rfl)
theorem dX5_arrives_140 : decode cX5_arrives 140 = .ok (.iconst 0, 1) := dk_3 (dk_at dksX5_arrives_6 0 rfl rfl)
theorem dX5_arrives_141 : decode cX5_arrives 141 = .ok (.invokevirtual 134, 3) := dk_182 0 134 (dk_at dksX5_arrives_6 1 rfl rfl)
theorem dX5_arrives_144 : decode cX5_arrives 144 = .ok (.goto 23, 3) := dk_167 0 23 (dk_at dksX5_arrives_6 4 rfl rfl)
theorem dX5_arrives_147 : decode cX5_arrives 147 = .ok (.aload_n 0, 1) := dk_42 (dk_at dksX5_arrives_6 7 rfl rfl)
theorem dX5_arrives_148 : decode cX5_arrives 148 = .ok (.iload_n 3, 1) := dk_29 (dk_at dksX5_arrives_6 8 rfl rfl)
theorem dX5_arrives_149 : decode cX5_arrives 149 = .ok (.iconst 3, 1) := dk_6 (dk_at dksX5_arrives_6 9 rfl rfl)
theorem dX5_arrives_150 : decode cX5_arrives 150 = .ok (.invokevirtual 70, 3) := dk_182 0 70 (dk_at dksX5_arrives_6 10 rfl rfl)
theorem dX5_arrives_153 : decode cX5_arrives 153 = .ok (.aload_n 0, 1) := dk_42 (dk_at dksX5_arrives_6 13 rfl rfl)
theorem dX5_arrives_154 : decode cX5_arrives 154 = .ok (.iload_n 3, 1) := dk_29 (dk_at dksX5_arrives_6 14 rfl rfl)
theorem dX5_arrives_155 : decode cX5_arrives 155 = .ok (.invokevirtual 137, 3) := dk_182 0 137 (dk_at dksX5_arrives_6 15 rfl rfl)
theorem dX5_arrives_158 : decode cX5_arrives 158 = .ok (.if_icmp .ne 9, 3) := dk_160 0 9 (dk_at dksX5_arrives_6 18 rfl rfl)
theorem dX5_arrives_161 : decode cX5_arrives 161 = .ok (.aload_n 0, 1) := dk_42 (dk_at dksX5_arrives_6 21 rfl rfl)
theorem dX5_arrives_162 : decode cX5_arrives 162 = .ok (.iload_n 3, 1) := dk_29 (dk_at dksX5_arrives_6 22 rfl rfl)
theorem dX5_arrives_163 : decode cX5_arrives 163 = .ok (.iconst 1, 1) := dk_4 (dk_at dksX5_arrives_6 23 rfl rfl)
theorem dX5_arrives_164 : decode cX5_arrives 164 = .ok (.invokevirtual 134, 3) := dk_182 0 134 (dk_at dksX5_arrives_7 0 rfl rfl)
theorem dX5_arrives_167 : decode cX5_arrives 167 = .ok (.return_, 1) := dk_177 (dk_at dksX5_arrives_7 3 rfl rfl)
abbrev cX5_votes : ByteArray := prog_25_method_37_code
def dkwX5_votes_2 : List UInt8 := [167, 0, 4, 5, 182, 0, 118, 42, 29, 153, 0, 7, 4, 167, 0, 4, 5, 27, 28, 182, 0, 91, 177]
abbrev dktX5_votes_2 : List UInt8 := dkwX5_votes_2 ++ []
def dkwX5_votes_1 : List UInt8 := [42, 28, 27, 4, 182, 0, 73, 161, 0, 7, 4, 167, 0, 4, 3, 62, 42, 28, 27, 29, 153, 0, 7, 4]
abbrev dktX5_votes_1 : List UInt8 := dkwX5_votes_1 ++ dktX5_votes_2
def dkwX5_votes_0 : List UInt8 := [42, 28, 27, 182, 0, 81, 153, 0, 4, 177, 42, 27, 42, 28, 27, 3, 182, 0, 73, 4, 100, 182, 0, 121]
abbrev dktX5_votes_0 : List UInt8 := dkwX5_votes_0 ++ dktX5_votes_1
theorem dksX5_votes_0 : cX5_votes.data.toList.drop 0 = dktX5_votes_0 := by decide +kernel
theorem dksX5_votes_1 : cX5_votes.data.toList.drop 24 = dktX5_votes_1 := dk_seg dksX5_votes_0 24 rfl rfl
theorem dksX5_votes_2 : cX5_votes.data.toList.drop 48 = dktX5_votes_2 := dk_seg dksX5_votes_1 24 rfl rfl
theorem dX5_votes_0 : decode cX5_votes 0 = .ok (.aload_n 0, 1) := dk_42 (dk_at dksX5_votes_0 0 rfl rfl)
theorem dX5_votes_1 : decode cX5_votes 1 = .ok (.iload_n 2, 1) := dk_28 (dk_at dksX5_votes_0 1 rfl rfl)
theorem dX5_votes_2 : decode cX5_votes 2 = .ok (.iload_n 1, 1) := dk_27 (dk_at dksX5_votes_0 2 rfl rfl)
theorem dX5_votes_3 : decode cX5_votes 3 = .ok (.invokevirtual 81, 3) := dk_182 0 81 (dk_at dksX5_votes_0 3 rfl rfl)
theorem dX5_votes_6 : decode cX5_votes 6 = .ok (.ifCond .eq 4, 3) := dk_153 0 4 (dk_at dksX5_votes_0 6 rfl rfl)
theorem dX5_votes_9 : decode cX5_votes 9 = .ok (.return_, 1) := dk_177 (dk_at dksX5_votes_0 9 rfl rfl)
theorem dX5_votes_10 : decode cX5_votes 10 = .ok (.aload_n 0, 1) := dk_42 (dk_at dksX5_votes_0 10 rfl rfl)
theorem dX5_votes_11 : decode cX5_votes 11 = .ok (.iload_n 1, 1) := dk_27 (dk_at dksX5_votes_0 11 rfl rfl)
theorem dX5_votes_12 : decode cX5_votes 12 = .ok (.aload_n 0, 1) := dk_42 (dk_at dksX5_votes_0 12 rfl rfl)
theorem dX5_votes_13 : decode cX5_votes 13 = .ok (.iload_n 2, 1) := dk_28 (dk_at dksX5_votes_0 13 rfl rfl)
theorem dX5_votes_14 : decode cX5_votes 14 = .ok (.iload_n 1, 1) := dk_27 (dk_at dksX5_votes_0 14 rfl rfl)
theorem dX5_votes_15 : decode cX5_votes 15 = .ok (.iconst 0, 1) := dk_3 (dk_at dksX5_votes_0 15 rfl rfl)
theorem dX5_votes_16 : decode cX5_votes 16 = .ok (.invokevirtual 73, 3) := dk_182 0 73 (dk_at dksX5_votes_0 16 rfl rfl)
theorem dX5_votes_19 : decode cX5_votes 19 = .ok (.iconst 1, 1) := dk_4 (dk_at dksX5_votes_0 19 rfl rfl)
theorem dX5_votes_20 : decode cX5_votes 20 = .ok (.isub, 1) := dk_100 (dk_at dksX5_votes_0 20 rfl rfl)
theorem dX5_votes_21 : decode cX5_votes 21 = .ok (.invokevirtual 121, 3) := dk_182 0 121 (dk_at dksX5_votes_0 21 rfl rfl)
theorem dX5_votes_24 : decode cX5_votes 24 = .ok (.aload_n 0, 1) := dk_42 (dk_at dksX5_votes_1 0 rfl rfl)
theorem dX5_votes_25 : decode cX5_votes 25 = .ok (.iload_n 2, 1) := dk_28 (dk_at dksX5_votes_1 1 rfl rfl)
theorem dX5_votes_26 : decode cX5_votes 26 = .ok (.iload_n 1, 1) := dk_27 (dk_at dksX5_votes_1 2 rfl rfl)
theorem dX5_votes_27 : decode cX5_votes 27 = .ok (.iconst 1, 1) := dk_4 (dk_at dksX5_votes_1 3 rfl rfl)
theorem dX5_votes_28 : decode cX5_votes 28 = .ok (.invokevirtual 73, 3) := dk_182 0 73 (dk_at dksX5_votes_1 4 rfl rfl)
theorem dX5_votes_31 : decode cX5_votes 31 = .ok (.if_icmp .lt 7, 3) := dk_161 0 7 (dk_at dksX5_votes_1 7 rfl rfl)
theorem dX5_votes_34 : decode cX5_votes 34 = .ok (.iconst 1, 1) := dk_4 (dk_at dksX5_votes_1 10 rfl rfl)
theorem dX5_votes_35 : decode cX5_votes 35 = .ok (.goto 4, 3) := dk_167 0 4 (dk_at dksX5_votes_1 11 rfl rfl)
theorem dX5_votes_38 : decode cX5_votes 38 = .ok (.iconst 0, 1) := dk_3 (dk_at dksX5_votes_1 14 rfl rfl)
theorem dX5_votes_39 : decode cX5_votes 39 = .ok (.istore_n 3, 1) := dk_62 (dk_at dksX5_votes_1 15 rfl rfl)
theorem dX5_votes_40 : decode cX5_votes 40 = .ok (.aload_n 0, 1) := dk_42 (dk_at dksX5_votes_1 16 rfl rfl)
theorem dX5_votes_41 : decode cX5_votes 41 = .ok (.iload_n 2, 1) := dk_28 (dk_at dksX5_votes_1 17 rfl rfl)
theorem dX5_votes_42 : decode cX5_votes 42 = .ok (.iload_n 1, 1) := dk_27 (dk_at dksX5_votes_1 18 rfl rfl)
theorem dX5_votes_43 : decode cX5_votes 43 = .ok (.iload_n 3, 1) := dk_29 (dk_at dksX5_votes_1 19 rfl rfl)
theorem dX5_votes_44 : decode cX5_votes 44 = .ok (.ifCond .eq 7, 3) := dk_153 0 7 (dk_at dksX5_votes_1 20 rfl rfl)
theorem dX5_votes_47 : decode cX5_votes 47 = .ok (.iconst 1, 1) := dk_4 (dk_at dksX5_votes_1 23 rfl rfl)
theorem dX5_votes_48 : decode cX5_votes 48 = .ok (.goto 4, 3) := dk_167 0 4 (dk_at dksX5_votes_2 0 rfl rfl)
theorem dX5_votes_51 : decode cX5_votes 51 = .ok (.iconst 2, 1) := dk_5 (dk_at dksX5_votes_2 3 rfl rfl)
theorem dX5_votes_52 : decode cX5_votes 52 = .ok (.invokevirtual 118, 3) := dk_182 0 118 (dk_at dksX5_votes_2 4 rfl rfl)
theorem dX5_votes_55 : decode cX5_votes 55 = .ok (.aload_n 0, 1) := dk_42 (dk_at dksX5_votes_2 7 rfl rfl)
theorem dX5_votes_56 : decode cX5_votes 56 = .ok (.iload_n 3, 1) := dk_29 (dk_at dksX5_votes_2 8 rfl rfl)
theorem dX5_votes_57 : decode cX5_votes 57 = .ok (.ifCond .eq 7, 3) := dk_153 0 7 (dk_at dksX5_votes_2 9 rfl rfl)
theorem dX5_votes_60 : decode cX5_votes 60 = .ok (.iconst 1, 1) := dk_4 (dk_at dksX5_votes_2 12 rfl rfl)
theorem dX5_votes_61 : decode cX5_votes 61 = .ok (.goto 4, 3) := dk_167 0 4 (dk_at dksX5_votes_2 13 rfl rfl)
theorem dX5_votes_64 : decode cX5_votes 64 = .ok (.iconst 2, 1) := dk_5 (dk_at dksX5_votes_2 16 rfl rfl)
theorem dX5_votes_65 : decode cX5_votes 65 = .ok (.iload_n 1, 1) := dk_27 (dk_at dksX5_votes_2 17 rfl rfl)
theorem dX5_votes_66 : decode cX5_votes 66 = .ok (.iload_n 2, 1) := dk_28 (dk_at dksX5_votes_2 18 rfl rfl)
theorem dX5_votes_67 : decode cX5_votes 67 = .ok (.invokevirtual 91, 3) := dk_182 0 91 (dk_at dksX5_votes_2 19 rfl rfl)
theorem dX5_votes_70 : decode cX5_votes 70 = .ok (.return_, 1) := dk_177 (dk_at dksX5_votes_2 22 rfl rfl)
abbrev cX5_courseIn : ByteArray := prog_25_method_65_code
def dkwX5_courseIn_2 : List UInt8 := [182, 0, 205, 132, 3, 1, 167, 255, 244, 42, 27, 182, 0, 84, 62, 42, 182, 0, 214, 29, 172]
abbrev dktX5_courseIn_2 : List UInt8 := dkwX5_courseIn_2 ++ []
def dkwX5_courseIn_1 : List UInt8 := [184, 0, 62, 154, 0, 9, 42, 5, 182, 0, 149, 172, 42, 182, 0, 211, 3, 62, 29, 28, 162, 0, 13, 42]
abbrev dktX5_courseIn_1 : List UInt8 := dkwX5_courseIn_1 ++ dktX5_courseIn_2
def dkwX5_courseIn_0 : List UInt8 := [42, 3, 181, 0, 46, 42, 27, 182, 0, 167, 154, 0, 9, 42, 4, 182, 0, 149, 172, 28, 3, 16, 60]
abbrev dktX5_courseIn_0 : List UInt8 := dkwX5_courseIn_0 ++ dktX5_courseIn_1
theorem dksX5_courseIn_0 : cX5_courseIn.data.toList.drop 0 = dktX5_courseIn_0 := by decide +kernel
theorem dksX5_courseIn_1 : cX5_courseIn.data.toList.drop 23 = dktX5_courseIn_1 := dk_seg dksX5_courseIn_0 23 rfl rfl
theorem dksX5_courseIn_2 : cX5_courseIn.data.toList.drop 47 = dktX5_courseIn_2 := dk_seg dksX5_courseIn_1 24 rfl rfl
theorem dX5_courseIn_0 : decode cX5_courseIn 0 = .ok (.aload_n 0, 1) := dk_42 (dk_at dksX5_courseIn_0 0 rfl rfl)
theorem dX5_courseIn_1 : decode cX5_courseIn 1 = .ok (.iconst 0, 1) := dk_3 (dk_at dksX5_courseIn_0 1 rfl rfl)
theorem dX5_courseIn_2 : decode cX5_courseIn 2 = .ok (.putfield 46, 3) := dk_181 0 46 (dk_at dksX5_courseIn_0 2 rfl rfl)
theorem dX5_courseIn_5 : decode cX5_courseIn 5 = .ok (.aload_n 0, 1) := dk_42 (dk_at dksX5_courseIn_0 5 rfl rfl)
theorem dX5_courseIn_6 : decode cX5_courseIn 6 = .ok (.iload_n 1, 1) := dk_27 (dk_at dksX5_courseIn_0 6 rfl rfl)
theorem dX5_courseIn_7 : decode cX5_courseIn 7 = .ok (.invokevirtual 167, 3) := dk_182 0 167 (dk_at dksX5_courseIn_0 7 rfl rfl)
theorem dX5_courseIn_10 : decode cX5_courseIn 10 = .ok (.ifCond .ne 9, 3) := dk_154 0 9 (dk_at dksX5_courseIn_0 10 rfl rfl)
theorem dX5_courseIn_13 : decode cX5_courseIn 13 = .ok (.aload_n 0, 1) := dk_42 (dk_at dksX5_courseIn_0 13 rfl rfl)
theorem dX5_courseIn_14 : decode cX5_courseIn 14 = .ok (.iconst 1, 1) := dk_4 (dk_at dksX5_courseIn_0 14 rfl rfl)
theorem dX5_courseIn_15 : decode cX5_courseIn 15 = .ok (.invokevirtual 149, 3) := dk_182 0 149 (dk_at dksX5_courseIn_0 15 rfl rfl)
theorem dX5_courseIn_18 : decode cX5_courseIn 18 = .ok (.ireturn, 1) := dk_172 (dk_at dksX5_courseIn_0 18 rfl rfl)
theorem dX5_courseIn_19 : decode cX5_courseIn 19 = .ok (.iload_n 2, 1) := dk_28 (dk_at dksX5_courseIn_0 19 rfl rfl)
theorem dX5_courseIn_20 : decode cX5_courseIn 20 = .ok (.iconst 0, 1) := dk_3 (dk_at dksX5_courseIn_0 20 rfl rfl)
theorem dX5_courseIn_21 : decode cX5_courseIn 21 = .ok (.bipush 60, 2) := dk_16 60 (dk_at dksX5_courseIn_0 21 rfl rfl)
theorem dX5_courseIn_23 : decode cX5_courseIn 23 = .ok (.invokestatic 62, 3) := dk_184 0 62 (dk_at dksX5_courseIn_1 0 rfl rfl)
theorem dX5_courseIn_26 : decode cX5_courseIn 26 = .ok (.ifCond .ne 9, 3) := dk_154 0 9 (dk_at dksX5_courseIn_1 3 rfl rfl)
theorem dX5_courseIn_29 : decode cX5_courseIn 29 = .ok (.aload_n 0, 1) := dk_42 (dk_at dksX5_courseIn_1 6 rfl rfl)
theorem dX5_courseIn_30 : decode cX5_courseIn 30 = .ok (.iconst 2, 1) := dk_5 (dk_at dksX5_courseIn_1 7 rfl rfl)
theorem dX5_courseIn_31 : decode cX5_courseIn 31 = .ok (.invokevirtual 149, 3) := dk_182 0 149 (dk_at dksX5_courseIn_1 8 rfl rfl)
theorem dX5_courseIn_34 : decode cX5_courseIn 34 = .ok (.ireturn, 1) := dk_172 (dk_at dksX5_courseIn_1 11 rfl rfl)
theorem dX5_courseIn_35 : decode cX5_courseIn 35 = .ok (.aload_n 0, 1) := dk_42 (dk_at dksX5_courseIn_1 12 rfl rfl)
theorem dX5_courseIn_36 : decode cX5_courseIn 36 = .ok (.invokevirtual 211, 3) := dk_182 0 211 (dk_at dksX5_courseIn_1 13 rfl rfl)
theorem dX5_courseIn_39 : decode cX5_courseIn 39 = .ok (.iconst 0, 1) := dk_3 (dk_at dksX5_courseIn_1 16 rfl rfl)
theorem dX5_courseIn_40 : decode cX5_courseIn 40 = .ok (.istore_n 3, 1) := dk_62 (dk_at dksX5_courseIn_1 17 rfl rfl)
theorem dX5_courseIn_41 : decode cX5_courseIn 41 = .ok (.iload_n 3, 1) := dk_29 (dk_at dksX5_courseIn_1 18 rfl rfl)
theorem dX5_courseIn_42 : decode cX5_courseIn 42 = .ok (.iload_n 2, 1) := dk_28 (dk_at dksX5_courseIn_1 19 rfl rfl)
theorem dX5_courseIn_43 : decode cX5_courseIn 43 = .ok (.if_icmp .ge 13, 3) := dk_162 0 13 (dk_at dksX5_courseIn_1 20 rfl rfl)
theorem dX5_courseIn_46 : decode cX5_courseIn 46 = .ok (.aload_n 0, 1) := dk_42 (dk_at dksX5_courseIn_1 23 rfl rfl)
theorem dX5_courseIn_47 : decode cX5_courseIn 47 = .ok (.invokevirtual 205, 3) := dk_182 0 205 (dk_at dksX5_courseIn_2 0 rfl rfl)
theorem dX5_courseIn_50 : decode cX5_courseIn 50 = .ok (.iinc 3 1, 3) := dk_132 3 1 (dk_at dksX5_courseIn_2 3 rfl rfl)
theorem dX5_courseIn_53 : decode cX5_courseIn 53 = .ok (.goto (-12), 3) := dk_167 255 244 (dk_at dksX5_courseIn_2 6 rfl rfl)
theorem dX5_courseIn_56 : decode cX5_courseIn 56 = .ok (.aload_n 0, 1) := dk_42 (dk_at dksX5_courseIn_2 9 rfl rfl)
theorem dX5_courseIn_57 : decode cX5_courseIn 57 = .ok (.iload_n 1, 1) := dk_27 (dk_at dksX5_courseIn_2 10 rfl rfl)
theorem dX5_courseIn_58 : decode cX5_courseIn 58 = .ok (.invokevirtual 84, 3) := dk_182 0 84 (dk_at dksX5_courseIn_2 11 rfl rfl)
theorem dX5_courseIn_61 : decode cX5_courseIn 61 = .ok (.istore_n 3, 1) := dk_62 (dk_at dksX5_courseIn_2 14 rfl rfl)
theorem dX5_courseIn_62 : decode cX5_courseIn 62 = .ok (.aload_n 0, 1) := dk_42 (dk_at dksX5_courseIn_2 15 rfl rfl)
theorem dX5_courseIn_63 : decode cX5_courseIn 63 = .ok (.invokevirtual 214, 3) := dk_182 0 214 (dk_at dksX5_courseIn_2 16 rfl rfl)
theorem dX5_courseIn_66 : decode cX5_courseIn 66 = .ok (.iload_n 3, 1) := dk_29 (dk_at dksX5_courseIn_2 19 rfl rfl)
theorem dX5_courseIn_67 : decode cX5_courseIn 67 = .ok (.ireturn, 1) := dk_172 (dk_at dksX5_courseIn_2 20 rfl rfl)
abbrev cX5_thinks : ByteArray := prog_25_method_8_code
def dkwX5_thinks_1 : List UInt8 := [167, 255, 234, 177]
abbrev dktX5_thinks_1 : List UInt8 := dkwX5_thinks_1 ++ []
def dkwX5_thinks_0 : List UInt8 := [3, 60, 27, 17, 21, 81, 162, 0, 21, 42, 180, 0, 16, 27, 42, 180, 0, 9, 27, 46, 79, 132, 1, 1]
abbrev dktX5_thinks_0 : List UInt8 := dkwX5_thinks_0 ++ dktX5_thinks_1
theorem dksX5_thinks_0 : cX5_thinks.data.toList.drop 0 = dktX5_thinks_0 := by decide +kernel
theorem dksX5_thinks_1 : cX5_thinks.data.toList.drop 24 = dktX5_thinks_1 := dk_seg dksX5_thinks_0 24 rfl rfl
theorem dX5_thinks_0 : decode cX5_thinks 0 = .ok (.iconst 0, 1) := dk_3 (dk_at dksX5_thinks_0 0 rfl rfl)
theorem dX5_thinks_1 : decode cX5_thinks 1 = .ok (.istore_n 1, 1) := dk_60 (dk_at dksX5_thinks_0 1 rfl rfl)
theorem dX5_thinks_2 : decode cX5_thinks 2 = .ok (.iload_n 1, 1) := dk_27 (dk_at dksX5_thinks_0 2 rfl rfl)
theorem dX5_thinks_3 : decode cX5_thinks 3 = .ok (.sipush 5457, 3) := dk_17 21 81 (dk_at dksX5_thinks_0 3 rfl rfl)
theorem dX5_thinks_6 : decode cX5_thinks 6 = .ok (.if_icmp .ge 21, 3) := dk_162 0 21 (dk_at dksX5_thinks_0 6 rfl rfl)
theorem dX5_thinks_9 : decode cX5_thinks 9 = .ok (.aload_n 0, 1) := dk_42 (dk_at dksX5_thinks_0 9 rfl rfl)
theorem dX5_thinks_10 : decode cX5_thinks 10 = .ok (.getfield 16, 3) := dk_180 0 16 (dk_at dksX5_thinks_0 10 rfl rfl)
theorem dX5_thinks_13 : decode cX5_thinks 13 = .ok (.iload_n 1, 1) := dk_27 (dk_at dksX5_thinks_0 13 rfl rfl)
theorem dX5_thinks_14 : decode cX5_thinks 14 = .ok (.aload_n 0, 1) := dk_42 (dk_at dksX5_thinks_0 14 rfl rfl)
theorem dX5_thinks_15 : decode cX5_thinks 15 = .ok (.getfield 9, 3) := dk_180 0 9 (dk_at dksX5_thinks_0 15 rfl rfl)
theorem dX5_thinks_18 : decode cX5_thinks 18 = .ok (.iload_n 1, 1) := dk_27 (dk_at dksX5_thinks_0 18 rfl rfl)
theorem dX5_thinks_19 : decode cX5_thinks 19 = .ok (.iaload, 1) := dk_46 (dk_at dksX5_thinks_0 19 rfl rfl)
theorem dX5_thinks_20 : decode cX5_thinks 20 = .ok (.iastore, 1) := dk_79 (dk_at dksX5_thinks_0 20 rfl rfl)
theorem dX5_thinks_21 : decode cX5_thinks 21 = .ok (.iinc 1 1, 3) := dk_132 1 1 (dk_at dksX5_thinks_0 21 rfl rfl)
theorem dX5_thinks_24 : decode cX5_thinks 24 = .ok (.goto (-22), 3) := dk_167 255 234 (dk_at dksX5_thinks_1 0 rfl rfl)
theorem dX5_thinks_27 : decode cX5_thinks 27 = .ok (.return_, 1) := dk_177 (dk_at dksX5_thinks_1 3 rfl rfl)
abbrev cX5_thinksNoMore : ByteArray := prog_25_method_9_code
def dkwX5_thinksNoMore_1 : List UInt8 := [167, 255, 234, 177]
abbrev dktX5_thinksNoMore_1 : List UInt8 := dkwX5_thinksNoMore_1 ++ []
def dkwX5_thinksNoMore_0 : List UInt8 := [3, 60, 27, 17, 21, 81, 162, 0, 21, 42, 180, 0, 9, 27, 42, 180, 0, 16, 27, 46, 79, 132, 1, 1]
abbrev dktX5_thinksNoMore_0 : List UInt8 := dkwX5_thinksNoMore_0 ++ dktX5_thinksNoMore_1
theorem dksX5_thinksNoMore_0 : cX5_thinksNoMore.data.toList.drop 0 = dktX5_thinksNoMore_0 := by decide +kernel
theorem dksX5_thinksNoMore_1 : cX5_thinksNoMore.data.toList.drop 24 = dktX5_thinksNoMore_1 := dk_seg dksX5_thinksNoMore_0 24 rfl rfl
theorem dX5_thinksNoMore_0 : decode cX5_thinksNoMore 0 = .ok (.iconst 0, 1) := dk_3 (dk_at dksX5_thinksNoMore_0 0 rfl rfl)
theorem dX5_thinksNoMore_1 : decode cX5_thinksNoMore 1 = .ok (.istore_n 1, 1) := dk_60 (dk_at dksX5_thinksNoMore_0 1 rfl rfl)
theorem dX5_thinksNoMore_2 : decode cX5_thinksNoMore 2 = .ok (.iload_n 1, 1) := dk_27 (dk_at dksX5_thinksNoMore_0 2 rfl rfl)
theorem dX5_thinksNoMore_3 : decode cX5_thinksNoMore 3 = .ok (.sipush 5457, 3) := dk_17 21 81 (dk_at dksX5_thinksNoMore_0 3 rfl rfl)
theorem dX5_thinksNoMore_6 : decode cX5_thinksNoMore 6 = .ok (.if_icmp .ge 21, 3) := dk_162 0 21 (dk_at dksX5_thinksNoMore_0 6 rfl rfl)
theorem dX5_thinksNoMore_9 : decode cX5_thinksNoMore 9 = .ok (.aload_n 0, 1) := dk_42 (dk_at dksX5_thinksNoMore_0 9 rfl rfl)
theorem dX5_thinksNoMore_10 : decode cX5_thinksNoMore 10 = .ok (.getfield 9, 3) := dk_180 0 9 (dk_at dksX5_thinksNoMore_0 10 rfl rfl)
theorem dX5_thinksNoMore_13 : decode cX5_thinksNoMore 13 = .ok (.iload_n 1, 1) := dk_27 (dk_at dksX5_thinksNoMore_0 13 rfl rfl)
theorem dX5_thinksNoMore_14 : decode cX5_thinksNoMore 14 = .ok (.aload_n 0, 1) := dk_42 (dk_at dksX5_thinksNoMore_0 14 rfl rfl)
theorem dX5_thinksNoMore_15 : decode cX5_thinksNoMore 15 = .ok (.getfield 16, 3) := dk_180 0 16 (dk_at dksX5_thinksNoMore_0 15 rfl rfl)
theorem dX5_thinksNoMore_18 : decode cX5_thinksNoMore 18 = .ok (.iload_n 1, 1) := dk_27 (dk_at dksX5_thinksNoMore_0 18 rfl rfl)
theorem dX5_thinksNoMore_19 : decode cX5_thinksNoMore 19 = .ok (.iaload, 1) := dk_46 (dk_at dksX5_thinksNoMore_0 19 rfl rfl)
theorem dX5_thinksNoMore_20 : decode cX5_thinksNoMore 20 = .ok (.iastore, 1) := dk_79 (dk_at dksX5_thinksNoMore_0 20 rfl rfl)
theorem dX5_thinksNoMore_21 : decode cX5_thinksNoMore 21 = .ok (.iinc 1 1, 3) := dk_132 1 1 (dk_at dksX5_thinksNoMore_0 21 rfl rfl)
theorem dX5_thinksNoMore_24 : decode cX5_thinksNoMore 24 = .ok (.goto (-22), 3) := dk_167 255 234 (dk_at dksX5_thinksNoMore_1 0 rfl rfl)
theorem dX5_thinksNoMore_27 : decode cX5_thinksNoMore 27 = .ok (.return_, 1) := dk_177 (dk_at dksX5_thinksNoMore_1 3 rfl rfl)
abbrev cX5_clearIn : ByteArray := prog_25_method_66_code
def dkwX5_clearIn_3 : List UInt8 := [153, 0, 7, 28, 167, 0, 8, 42, 5, 182, 0, 149, 172]
abbrev dktX5_clearIn_3 : List UInt8 := dkwX5_clearIn_3 ++ []
def dkwX5_clearIn_2 : List UInt8 := [167, 255, 233, 42, 27, 4, 4, 182, 0, 170, 154, 0, 7, 4, 167, 0, 4, 3, 62, 42, 182, 0, 214, 29]
abbrev dktX5_clearIn_2 : List UInt8 := dkwX5_clearIn_2 ++ dktX5_clearIn_3
def dkwX5_clearIn_1 : List UInt8 := [61, 28, 16, 60, 162, 0, 23, 42, 27, 4, 4, 182, 0, 170, 158, 0, 13, 42, 182, 0, 205, 132, 2, 1]
abbrev dktX5_clearIn_1 : List UInt8 := dkwX5_clearIn_1 ++ dktX5_clearIn_2
def dkwX5_clearIn_0 : List UInt8 := [42, 3, 181, 0, 46, 42, 27, 182, 0, 167, 154, 0, 9, 42, 4, 182, 0, 149, 172, 42, 182, 0, 211, 3]
abbrev dktX5_clearIn_0 : List UInt8 := dkwX5_clearIn_0 ++ dktX5_clearIn_1
theorem dksX5_clearIn_0 : cX5_clearIn.data.toList.drop 0 = dktX5_clearIn_0 := by decide +kernel
theorem dksX5_clearIn_1 : cX5_clearIn.data.toList.drop 24 = dktX5_clearIn_1 := dk_seg dksX5_clearIn_0 24 rfl rfl
theorem dksX5_clearIn_2 : cX5_clearIn.data.toList.drop 48 = dktX5_clearIn_2 := dk_seg dksX5_clearIn_1 24 rfl rfl
theorem dksX5_clearIn_3 : cX5_clearIn.data.toList.drop 72 = dktX5_clearIn_3 := dk_seg dksX5_clearIn_2 24 rfl rfl
theorem dX5_clearIn_0 : decode cX5_clearIn 0 = .ok (.aload_n 0, 1) := dk_42 (dk_at dksX5_clearIn_0 0 rfl rfl)
theorem dX5_clearIn_1 : decode cX5_clearIn 1 = .ok (.iconst 0, 1) := dk_3 (dk_at dksX5_clearIn_0 1 rfl rfl)
theorem dX5_clearIn_2 : decode cX5_clearIn 2 = .ok (.putfield 46, 3) := dk_181 0 46 (dk_at dksX5_clearIn_0 2 rfl rfl)
theorem dX5_clearIn_5 : decode cX5_clearIn 5 = .ok (.aload_n 0, 1) := dk_42 (dk_at dksX5_clearIn_0 5 rfl rfl)
theorem dX5_clearIn_6 : decode cX5_clearIn 6 = .ok (.iload_n 1, 1) := dk_27 (dk_at dksX5_clearIn_0 6 rfl rfl)
theorem dX5_clearIn_7 : decode cX5_clearIn 7 = .ok (.invokevirtual 167, 3) := dk_182 0 167 (dk_at dksX5_clearIn_0 7 rfl rfl)
theorem dX5_clearIn_10 : decode cX5_clearIn 10 = .ok (.ifCond .ne 9, 3) := dk_154 0 9 (dk_at dksX5_clearIn_0 10 rfl rfl)
theorem dX5_clearIn_13 : decode cX5_clearIn 13 = .ok (.aload_n 0, 1) := dk_42 (dk_at dksX5_clearIn_0 13 rfl rfl)
theorem dX5_clearIn_14 : decode cX5_clearIn 14 = .ok (.iconst 1, 1) := dk_4 (dk_at dksX5_clearIn_0 14 rfl rfl)
theorem dX5_clearIn_15 : decode cX5_clearIn 15 = .ok (.invokevirtual 149, 3) := dk_182 0 149 (dk_at dksX5_clearIn_0 15 rfl rfl)
theorem dX5_clearIn_18 : decode cX5_clearIn 18 = .ok (.ireturn, 1) := dk_172 (dk_at dksX5_clearIn_0 18 rfl rfl)
theorem dX5_clearIn_19 : decode cX5_clearIn 19 = .ok (.aload_n 0, 1) := dk_42 (dk_at dksX5_clearIn_0 19 rfl rfl)
theorem dX5_clearIn_20 : decode cX5_clearIn 20 = .ok (.invokevirtual 211, 3) := dk_182 0 211 (dk_at dksX5_clearIn_0 20 rfl rfl)
theorem dX5_clearIn_23 : decode cX5_clearIn 23 = .ok (.iconst 0, 1) := dk_3 (dk_at dksX5_clearIn_0 23 rfl rfl)
theorem dX5_clearIn_24 : decode cX5_clearIn 24 = .ok (.istore_n 2, 1) := dk_61 (dk_at dksX5_clearIn_1 0 rfl rfl)
theorem dX5_clearIn_25 : decode cX5_clearIn 25 = .ok (.iload_n 2, 1) := dk_28 (dk_at dksX5_clearIn_1 1 rfl rfl)
theorem dX5_clearIn_26 : decode cX5_clearIn 26 = .ok (.bipush 60, 2) := dk_16 60 (dk_at dksX5_clearIn_1 2 rfl rfl)
theorem dX5_clearIn_28 : decode cX5_clearIn 28 = .ok (.if_icmp .ge 23, 3) := dk_162 0 23 (dk_at dksX5_clearIn_1 4 rfl rfl)
theorem dX5_clearIn_31 : decode cX5_clearIn 31 = .ok (.aload_n 0, 1) := dk_42 (dk_at dksX5_clearIn_1 7 rfl rfl)
theorem dX5_clearIn_32 : decode cX5_clearIn 32 = .ok (.iload_n 1, 1) := dk_27 (dk_at dksX5_clearIn_1 8 rfl rfl)
theorem dX5_clearIn_33 : decode cX5_clearIn 33 = .ok (.iconst 1, 1) := dk_4 (dk_at dksX5_clearIn_1 9 rfl rfl)
theorem dX5_clearIn_34 : decode cX5_clearIn 34 = .ok (.iconst 1, 1) := dk_4 (dk_at dksX5_clearIn_1 10 rfl rfl)
theorem dX5_clearIn_35 : decode cX5_clearIn 35 = .ok (.invokevirtual 170, 3) := dk_182 0 170 (dk_at dksX5_clearIn_1 11 rfl rfl)
theorem dX5_clearIn_38 : decode cX5_clearIn 38 = .ok (.ifCond .le 13, 3) := dk_158 0 13 (dk_at dksX5_clearIn_1 14 rfl rfl)
theorem dX5_clearIn_41 : decode cX5_clearIn 41 = .ok (.aload_n 0, 1) := dk_42 (dk_at dksX5_clearIn_1 17 rfl rfl)
theorem dX5_clearIn_42 : decode cX5_clearIn 42 = .ok (.invokevirtual 205, 3) := dk_182 0 205 (dk_at dksX5_clearIn_1 18 rfl rfl)
theorem dX5_clearIn_45 : decode cX5_clearIn 45 = .ok (.iinc 2 1, 3) := dk_132 2 1 (dk_at dksX5_clearIn_1 21 rfl rfl)
theorem dX5_clearIn_48 : decode cX5_clearIn 48 = .ok (.goto (-23), 3) := dk_167 255 233 (dk_at dksX5_clearIn_2 0 rfl rfl)
theorem dX5_clearIn_51 : decode cX5_clearIn 51 = .ok (.aload_n 0, 1) := dk_42 (dk_at dksX5_clearIn_2 3 rfl rfl)
theorem dX5_clearIn_52 : decode cX5_clearIn 52 = .ok (.iload_n 1, 1) := dk_27 (dk_at dksX5_clearIn_2 4 rfl rfl)
theorem dX5_clearIn_53 : decode cX5_clearIn 53 = .ok (.iconst 1, 1) := dk_4 (dk_at dksX5_clearIn_2 5 rfl rfl)
theorem dX5_clearIn_54 : decode cX5_clearIn 54 = .ok (.iconst 1, 1) := dk_4 (dk_at dksX5_clearIn_2 6 rfl rfl)
theorem dX5_clearIn_55 : decode cX5_clearIn 55 = .ok (.invokevirtual 170, 3) := dk_182 0 170 (dk_at dksX5_clearIn_2 7 rfl rfl)
theorem dX5_clearIn_58 : decode cX5_clearIn 58 = .ok (.ifCond .ne 7, 3) := dk_154 0 7 (dk_at dksX5_clearIn_2 10 rfl rfl)
theorem dX5_clearIn_61 : decode cX5_clearIn 61 = .ok (.iconst 1, 1) := dk_4 (dk_at dksX5_clearIn_2 13 rfl rfl)
theorem dX5_clearIn_62 : decode cX5_clearIn 62 = .ok (.goto 4, 3) := dk_167 0 4 (dk_at dksX5_clearIn_2 14 rfl rfl)
theorem dX5_clearIn_65 : decode cX5_clearIn 65 = .ok (.iconst 0, 1) := dk_3 (dk_at dksX5_clearIn_2 17 rfl rfl)
theorem dX5_clearIn_66 : decode cX5_clearIn 66 = .ok (.istore_n 3, 1) := dk_62 (dk_at dksX5_clearIn_2 18 rfl rfl)
theorem dX5_clearIn_67 : decode cX5_clearIn 67 = .ok (.aload_n 0, 1) := dk_42 (dk_at dksX5_clearIn_2 19 rfl rfl)
theorem dX5_clearIn_68 : decode cX5_clearIn 68 = .ok (.invokevirtual 214, 3) := dk_182 0 214 (dk_at dksX5_clearIn_2 20 rfl rfl)
theorem dX5_clearIn_71 : decode cX5_clearIn 71 = .ok (.iload_n 3, 1) := dk_29 (dk_at dksX5_clearIn_2 23 rfl rfl)
theorem dX5_clearIn_72 : decode cX5_clearIn 72 = .ok (.ifCond .eq 7, 3) := dk_153 0 7 (dk_at dksX5_clearIn_3 0 rfl rfl)
theorem dX5_clearIn_75 : decode cX5_clearIn 75 = .ok (.iload_n 2, 1) := dk_28 (dk_at dksX5_clearIn_3 3 rfl rfl)
theorem dX5_clearIn_76 : decode cX5_clearIn 76 = .ok (.goto 8, 3) := dk_167 0 8 (dk_at dksX5_clearIn_3 4 rfl rfl)
theorem dX5_clearIn_79 : decode cX5_clearIn 79 = .ok (.aload_n 0, 1) := dk_42 (dk_at dksX5_clearIn_3 7 rfl rfl)
theorem dX5_clearIn_80 : decode cX5_clearIn 80 = .ok (.iconst 2, 1) := dk_5 (dk_at dksX5_clearIn_3 8 rfl rfl)
theorem dX5_clearIn_81 : decode cX5_clearIn 81 = .ok (.invokevirtual 149, 3) := dk_182 0 149 (dk_at dksX5_clearIn_3 9 rfl rfl)
theorem dX5_clearIn_84 : decode cX5_clearIn 84 = .ok (.ireturn, 1) := dk_172 (dk_at dksX5_clearIn_3 12 rfl rfl)
abbrev cX5_isSafe : ByteArray := prog_25_method_67_code
def dkwX5_isSafe_1 : List UInt8 := [158, 0, 15, 42, 27, 5, 7, 182, 0, 170, 158, 0, 5, 3, 172, 132, 1, 1, 167, 255, 221, 4, 172]
abbrev dktX5_isSafe_1 : List UInt8 := dkwX5_isSafe_1 ++ []
def dkwX5_isSafe_0 : List UInt8 := [42, 3, 181, 0, 46, 3, 60, 27, 42, 180, 0, 9, 5, 46, 162, 0, 31, 42, 27, 6, 6, 182, 0, 170]
abbrev dktX5_isSafe_0 : List UInt8 := dkwX5_isSafe_0 ++ dktX5_isSafe_1
theorem dksX5_isSafe_0 : cX5_isSafe.data.toList.drop 0 = dktX5_isSafe_0 := by decide +kernel
theorem dksX5_isSafe_1 : cX5_isSafe.data.toList.drop 24 = dktX5_isSafe_1 := dk_seg dksX5_isSafe_0 24 rfl rfl
theorem dX5_isSafe_0 : decode cX5_isSafe 0 = .ok (.aload_n 0, 1) := dk_42 (dk_at dksX5_isSafe_0 0 rfl rfl)
theorem dX5_isSafe_1 : decode cX5_isSafe 1 = .ok (.iconst 0, 1) := dk_3 (dk_at dksX5_isSafe_0 1 rfl rfl)
theorem dX5_isSafe_2 : decode cX5_isSafe 2 = .ok (.putfield 46, 3) := dk_181 0 46 (dk_at dksX5_isSafe_0 2 rfl rfl)
theorem dX5_isSafe_5 : decode cX5_isSafe 5 = .ok (.iconst 0, 1) := dk_3 (dk_at dksX5_isSafe_0 5 rfl rfl)
theorem dX5_isSafe_6 : decode cX5_isSafe 6 = .ok (.istore_n 1, 1) := dk_60 (dk_at dksX5_isSafe_0 6 rfl rfl)
theorem dX5_isSafe_7 : decode cX5_isSafe 7 = .ok (.iload_n 1, 1) := dk_27 (dk_at dksX5_isSafe_0 7 rfl rfl)
theorem dX5_isSafe_8 : decode cX5_isSafe 8 = .ok (.aload_n 0, 1) := dk_42 (dk_at dksX5_isSafe_0 8 rfl rfl)
theorem dX5_isSafe_9 : decode cX5_isSafe 9 = .ok (.getfield 9, 3) := dk_180 0 9 (dk_at dksX5_isSafe_0 9 rfl rfl)
theorem dX5_isSafe_12 : decode cX5_isSafe 12 = .ok (.iconst 2, 1) := dk_5 (dk_at dksX5_isSafe_0 12 rfl rfl)
theorem dX5_isSafe_13 : decode cX5_isSafe 13 = .ok (.iaload, 1) := dk_46 (dk_at dksX5_isSafe_0 13 rfl rfl)
theorem dX5_isSafe_14 : decode cX5_isSafe 14 = .ok (.if_icmp .ge 31, 3) := dk_162 0 31 (dk_at dksX5_isSafe_0 14 rfl rfl)
theorem dX5_isSafe_17 : decode cX5_isSafe 17 = .ok (.aload_n 0, 1) := dk_42 (dk_at dksX5_isSafe_0 17 rfl rfl)
theorem dX5_isSafe_18 : decode cX5_isSafe 18 = .ok (.iload_n 1, 1) := dk_27 (dk_at dksX5_isSafe_0 18 rfl rfl)
theorem dX5_isSafe_19 : decode cX5_isSafe 19 = .ok (.iconst 3, 1) := dk_6 (dk_at dksX5_isSafe_0 19 rfl rfl)
theorem dX5_isSafe_20 : decode cX5_isSafe 20 = .ok (.iconst 3, 1) := dk_6 (dk_at dksX5_isSafe_0 20 rfl rfl)
theorem dX5_isSafe_21 : decode cX5_isSafe 21 = .ok (.invokevirtual 170, 3) := dk_182 0 170 (dk_at dksX5_isSafe_0 21 rfl rfl)
theorem dX5_isSafe_24 : decode cX5_isSafe 24 = .ok (.ifCond .le 15, 3) := dk_158 0 15 (dk_at dksX5_isSafe_1 0 rfl rfl)
theorem dX5_isSafe_27 : decode cX5_isSafe 27 = .ok (.aload_n 0, 1) := dk_42 (dk_at dksX5_isSafe_1 3 rfl rfl)
theorem dX5_isSafe_28 : decode cX5_isSafe 28 = .ok (.iload_n 1, 1) := dk_27 (dk_at dksX5_isSafe_1 4 rfl rfl)
theorem dX5_isSafe_29 : decode cX5_isSafe 29 = .ok (.iconst 2, 1) := dk_5 (dk_at dksX5_isSafe_1 5 rfl rfl)
theorem dX5_isSafe_30 : decode cX5_isSafe 30 = .ok (.iconst 4, 1) := dk_7 (dk_at dksX5_isSafe_1 6 rfl rfl)
theorem dX5_isSafe_31 : decode cX5_isSafe 31 = .ok (.invokevirtual 170, 3) := dk_182 0 170 (dk_at dksX5_isSafe_1 7 rfl rfl)
theorem dX5_isSafe_34 : decode cX5_isSafe 34 = .ok (.ifCond .le 5, 3) := dk_158 0 5 (dk_at dksX5_isSafe_1 10 rfl rfl)
theorem dX5_isSafe_37 : decode cX5_isSafe 37 = .ok (.iconst 0, 1) := dk_3 (dk_at dksX5_isSafe_1 13 rfl rfl)
theorem dX5_isSafe_38 : decode cX5_isSafe 38 = .ok (.ireturn, 1) := dk_172 (dk_at dksX5_isSafe_1 14 rfl rfl)
theorem dX5_isSafe_39 : decode cX5_isSafe 39 = .ok (.iinc 1 1, 3) := dk_132 1 1 (dk_at dksX5_isSafe_1 15 rfl rfl)
theorem dX5_isSafe_42 : decode cX5_isSafe 42 = .ok (.goto (-35), 3) := dk_167 255 221 (dk_at dksX5_isSafe_1 18 rfl rfl)
theorem dX5_isSafe_45 : decode cX5_isSafe 45 = .ok (.iconst 1, 1) := dk_4 (dk_at dksX5_isSafe_1 21 rfl rfl)
theorem dX5_isSafe_46 : decode cX5_isSafe 46 = .ok (.ireturn, 1) := dk_172 (dk_at dksX5_isSafe_1 22 rfl rfl)
abbrev cX5_messageOf : ByteArray := prog_25_method_69_code
def dkwX5_messageOf_2 : List UInt8 := [182, 0, 217, 27, 159, 0, 9, 132, 3, 1, 167, 255, 244, 42, 29, 28, 182, 0, 140, 172]
abbrev dktX5_messageOf_2 : List UInt8 := dkwX5_messageOf_2 ++ []
def dkwX5_messageOf_1 : List UInt8 := [182, 0, 149, 172, 28, 3, 6, 184, 0, 62, 154, 0, 9, 42, 5, 182, 0, 149, 172, 3, 62, 42, 29]
abbrev dktX5_messageOf_1 : List UInt8 := dkwX5_messageOf_1 ++ dktX5_messageOf_2
def dkwX5_messageOf_0 : List UInt8 := [42, 3, 181, 0, 46, 27, 3, 42, 180, 0, 9, 8, 46, 4, 100, 184, 0, 62, 154, 0, 9, 42, 4]
abbrev dktX5_messageOf_0 : List UInt8 := dkwX5_messageOf_0 ++ dktX5_messageOf_1
theorem dksX5_messageOf_0 : cX5_messageOf.data.toList.drop 0 = dktX5_messageOf_0 := by decide +kernel
theorem dksX5_messageOf_1 : cX5_messageOf.data.toList.drop 23 = dktX5_messageOf_1 := dk_seg dksX5_messageOf_0 23 rfl rfl
theorem dksX5_messageOf_2 : cX5_messageOf.data.toList.drop 46 = dktX5_messageOf_2 := dk_seg dksX5_messageOf_1 23 rfl rfl
theorem dX5_messageOf_0 : decode cX5_messageOf 0 = .ok (.aload_n 0, 1) := dk_42 (dk_at dksX5_messageOf_0 0 rfl rfl)
theorem dX5_messageOf_1 : decode cX5_messageOf 1 = .ok (.iconst 0, 1) := dk_3 (dk_at dksX5_messageOf_0 1 rfl rfl)
theorem dX5_messageOf_2 : decode cX5_messageOf 2 = .ok (.putfield 46, 3) := dk_181 0 46 (dk_at dksX5_messageOf_0 2 rfl rfl)
theorem dX5_messageOf_5 : decode cX5_messageOf 5 = .ok (.iload_n 1, 1) := dk_27 (dk_at dksX5_messageOf_0 5 rfl rfl)
theorem dX5_messageOf_6 : decode cX5_messageOf 6 = .ok (.iconst 0, 1) := dk_3 (dk_at dksX5_messageOf_0 6 rfl rfl)
theorem dX5_messageOf_7 : decode cX5_messageOf 7 = .ok (.aload_n 0, 1) := dk_42 (dk_at dksX5_messageOf_0 7 rfl rfl)
theorem dX5_messageOf_8 : decode cX5_messageOf 8 = .ok (.getfield 9, 3) := dk_180 0 9 (dk_at dksX5_messageOf_0 8 rfl rfl)
theorem dX5_messageOf_11 : decode cX5_messageOf 11 = .ok (.iconst 5, 1) := dk_8 (dk_at dksX5_messageOf_0 11 rfl rfl)
theorem dX5_messageOf_12 : decode cX5_messageOf 12 = .ok (.iaload, 1) := dk_46 (dk_at dksX5_messageOf_0 12 rfl rfl)
theorem dX5_messageOf_13 : decode cX5_messageOf 13 = .ok (.iconst 1, 1) := dk_4 (dk_at dksX5_messageOf_0 13 rfl rfl)
theorem dX5_messageOf_14 : decode cX5_messageOf 14 = .ok (.isub, 1) := dk_100 (dk_at dksX5_messageOf_0 14 rfl rfl)
theorem dX5_messageOf_15 : decode cX5_messageOf 15 = .ok (.invokestatic 62, 3) := dk_184 0 62 (dk_at dksX5_messageOf_0 15 rfl rfl)
theorem dX5_messageOf_18 : decode cX5_messageOf 18 = .ok (.ifCond .ne 9, 3) := dk_154 0 9 (dk_at dksX5_messageOf_0 18 rfl rfl)
theorem dX5_messageOf_21 : decode cX5_messageOf 21 = .ok (.aload_n 0, 1) := dk_42 (dk_at dksX5_messageOf_0 21 rfl rfl)
theorem dX5_messageOf_22 : decode cX5_messageOf 22 = .ok (.iconst 1, 1) := dk_4 (dk_at dksX5_messageOf_0 22 rfl rfl)
theorem dX5_messageOf_23 : decode cX5_messageOf 23 = .ok (.invokevirtual 149, 3) := dk_182 0 149 (dk_at dksX5_messageOf_1 0 rfl rfl)
theorem dX5_messageOf_26 : decode cX5_messageOf 26 = .ok (.ireturn, 1) := dk_172 (dk_at dksX5_messageOf_1 3 rfl rfl)
theorem dX5_messageOf_27 : decode cX5_messageOf 27 = .ok (.iload_n 2, 1) := dk_28 (dk_at dksX5_messageOf_1 4 rfl rfl)
theorem dX5_messageOf_28 : decode cX5_messageOf 28 = .ok (.iconst 0, 1) := dk_3 (dk_at dksX5_messageOf_1 5 rfl rfl)
theorem dX5_messageOf_29 : decode cX5_messageOf 29 = .ok (.iconst 3, 1) := dk_6 (dk_at dksX5_messageOf_1 6 rfl rfl)
theorem dX5_messageOf_30 : decode cX5_messageOf 30 = .ok (.invokestatic 62, 3) := dk_184 0 62 (dk_at dksX5_messageOf_1 7 rfl rfl)
theorem dX5_messageOf_33 : decode cX5_messageOf 33 = .ok (.ifCond .ne 9, 3) := dk_154 0 9 (dk_at dksX5_messageOf_1 10 rfl rfl)
theorem dX5_messageOf_36 : decode cX5_messageOf 36 = .ok (.aload_n 0, 1) := dk_42 (dk_at dksX5_messageOf_1 13 rfl rfl)
theorem dX5_messageOf_37 : decode cX5_messageOf 37 = .ok (.iconst 2, 1) := dk_5 (dk_at dksX5_messageOf_1 14 rfl rfl)
theorem dX5_messageOf_38 : decode cX5_messageOf 38 = .ok (.invokevirtual 149, 3) := dk_182 0 149 (dk_at dksX5_messageOf_1 15 rfl rfl)
theorem dX5_messageOf_41 : decode cX5_messageOf 41 = .ok (.ireturn, 1) := dk_172 (dk_at dksX5_messageOf_1 18 rfl rfl)
theorem dX5_messageOf_42 : decode cX5_messageOf 42 = .ok (.iconst 0, 1) := dk_3 (dk_at dksX5_messageOf_1 19 rfl rfl)
theorem dX5_messageOf_43 : decode cX5_messageOf 43 = .ok (.istore_n 3, 1) := dk_62 (dk_at dksX5_messageOf_1 20 rfl rfl)
theorem dX5_messageOf_44 : decode cX5_messageOf 44 = .ok (.aload_n 0, 1) := dk_42 (dk_at dksX5_messageOf_1 21 rfl rfl)
theorem dX5_messageOf_45 : decode cX5_messageOf 45 = .ok (.iload_n 3, 1) := dk_29 (dk_at dksX5_messageOf_1 22 rfl rfl)
theorem dX5_messageOf_46 : decode cX5_messageOf 46 = .ok (.invokevirtual 217, 3) := dk_182 0 217 (dk_at dksX5_messageOf_2 0 rfl rfl)
theorem dX5_messageOf_49 : decode cX5_messageOf 49 = .ok (.iload_n 1, 1) := dk_27 (dk_at dksX5_messageOf_2 3 rfl rfl)
theorem dX5_messageOf_50 : decode cX5_messageOf 50 = .ok (.if_icmp .eq 9, 3) := dk_159 0 9 (dk_at dksX5_messageOf_2 4 rfl rfl)
theorem dX5_messageOf_53 : decode cX5_messageOf 53 = .ok (.iinc 3 1, 3) := dk_132 3 1 (dk_at dksX5_messageOf_2 7 rfl rfl)
theorem dX5_messageOf_56 : decode cX5_messageOf 56 = .ok (.goto (-12), 3) := dk_167 255 244 (dk_at dksX5_messageOf_2 10 rfl rfl)
theorem dX5_messageOf_59 : decode cX5_messageOf 59 = .ok (.aload_n 0, 1) := dk_42 (dk_at dksX5_messageOf_2 13 rfl rfl)
theorem dX5_messageOf_60 : decode cX5_messageOf 60 = .ok (.iload_n 3, 1) := dk_29 (dk_at dksX5_messageOf_2 14 rfl rfl)
theorem dX5_messageOf_61 : decode cX5_messageOf 61 = .ok (.iload_n 2, 1) := dk_28 (dk_at dksX5_messageOf_2 15 rfl rfl)
theorem dX5_messageOf_62 : decode cX5_messageOf 62 = .ok (.invokevirtual 140, 3) := dk_182 0 140 (dk_at dksX5_messageOf_2 16 rfl rfl)
theorem dX5_messageOf_65 : decode cX5_messageOf 65 = .ok (.ireturn, 1) := dk_172 (dk_at dksX5_messageOf_2 19 rfl rfl)
abbrev cX5_turn : ByteArray := prog_25_method_68_code
def dkwX5_turn_2 : List UInt8 := [162, 0, 6, 132, 2, 1, 132, 3, 1, 167, 255, 205, 28, 172]
abbrev dktX5_turn_2 : List UInt8 := dkwX5_turn_2 ++ []
def dkwX5_turn_1 : List UInt8 := [182, 0, 140, 161, 0, 23, 42, 29, 6, 182, 0, 140, 42, 27, 6, 182, 0, 140, 160, 0, 11, 29, 27]
abbrev dktX5_turn_1 : List UInt8 := dkwX5_turn_1 ++ dktX5_turn_2
def dkwX5_turn_0 : List UInt8 := [3, 61, 3, 62, 29, 42, 180, 0, 9, 8, 46, 162, 0, 47, 42, 29, 6, 182, 0, 140, 42, 27, 6]
abbrev dktX5_turn_0 : List UInt8 := dkwX5_turn_0 ++ dktX5_turn_1
theorem dksX5_turn_0 : cX5_turn.data.toList.drop 0 = dktX5_turn_0 := by decide +kernel
theorem dksX5_turn_1 : cX5_turn.data.toList.drop 23 = dktX5_turn_1 := dk_seg dksX5_turn_0 23 rfl rfl
theorem dksX5_turn_2 : cX5_turn.data.toList.drop 46 = dktX5_turn_2 := dk_seg dksX5_turn_1 23 rfl rfl
theorem dX5_turn_0 : decode cX5_turn 0 = .ok (.iconst 0, 1) := dk_3 (dk_at dksX5_turn_0 0 rfl rfl)
theorem dX5_turn_1 : decode cX5_turn 1 = .ok (.istore_n 2, 1) := dk_61 (dk_at dksX5_turn_0 1 rfl rfl)
theorem dX5_turn_2 : decode cX5_turn 2 = .ok (.iconst 0, 1) := dk_3 (dk_at dksX5_turn_0 2 rfl rfl)
theorem dX5_turn_3 : decode cX5_turn 3 = .ok (.istore_n 3, 1) := dk_62 (dk_at dksX5_turn_0 3 rfl rfl)
theorem dX5_turn_4 : decode cX5_turn 4 = .ok (.iload_n 3, 1) := dk_29 (dk_at dksX5_turn_0 4 rfl rfl)
theorem dX5_turn_5 : decode cX5_turn 5 = .ok (.aload_n 0, 1) := dk_42 (dk_at dksX5_turn_0 5 rfl rfl)
theorem dX5_turn_6 : decode cX5_turn 6 = .ok (.getfield 9, 3) := dk_180 0 9 (dk_at dksX5_turn_0 6 rfl rfl)
theorem dX5_turn_9 : decode cX5_turn 9 = .ok (.iconst 5, 1) := dk_8 (dk_at dksX5_turn_0 9 rfl rfl)
theorem dX5_turn_10 : decode cX5_turn 10 = .ok (.iaload, 1) := dk_46 (dk_at dksX5_turn_0 10 rfl rfl)
theorem dX5_turn_11 : decode cX5_turn 11 = .ok (.if_icmp .ge 47, 3) := dk_162 0 47 (dk_at dksX5_turn_0 11 rfl rfl)
theorem dX5_turn_14 : decode cX5_turn 14 = .ok (.aload_n 0, 1) := dk_42 (dk_at dksX5_turn_0 14 rfl rfl)
theorem dX5_turn_15 : decode cX5_turn 15 = .ok (.iload_n 3, 1) := dk_29 (dk_at dksX5_turn_0 15 rfl rfl)
theorem dX5_turn_16 : decode cX5_turn 16 = .ok (.iconst 3, 1) := dk_6 (dk_at dksX5_turn_0 16 rfl rfl)
theorem dX5_turn_17 : decode cX5_turn 17 = .ok (.invokevirtual 140, 3) := dk_182 0 140 (dk_at dksX5_turn_0 17 rfl rfl)
theorem dX5_turn_20 : decode cX5_turn 20 = .ok (.aload_n 0, 1) := dk_42 (dk_at dksX5_turn_0 20 rfl rfl)
theorem dX5_turn_21 : decode cX5_turn 21 = .ok (.iload_n 1, 1) := dk_27 (dk_at dksX5_turn_0 21 rfl rfl)
theorem dX5_turn_22 : decode cX5_turn 22 = .ok (.iconst 3, 1) := dk_6 (dk_at dksX5_turn_0 22 rfl rfl)
theorem dX5_turn_23 : decode cX5_turn 23 = .ok (.invokevirtual 140, 3) := dk_182 0 140 (dk_at dksX5_turn_1 0 rfl rfl)
theorem dX5_turn_26 : decode cX5_turn 26 = .ok (.if_icmp .lt 23, 3) := dk_161 0 23 (dk_at dksX5_turn_1 3 rfl rfl)
theorem dX5_turn_29 : decode cX5_turn 29 = .ok (.aload_n 0, 1) := dk_42 (dk_at dksX5_turn_1 6 rfl rfl)
theorem dX5_turn_30 : decode cX5_turn 30 = .ok (.iload_n 3, 1) := dk_29 (dk_at dksX5_turn_1 7 rfl rfl)
theorem dX5_turn_31 : decode cX5_turn 31 = .ok (.iconst 3, 1) := dk_6 (dk_at dksX5_turn_1 8 rfl rfl)
theorem dX5_turn_32 : decode cX5_turn 32 = .ok (.invokevirtual 140, 3) := dk_182 0 140 (dk_at dksX5_turn_1 9 rfl rfl)
theorem dX5_turn_35 : decode cX5_turn 35 = .ok (.aload_n 0, 1) := dk_42 (dk_at dksX5_turn_1 12 rfl rfl)
theorem dX5_turn_36 : decode cX5_turn 36 = .ok (.iload_n 1, 1) := dk_27 (dk_at dksX5_turn_1 13 rfl rfl)
theorem dX5_turn_37 : decode cX5_turn 37 = .ok (.iconst 3, 1) := dk_6 (dk_at dksX5_turn_1 14 rfl rfl)
theorem dX5_turn_38 : decode cX5_turn 38 = .ok (.invokevirtual 140, 3) := dk_182 0 140 (dk_at dksX5_turn_1 15 rfl rfl)
theorem dX5_turn_41 : decode cX5_turn 41 = .ok (.if_icmp .ne 11, 3) := dk_160 0 11 (dk_at dksX5_turn_1 18 rfl rfl)
theorem dX5_turn_44 : decode cX5_turn 44 = .ok (.iload_n 3, 1) := dk_29 (dk_at dksX5_turn_1 21 rfl rfl)
theorem dX5_turn_45 : decode cX5_turn 45 = .ok (.iload_n 1, 1) := dk_27 (dk_at dksX5_turn_1 22 rfl rfl)
theorem dX5_turn_46 : decode cX5_turn 46 = .ok (.if_icmp .ge 6, 3) := dk_162 0 6 (dk_at dksX5_turn_2 0 rfl rfl)
theorem dX5_turn_49 : decode cX5_turn 49 = .ok (.iinc 2 1, 3) := dk_132 2 1 (dk_at dksX5_turn_2 3 rfl rfl)
theorem dX5_turn_52 : decode cX5_turn 52 = .ok (.iinc 3 1, 3) := dk_132 3 1 (dk_at dksX5_turn_2 6 rfl rfl)
theorem dX5_turn_55 : decode cX5_turn 55 = .ok (.goto (-51), 3) := dk_167 255 205 (dk_at dksX5_turn_2 9 rfl rfl)
theorem dX5_turn_58 : decode cX5_turn 58 = .ok (.iload_n 2, 1) := dk_28 (dk_at dksX5_turn_2 12 rfl rfl)
theorem dX5_turn_59 : decode cX5_turn 59 = .ok (.ireturn, 1) := dk_172 (dk_at dksX5_turn_2 13 rfl rfl)
abbrev cX5_logOf : ByteArray := prog_25_method_70_code
def dkwX5_logOf_4 : List UInt8 := [6, 182, 0, 149, 172]
abbrev dktX5_logOf_4 : List UInt8 := dkwX5_logOf_4 ++ []
def dkwX5_logOf_3 : List UInt8 := [180, 0, 9, 17, 1, 65, 6, 16, 16, 27, 4, 96, 104, 28, 96, 104, 96, 29, 96, 46, 167, 0, 8, 42]
abbrev dktX5_logOf_3 : List UInt8 := dkwX5_logOf_3 ++ dktX5_logOf_4
def dkwX5_logOf_2 : List UInt8 := [100, 184, 0, 62, 154, 0, 9, 42, 5, 182, 0, 149, 172, 29, 3, 5, 184, 0, 62, 153, 0, 27, 42]
abbrev dktX5_logOf_2 : List UInt8 := dkwX5_logOf_2 ++ dktX5_logOf_3
def dkwX5_logOf_1 : List UInt8 := [28, 3, 27, 2, 160, 0, 13, 42, 180, 0, 9, 16, 6, 46, 167, 0, 9, 42, 27, 5, 182, 0, 66, 4]
abbrev dktX5_logOf_1 : List UInt8 := dkwX5_logOf_1 ++ dktX5_logOf_2
def dkwX5_logOf_0 : List UInt8 := [42, 3, 181, 0, 46, 27, 2, 159, 0, 17, 42, 27, 182, 0, 158, 154, 0, 9, 42, 4, 182, 0, 149, 172]
abbrev dktX5_logOf_0 : List UInt8 := dkwX5_logOf_0 ++ dktX5_logOf_1
theorem dksX5_logOf_0 : cX5_logOf.data.toList.drop 0 = dktX5_logOf_0 := by decide +kernel
theorem dksX5_logOf_1 : cX5_logOf.data.toList.drop 24 = dktX5_logOf_1 := dk_seg dksX5_logOf_0 24 rfl rfl
theorem dksX5_logOf_2 : cX5_logOf.data.toList.drop 48 = dktX5_logOf_2 := dk_seg dksX5_logOf_1 24 rfl rfl
theorem dksX5_logOf_3 : cX5_logOf.data.toList.drop 71 = dktX5_logOf_3 := dk_seg dksX5_logOf_2 23 rfl rfl
theorem dksX5_logOf_4 : cX5_logOf.data.toList.drop 95 = dktX5_logOf_4 := dk_seg dksX5_logOf_3 24 rfl rfl
theorem dX5_logOf_0 : decode cX5_logOf 0 = .ok (.aload_n 0, 1) := dk_42 (dk_at dksX5_logOf_0 0 rfl rfl)
theorem dX5_logOf_1 : decode cX5_logOf 1 = .ok (.iconst 0, 1) := dk_3 (dk_at dksX5_logOf_0 1 rfl rfl)
theorem dX5_logOf_2 : decode cX5_logOf 2 = .ok (.putfield 46, 3) := dk_181 0 46 (dk_at dksX5_logOf_0 2 rfl rfl)
theorem dX5_logOf_5 : decode cX5_logOf 5 = .ok (.iload_n 1, 1) := dk_27 (dk_at dksX5_logOf_0 5 rfl rfl)
theorem dX5_logOf_6 : decode cX5_logOf 6 = .ok (.iconst (-1), 1) := dk_2 (dk_at dksX5_logOf_0 6 rfl rfl)
theorem dX5_logOf_7 : decode cX5_logOf 7 = .ok (.if_icmp .eq 17, 3) := dk_159 0 17 (dk_at dksX5_logOf_0 7 rfl rfl)
theorem dX5_logOf_10 : decode cX5_logOf 10 = .ok (.aload_n 0, 1) := dk_42 (dk_at dksX5_logOf_0 10 rfl rfl)
theorem dX5_logOf_11 : decode cX5_logOf 11 = .ok (.iload_n 1, 1) := dk_27 (dk_at dksX5_logOf_0 11 rfl rfl)
theorem dX5_logOf_12 : decode cX5_logOf 12 = .ok (.invokevirtual 158, 3) := dk_182 0 158 (dk_at dksX5_logOf_0 12 rfl rfl)
theorem dX5_logOf_15 : decode cX5_logOf 15 = .ok (.ifCond .ne 9, 3) := dk_154 0 9 (dk_at dksX5_logOf_0 15 rfl rfl)
theorem dX5_logOf_18 : decode cX5_logOf 18 = .ok (.aload_n 0, 1) := dk_42 (dk_at dksX5_logOf_0 18 rfl rfl)
theorem dX5_logOf_19 : decode cX5_logOf 19 = .ok (.iconst 1, 1) := dk_4 (dk_at dksX5_logOf_0 19 rfl rfl)
theorem dX5_logOf_20 : decode cX5_logOf 20 = .ok (.invokevirtual 149, 3) := dk_182 0 149 (dk_at dksX5_logOf_0 20 rfl rfl)
theorem dX5_logOf_23 : decode cX5_logOf 23 = .ok (.ireturn, 1) := dk_172 (dk_at dksX5_logOf_0 23 rfl rfl)
theorem dX5_logOf_24 : decode cX5_logOf 24 = .ok (.iload_n 2, 1) := dk_28 (dk_at dksX5_logOf_1 0 rfl rfl)
theorem dX5_logOf_25 : decode cX5_logOf 25 = .ok (.iconst 0, 1) := dk_3 (dk_at dksX5_logOf_1 1 rfl rfl)
theorem dX5_logOf_26 : decode cX5_logOf 26 = .ok (.iload_n 1, 1) := dk_27 (dk_at dksX5_logOf_1 2 rfl rfl)
theorem dX5_logOf_27 : decode cX5_logOf 27 = .ok (.iconst (-1), 1) := dk_2 (dk_at dksX5_logOf_1 3 rfl rfl)
theorem dX5_logOf_28 : decode cX5_logOf 28 = .ok (.if_icmp .ne 13, 3) := dk_160 0 13 (dk_at dksX5_logOf_1 4 rfl rfl)
theorem dX5_logOf_31 : decode cX5_logOf 31 = .ok (.aload_n 0, 1) := dk_42 (dk_at dksX5_logOf_1 7 rfl rfl)
theorem dX5_logOf_32 : decode cX5_logOf 32 = .ok (.getfield 9, 3) := dk_180 0 9 (dk_at dksX5_logOf_1 8 rfl rfl)
theorem dX5_logOf_35 : decode cX5_logOf 35 = .ok (.bipush 6, 2) := dk_16 6 (dk_at dksX5_logOf_1 11 rfl rfl)
theorem dX5_logOf_37 : decode cX5_logOf 37 = .ok (.iaload, 1) := dk_46 (dk_at dksX5_logOf_1 13 rfl rfl)
theorem dX5_logOf_38 : decode cX5_logOf 38 = .ok (.goto 9, 3) := dk_167 0 9 (dk_at dksX5_logOf_1 14 rfl rfl)
theorem dX5_logOf_41 : decode cX5_logOf 41 = .ok (.aload_n 0, 1) := dk_42 (dk_at dksX5_logOf_1 17 rfl rfl)
theorem dX5_logOf_42 : decode cX5_logOf 42 = .ok (.iload_n 1, 1) := dk_27 (dk_at dksX5_logOf_1 18 rfl rfl)
theorem dX5_logOf_43 : decode cX5_logOf 43 = .ok (.iconst 2, 1) := dk_5 (dk_at dksX5_logOf_1 19 rfl rfl)
theorem dX5_logOf_44 : decode cX5_logOf 44 = .ok (.invokevirtual 66, 3) := dk_182 0 66 (dk_at dksX5_logOf_1 20 rfl rfl)
theorem dX5_logOf_47 : decode cX5_logOf 47 = .ok (.iconst 1, 1) := dk_4 (dk_at dksX5_logOf_1 23 rfl rfl)
theorem dX5_logOf_48 : decode cX5_logOf 48 = .ok (.isub, 1) := dk_100 (dk_at dksX5_logOf_2 0 rfl rfl)
theorem dX5_logOf_49 : decode cX5_logOf 49 = .ok (.invokestatic 62, 3) := dk_184 0 62 (dk_at dksX5_logOf_2 1 rfl rfl)
theorem dX5_logOf_52 : decode cX5_logOf 52 = .ok (.ifCond .ne 9, 3) := dk_154 0 9 (dk_at dksX5_logOf_2 4 rfl rfl)
theorem dX5_logOf_55 : decode cX5_logOf 55 = .ok (.aload_n 0, 1) := dk_42 (dk_at dksX5_logOf_2 7 rfl rfl)
theorem dX5_logOf_56 : decode cX5_logOf 56 = .ok (.iconst 2, 1) := dk_5 (dk_at dksX5_logOf_2 8 rfl rfl)
theorem dX5_logOf_57 : decode cX5_logOf 57 = .ok (.invokevirtual 149, 3) := dk_182 0 149 (dk_at dksX5_logOf_2 9 rfl rfl)
theorem dX5_logOf_60 : decode cX5_logOf 60 = .ok (.ireturn, 1) := dk_172 (dk_at dksX5_logOf_2 12 rfl rfl)
theorem dX5_logOf_61 : decode cX5_logOf 61 = .ok (.iload_n 3, 1) := dk_29 (dk_at dksX5_logOf_2 13 rfl rfl)
theorem dX5_logOf_62 : decode cX5_logOf 62 = .ok (.iconst 0, 1) := dk_3 (dk_at dksX5_logOf_2 14 rfl rfl)
theorem dX5_logOf_63 : decode cX5_logOf 63 = .ok (.iconst 2, 1) := dk_5 (dk_at dksX5_logOf_2 15 rfl rfl)
theorem dX5_logOf_64 : decode cX5_logOf 64 = .ok (.invokestatic 62, 3) := dk_184 0 62 (dk_at dksX5_logOf_2 16 rfl rfl)
theorem dX5_logOf_67 : decode cX5_logOf 67 = .ok (.ifCond .eq 27, 3) := dk_153 0 27 (dk_at dksX5_logOf_2 19 rfl rfl)
theorem dX5_logOf_70 : decode cX5_logOf 70 = .ok (.aload_n 0, 1) := dk_42 (dk_at dksX5_logOf_2 22 rfl rfl)
theorem dX5_logOf_71 : decode cX5_logOf 71 = .ok (.getfield 9, 3) := dk_180 0 9 (dk_at dksX5_logOf_3 0 rfl rfl)
theorem dX5_logOf_74 : decode cX5_logOf 74 = .ok (.sipush 321, 3) := dk_17 1 65 (dk_at dksX5_logOf_3 3 rfl rfl)
theorem dX5_logOf_77 : decode cX5_logOf 77 = .ok (.iconst 3, 1) := dk_6 (dk_at dksX5_logOf_3 6 rfl rfl)
theorem dX5_logOf_78 : decode cX5_logOf 78 = .ok (.bipush 16, 2) := dk_16 16 (dk_at dksX5_logOf_3 7 rfl rfl)
theorem dX5_logOf_80 : decode cX5_logOf 80 = .ok (.iload_n 1, 1) := dk_27 (dk_at dksX5_logOf_3 9 rfl rfl)
theorem dX5_logOf_81 : decode cX5_logOf 81 = .ok (.iconst 1, 1) := dk_4 (dk_at dksX5_logOf_3 10 rfl rfl)
theorem dX5_logOf_82 : decode cX5_logOf 82 = .ok (.iadd, 1) := dk_96 (dk_at dksX5_logOf_3 11 rfl rfl)
theorem dX5_logOf_83 : decode cX5_logOf 83 = .ok (.imul, 1) := dk_104 (dk_at dksX5_logOf_3 12 rfl rfl)
theorem dX5_logOf_84 : decode cX5_logOf 84 = .ok (.iload_n 2, 1) := dk_28 (dk_at dksX5_logOf_3 13 rfl rfl)
theorem dX5_logOf_85 : decode cX5_logOf 85 = .ok (.iadd, 1) := dk_96 (dk_at dksX5_logOf_3 14 rfl rfl)
theorem dX5_logOf_86 : decode cX5_logOf 86 = .ok (.imul, 1) := dk_104 (dk_at dksX5_logOf_3 15 rfl rfl)
theorem dX5_logOf_87 : decode cX5_logOf 87 = .ok (.iadd, 1) := dk_96 (dk_at dksX5_logOf_3 16 rfl rfl)
theorem dX5_logOf_88 : decode cX5_logOf 88 = .ok (.iload_n 3, 1) := dk_29 (dk_at dksX5_logOf_3 17 rfl rfl)
theorem dX5_logOf_89 : decode cX5_logOf 89 = .ok (.iadd, 1) := dk_96 (dk_at dksX5_logOf_3 18 rfl rfl)
theorem dX5_logOf_90 : decode cX5_logOf 90 = .ok (.iaload, 1) := dk_46 (dk_at dksX5_logOf_3 19 rfl rfl)
theorem dX5_logOf_91 : decode cX5_logOf 91 = .ok (.goto 8, 3) := dk_167 0 8 (dk_at dksX5_logOf_3 20 rfl rfl)
theorem dX5_logOf_94 : decode cX5_logOf 94 = .ok (.aload_n 0, 1) := dk_42 (dk_at dksX5_logOf_3 23 rfl rfl)
theorem dX5_logOf_95 : decode cX5_logOf 95 = .ok (.iconst 3, 1) := dk_6 (dk_at dksX5_logOf_4 0 rfl rfl)
theorem dX5_logOf_96 : decode cX5_logOf 96 = .ok (.invokevirtual 149, 3) := dk_182 0 149 (dk_at dksX5_logOf_4 1 rfl rfl)
theorem dX5_logOf_99 : decode cX5_logOf 99 = .ok (.ireturn, 1) := dk_172 (dk_at dksX5_logOf_4 4 rfl rfl)
abbrev cX5_ranked : ByteArray := prog_25_method_72_code
def dkwX5_ranked_3 : List UInt8 := [167, 255, 195, 42, 4, 182, 0, 149, 172]
abbrev dktX5_ranked_3 : List UInt8 := dkwX5_ranked_3 ++ []
def dkwX5_ranked_2 : List UInt8 := [153, 0, 6, 132, 3, 1, 132, 4, 1, 167, 255, 223, 29, 27, 160, 0, 5, 28, 172, 132, 2, 1]
abbrev dktX5_ranked_2 : List UInt8 := dkwX5_ranked_2 ++ dktX5_ranked_3
def dkwX5_ranked_1 : List UInt8 := [42, 180, 0, 9, 4, 46, 162, 0, 28, 21, 4, 28, 159, 0, 16, 42, 21, 4, 28, 182, 0, 220]
abbrev dktX5_ranked_1 : List UInt8 := dkwX5_ranked_1 ++ dktX5_ranked_2
def dkwX5_ranked_0 : List UInt8 := [42, 3, 181, 0, 46, 3, 61, 28, 42, 180, 0, 9, 4, 46, 162, 0, 57, 3, 62, 3, 54, 4, 21, 4]
abbrev dktX5_ranked_0 : List UInt8 := dkwX5_ranked_0 ++ dktX5_ranked_1
theorem dksX5_ranked_0 : cX5_ranked.data.toList.drop 0 = dktX5_ranked_0 := by decide +kernel
theorem dksX5_ranked_1 : cX5_ranked.data.toList.drop 24 = dktX5_ranked_1 := dk_seg dksX5_ranked_0 24 rfl rfl
theorem dksX5_ranked_2 : cX5_ranked.data.toList.drop 46 = dktX5_ranked_2 := dk_seg dksX5_ranked_1 22 rfl rfl
theorem dksX5_ranked_3 : cX5_ranked.data.toList.drop 68 = dktX5_ranked_3 := dk_seg dksX5_ranked_2 22 rfl rfl
theorem dX5_ranked_0 : decode cX5_ranked 0 = .ok (.aload_n 0, 1) := dk_42 (dk_at dksX5_ranked_0 0 rfl rfl)
theorem dX5_ranked_1 : decode cX5_ranked 1 = .ok (.iconst 0, 1) := dk_3 (dk_at dksX5_ranked_0 1 rfl rfl)
theorem dX5_ranked_2 : decode cX5_ranked 2 = .ok (.putfield 46, 3) := dk_181 0 46 (dk_at dksX5_ranked_0 2 rfl rfl)
theorem dX5_ranked_5 : decode cX5_ranked 5 = .ok (.iconst 0, 1) := dk_3 (dk_at dksX5_ranked_0 5 rfl rfl)
theorem dX5_ranked_6 : decode cX5_ranked 6 = .ok (.istore_n 2, 1) := dk_61 (dk_at dksX5_ranked_0 6 rfl rfl)
theorem dX5_ranked_7 : decode cX5_ranked 7 = .ok (.iload_n 2, 1) := dk_28 (dk_at dksX5_ranked_0 7 rfl rfl)
theorem dX5_ranked_8 : decode cX5_ranked 8 = .ok (.aload_n 0, 1) := dk_42 (dk_at dksX5_ranked_0 8 rfl rfl)
theorem dX5_ranked_9 : decode cX5_ranked 9 = .ok (.getfield 9, 3) := dk_180 0 9 (dk_at dksX5_ranked_0 9 rfl rfl)
theorem dX5_ranked_12 : decode cX5_ranked 12 = .ok (.iconst 1, 1) := dk_4 (dk_at dksX5_ranked_0 12 rfl rfl)
theorem dX5_ranked_13 : decode cX5_ranked 13 = .ok (.iaload, 1) := dk_46 (dk_at dksX5_ranked_0 13 rfl rfl)
theorem dX5_ranked_14 : decode cX5_ranked 14 = .ok (.if_icmp .ge 57, 3) := dk_162 0 57 (dk_at dksX5_ranked_0 14 rfl rfl)
theorem dX5_ranked_17 : decode cX5_ranked 17 = .ok (.iconst 0, 1) := dk_3 (dk_at dksX5_ranked_0 17 rfl rfl)
theorem dX5_ranked_18 : decode cX5_ranked 18 = .ok (.istore_n 3, 1) := dk_62 (dk_at dksX5_ranked_0 18 rfl rfl)
theorem dX5_ranked_19 : decode cX5_ranked 19 = .ok (.iconst 0, 1) := dk_3 (dk_at dksX5_ranked_0 19 rfl rfl)
theorem dX5_ranked_20 : decode cX5_ranked 20 = .ok (.istore 4, 2) := dk_54 4 (dk_at dksX5_ranked_0 20 rfl rfl)
theorem dX5_ranked_22 : decode cX5_ranked 22 = .ok (.iload 4, 2) := dk_21 4 (dk_at dksX5_ranked_0 22 rfl rfl)
theorem dX5_ranked_24 : decode cX5_ranked 24 = .ok (.aload_n 0, 1) := dk_42 (dk_at dksX5_ranked_1 0 rfl rfl)
theorem dX5_ranked_25 : decode cX5_ranked 25 = .ok (.getfield 9, 3) := dk_180 0 9 (dk_at dksX5_ranked_1 1 rfl rfl)
theorem dX5_ranked_28 : decode cX5_ranked 28 = .ok (.iconst 1, 1) := dk_4 (dk_at dksX5_ranked_1 4 rfl rfl)
theorem dX5_ranked_29 : decode cX5_ranked 29 = .ok (.iaload, 1) := dk_46 (dk_at dksX5_ranked_1 5 rfl rfl)
theorem dX5_ranked_30 : decode cX5_ranked 30 = .ok (.if_icmp .ge 28, 3) := dk_162 0 28 (dk_at dksX5_ranked_1 6 rfl rfl)
theorem dX5_ranked_33 : decode cX5_ranked 33 = .ok (.iload 4, 2) := dk_21 4 (dk_at dksX5_ranked_1 9 rfl rfl)
theorem dX5_ranked_35 : decode cX5_ranked 35 = .ok (.iload_n 2, 1) := dk_28 (dk_at dksX5_ranked_1 11 rfl rfl)
theorem dX5_ranked_36 : decode cX5_ranked 36 = .ok (.if_icmp .eq 16, 3) := dk_159 0 16 (dk_at dksX5_ranked_1 12 rfl rfl)
theorem dX5_ranked_39 : decode cX5_ranked 39 = .ok (.aload_n 0, 1) := dk_42 (dk_at dksX5_ranked_1 15 rfl rfl)
theorem dX5_ranked_40 : decode cX5_ranked 40 = .ok (.iload 4, 2) := dk_21 4 (dk_at dksX5_ranked_1 16 rfl rfl)
theorem dX5_ranked_42 : decode cX5_ranked 42 = .ok (.iload_n 2, 1) := dk_28 (dk_at dksX5_ranked_1 18 rfl rfl)
theorem dX5_ranked_43 : decode cX5_ranked 43 = .ok (.invokevirtual 220, 3) := dk_182 0 220 (dk_at dksX5_ranked_1 19 rfl rfl)
theorem dX5_ranked_46 : decode cX5_ranked 46 = .ok (.ifCond .eq 6, 3) := dk_153 0 6 (dk_at dksX5_ranked_2 0 rfl rfl)
theorem dX5_ranked_49 : decode cX5_ranked 49 = .ok (.iinc 3 1, 3) := dk_132 3 1 (dk_at dksX5_ranked_2 3 rfl rfl)
theorem dX5_ranked_52 : decode cX5_ranked 52 = .ok (.iinc 4 1, 3) := dk_132 4 1 (dk_at dksX5_ranked_2 6 rfl rfl)
theorem dX5_ranked_55 : decode cX5_ranked 55 = .ok (.goto (-33), 3) := dk_167 255 223 (dk_at dksX5_ranked_2 9 rfl rfl)
theorem dX5_ranked_58 : decode cX5_ranked 58 = .ok (.iload_n 3, 1) := dk_29 (dk_at dksX5_ranked_2 12 rfl rfl)
theorem dX5_ranked_59 : decode cX5_ranked 59 = .ok (.iload_n 1, 1) := dk_27 (dk_at dksX5_ranked_2 13 rfl rfl)
theorem dX5_ranked_60 : decode cX5_ranked 60 = .ok (.if_icmp .ne 5, 3) := dk_160 0 5 (dk_at dksX5_ranked_2 14 rfl rfl)
theorem dX5_ranked_63 : decode cX5_ranked 63 = .ok (.iload_n 2, 1) := dk_28 (dk_at dksX5_ranked_2 17 rfl rfl)
theorem dX5_ranked_64 : decode cX5_ranked 64 = .ok (.ireturn, 1) := dk_172 (dk_at dksX5_ranked_2 18 rfl rfl)
theorem dX5_ranked_65 : decode cX5_ranked 65 = .ok (.iinc 2 1, 3) := dk_132 2 1 (dk_at dksX5_ranked_2 19 rfl rfl)
theorem dX5_ranked_68 : decode cX5_ranked 68 = .ok (.goto (-61), 3) := dk_167 255 195 (dk_at dksX5_ranked_3 0 rfl rfl)
theorem dX5_ranked_71 : decode cX5_ranked 71 = .ok (.aload_n 0, 1) := dk_42 (dk_at dksX5_ranked_3 3 rfl rfl)
theorem dX5_ranked_72 : decode cX5_ranked 72 = .ok (.iconst 1, 1) := dk_4 (dk_at dksX5_ranked_3 4 rfl rfl)
theorem dX5_ranked_73 : decode cX5_ranked 73 = .ok (.invokevirtual 149, 3) := dk_182 0 149 (dk_at dksX5_ranked_3 5 rfl rfl)
theorem dX5_ranked_76 : decode cX5_ranked 76 = .ok (.ireturn, 1) := dk_172 (dk_at dksX5_ranked_3 8 rfl rfl)
abbrev cX5_isAhead : ByteArray := prog_25_method_71_code
def dkwX5_isAhead_2 : List UInt8 := [172]
abbrev dktX5_isAhead_2 : List UInt8 := dkwX5_isAhead_2 ++ []
def dkwX5_isAhead_1 : List UInt8 := [3, 182, 0, 66, 100, 62, 29, 157, 0, 12, 29, 154, 0, 12, 27, 28, 162, 0, 7, 4, 167, 0, 4, 3]
abbrev dktX5_isAhead_1 : List UInt8 := dkwX5_isAhead_1 ++ dktX5_isAhead_2
def dkwX5_isAhead_0 : List UInt8 := [42, 27, 182, 0, 164, 42, 28, 182, 0, 164, 100, 62, 29, 154, 0, 17, 42, 28, 3, 182, 0, 66, 42, 27]
abbrev dktX5_isAhead_0 : List UInt8 := dkwX5_isAhead_0 ++ dktX5_isAhead_1
theorem dksX5_isAhead_0 : cX5_isAhead.data.toList.drop 0 = dktX5_isAhead_0 := by decide +kernel
theorem dksX5_isAhead_1 : cX5_isAhead.data.toList.drop 24 = dktX5_isAhead_1 := dk_seg dksX5_isAhead_0 24 rfl rfl
theorem dksX5_isAhead_2 : cX5_isAhead.data.toList.drop 48 = dktX5_isAhead_2 := dk_seg dksX5_isAhead_1 24 rfl rfl
theorem dX5_isAhead_0 : decode cX5_isAhead 0 = .ok (.aload_n 0, 1) := dk_42 (dk_at dksX5_isAhead_0 0 rfl rfl)
theorem dX5_isAhead_1 : decode cX5_isAhead 1 = .ok (.iload_n 1, 1) := dk_27 (dk_at dksX5_isAhead_0 1 rfl rfl)
theorem dX5_isAhead_2 : decode cX5_isAhead 2 = .ok (.invokevirtual 164, 3) := dk_182 0 164 (dk_at dksX5_isAhead_0 2 rfl rfl)
theorem dX5_isAhead_5 : decode cX5_isAhead 5 = .ok (.aload_n 0, 1) := dk_42 (dk_at dksX5_isAhead_0 5 rfl rfl)
theorem dX5_isAhead_6 : decode cX5_isAhead 6 = .ok (.iload_n 2, 1) := dk_28 (dk_at dksX5_isAhead_0 6 rfl rfl)
theorem dX5_isAhead_7 : decode cX5_isAhead 7 = .ok (.invokevirtual 164, 3) := dk_182 0 164 (dk_at dksX5_isAhead_0 7 rfl rfl)
theorem dX5_isAhead_10 : decode cX5_isAhead 10 = .ok (.isub, 1) := dk_100 (dk_at dksX5_isAhead_0 10 rfl rfl)
theorem dX5_isAhead_11 : decode cX5_isAhead 11 = .ok (.istore_n 3, 1) := dk_62 (dk_at dksX5_isAhead_0 11 rfl rfl)
theorem dX5_isAhead_12 : decode cX5_isAhead 12 = .ok (.iload_n 3, 1) := dk_29 (dk_at dksX5_isAhead_0 12 rfl rfl)
theorem dX5_isAhead_13 : decode cX5_isAhead 13 = .ok (.ifCond .ne 17, 3) := dk_154 0 17 (dk_at dksX5_isAhead_0 13 rfl rfl)
theorem dX5_isAhead_16 : decode cX5_isAhead 16 = .ok (.aload_n 0, 1) := dk_42 (dk_at dksX5_isAhead_0 16 rfl rfl)
theorem dX5_isAhead_17 : decode cX5_isAhead 17 = .ok (.iload_n 2, 1) := dk_28 (dk_at dksX5_isAhead_0 17 rfl rfl)
theorem dX5_isAhead_18 : decode cX5_isAhead 18 = .ok (.iconst 0, 1) := dk_3 (dk_at dksX5_isAhead_0 18 rfl rfl)
theorem dX5_isAhead_19 : decode cX5_isAhead 19 = .ok (.invokevirtual 66, 3) := dk_182 0 66 (dk_at dksX5_isAhead_0 19 rfl rfl)
theorem dX5_isAhead_22 : decode cX5_isAhead 22 = .ok (.aload_n 0, 1) := dk_42 (dk_at dksX5_isAhead_0 22 rfl rfl)
theorem dX5_isAhead_23 : decode cX5_isAhead 23 = .ok (.iload_n 1, 1) := dk_27 (dk_at dksX5_isAhead_0 23 rfl rfl)
theorem dX5_isAhead_24 : decode cX5_isAhead 24 = .ok (.iconst 0, 1) := dk_3 (dk_at dksX5_isAhead_1 0 rfl rfl)
theorem dX5_isAhead_25 : decode cX5_isAhead 25 = .ok (.invokevirtual 66, 3) := dk_182 0 66 (dk_at dksX5_isAhead_1 1 rfl rfl)
theorem dX5_isAhead_28 : decode cX5_isAhead 28 = .ok (.isub, 1) := dk_100 (dk_at dksX5_isAhead_1 4 rfl rfl)
theorem dX5_isAhead_29 : decode cX5_isAhead 29 = .ok (.istore_n 3, 1) := dk_62 (dk_at dksX5_isAhead_1 5 rfl rfl)
theorem dX5_isAhead_30 : decode cX5_isAhead 30 = .ok (.iload_n 3, 1) := dk_29 (dk_at dksX5_isAhead_1 6 rfl rfl)
theorem dX5_isAhead_31 : decode cX5_isAhead 31 = .ok (.ifCond .gt 12, 3) := dk_157 0 12 (dk_at dksX5_isAhead_1 7 rfl rfl)
theorem dX5_isAhead_34 : decode cX5_isAhead 34 = .ok (.iload_n 3, 1) := dk_29 (dk_at dksX5_isAhead_1 10 rfl rfl)
theorem dX5_isAhead_35 : decode cX5_isAhead 35 = .ok (.ifCond .ne 12, 3) := dk_154 0 12 (dk_at dksX5_isAhead_1 11 rfl rfl)
theorem dX5_isAhead_38 : decode cX5_isAhead 38 = .ok (.iload_n 1, 1) := dk_27 (dk_at dksX5_isAhead_1 14 rfl rfl)
theorem dX5_isAhead_39 : decode cX5_isAhead 39 = .ok (.iload_n 2, 1) := dk_28 (dk_at dksX5_isAhead_1 15 rfl rfl)
theorem dX5_isAhead_40 : decode cX5_isAhead 40 = .ok (.if_icmp .ge 7, 3) := dk_162 0 7 (dk_at dksX5_isAhead_1 16 rfl rfl)
theorem dX5_isAhead_43 : decode cX5_isAhead 43 = .ok (.iconst 1, 1) := dk_4 (dk_at dksX5_isAhead_1 19 rfl rfl)
theorem dX5_isAhead_44 : decode cX5_isAhead 44 = .ok (.goto 4, 3) := dk_167 0 4 (dk_at dksX5_isAhead_1 20 rfl rfl)
theorem dX5_isAhead_47 : decode cX5_isAhead 47 = .ok (.iconst 0, 1) := dk_3 (dk_at dksX5_isAhead_1 23 rfl rfl)
theorem dX5_isAhead_48 : decode cX5_isAhead 48 = .ok (.ireturn, 1) := dk_172 (dk_at dksX5_isAhead_2 0 rfl rfl)
abbrev cX5_type : ByteArray := prog_25_method_73_code
def dkwX5_type_1 : List UInt8 := [42, 89, 180, 0, 223, 90, 4, 96, 181, 0, 223, 27, 85, 42, 180, 0, 223, 172]
abbrev dktX5_type_1 : List UInt8 := dkwX5_type_1 ++ []
def dkwX5_type_0 : List UInt8 := [42, 3, 181, 0, 46, 42, 180, 0, 223, 16, 60, 160, 0, 9, 42, 4, 182, 0, 149, 172, 42, 180, 0, 30]
abbrev dktX5_type_0 : List UInt8 := dkwX5_type_0 ++ dktX5_type_1
theorem dksX5_type_0 : cX5_type.data.toList.drop 0 = dktX5_type_0 := by decide +kernel
theorem dksX5_type_1 : cX5_type.data.toList.drop 24 = dktX5_type_1 := dk_seg dksX5_type_0 24 rfl rfl
theorem dX5_type_0 : decode cX5_type 0 = .ok (.aload_n 0, 1) := dk_42 (dk_at dksX5_type_0 0 rfl rfl)
theorem dX5_type_1 : decode cX5_type 1 = .ok (.iconst 0, 1) := dk_3 (dk_at dksX5_type_0 1 rfl rfl)
theorem dX5_type_2 : decode cX5_type 2 = .ok (.putfield 46, 3) := dk_181 0 46 (dk_at dksX5_type_0 2 rfl rfl)
theorem dX5_type_5 : decode cX5_type 5 = .ok (.aload_n 0, 1) := dk_42 (dk_at dksX5_type_0 5 rfl rfl)
theorem dX5_type_6 : decode cX5_type 6 = .ok (.getfield 223, 3) := dk_180 0 223 (dk_at dksX5_type_0 6 rfl rfl)
theorem dX5_type_9 : decode cX5_type 9 = .ok (.bipush 60, 2) := dk_16 60 (dk_at dksX5_type_0 9 rfl rfl)
theorem dX5_type_11 : decode cX5_type 11 = .ok (.if_icmp .ne 9, 3) := dk_160 0 9 (dk_at dksX5_type_0 11 rfl rfl)
theorem dX5_type_14 : decode cX5_type 14 = .ok (.aload_n 0, 1) := dk_42 (dk_at dksX5_type_0 14 rfl rfl)
theorem dX5_type_15 : decode cX5_type 15 = .ok (.iconst 1, 1) := dk_4 (dk_at dksX5_type_0 15 rfl rfl)
theorem dX5_type_16 : decode cX5_type 16 = .ok (.invokevirtual 149, 3) := dk_182 0 149 (dk_at dksX5_type_0 16 rfl rfl)
theorem dX5_type_19 : decode cX5_type 19 = .ok (.ireturn, 1) := dk_172 (dk_at dksX5_type_0 19 rfl rfl)
theorem dX5_type_20 : decode cX5_type 20 = .ok (.aload_n 0, 1) := dk_42 (dk_at dksX5_type_0 20 rfl rfl)
theorem dX5_type_21 : decode cX5_type 21 = .ok (.getfield 30, 3) := dk_180 0 30 (dk_at dksX5_type_0 21 rfl rfl)
theorem dX5_type_24 : decode cX5_type 24 = .ok (.aload_n 0, 1) := dk_42 (dk_at dksX5_type_1 0 rfl rfl)
theorem dX5_type_25 : decode cX5_type 25 = .ok (.dup, 1) := dk_89 (dk_at dksX5_type_1 1 rfl rfl)
theorem dX5_type_26 : decode cX5_type 26 = .ok (.getfield 223, 3) := dk_180 0 223 (dk_at dksX5_type_1 2 rfl rfl)
theorem dX5_type_29 : decode cX5_type 29 = .ok (.dup_x1, 1) := dk_90 (dk_at dksX5_type_1 5 rfl rfl)
theorem dX5_type_30 : decode cX5_type 30 = .ok (.iconst 1, 1) := dk_4 (dk_at dksX5_type_1 6 rfl rfl)
theorem dX5_type_31 : decode cX5_type 31 = .ok (.iadd, 1) := dk_96 (dk_at dksX5_type_1 7 rfl rfl)
theorem dX5_type_32 : decode cX5_type 32 = .ok (.putfield 223, 3) := dk_181 0 223 (dk_at dksX5_type_1 8 rfl rfl)
theorem dX5_type_35 : decode cX5_type 35 = .ok (.iload_n 1, 1) := dk_27 (dk_at dksX5_type_1 11 rfl rfl)
theorem dX5_type_36 : decode cX5_type 36 = .ok (.castore, 1) := dk_85 (dk_at dksX5_type_1 12 rfl rfl)
theorem dX5_type_37 : decode cX5_type 37 = .ok (.aload_n 0, 1) := dk_42 (dk_at dksX5_type_1 13 rfl rfl)
theorem dX5_type_38 : decode cX5_type 38 = .ok (.getfield 223, 3) := dk_180 0 223 (dk_at dksX5_type_1 14 rfl rfl)
theorem dX5_type_41 : decode cX5_type 41 = .ok (.ireturn, 1) := dk_172 (dk_at dksX5_type_1 17 rfl rfl)
abbrev cX5_read : ByteArray := prog_25_method_81_code
def dkwX5_read_7 : List UInt8 := [182, 0, 149, 172]
abbrev dktX5_read_7 : List UInt8 := dkwX5_read_7 ++ []
def dkwX5_read_6 : List UInt8 := [29, 154, 0, 9, 42, 28, 182, 0, 155, 172, 42, 16, 13, 28, 182, 0, 152, 62, 42, 182, 1, 38, 42, 5]
abbrev dktX5_read_6 : List UInt8 := dkwX5_read_6 ++ dktX5_read_7
def dkwX5_read_5 : List UInt8 := [42, 16, 59, 182, 1, 25, 153, 0, 7, 4, 167, 0, 4, 3, 54, 4, 167, 255, 214, 42, 3, 181, 0, 223]
abbrev dktX5_read_5 : List UInt8 := dkwX5_read_5 ++ dktX5_read_6
def dkwX5_read_4 : List UInt8 := [153, 0, 43, 42, 182, 1, 32, 60, 42, 182, 1, 35, 62, 29, 154, 0, 6, 132, 2, 1, 29, 154, 0, 16]
abbrev dktX5_read_4 : List UInt8 := dkwX5_read_4 ++ dktX5_read_5
def dkwX5_read_3 : List UInt8 := [181, 0, 223, 42, 4, 182, 0, 149, 172, 42, 3, 181, 0, 226, 3, 61, 3, 62, 4, 54, 4, 21, 4]
abbrev dktX5_read_3 : List UInt8 := dkwX5_read_3 ++ dktX5_read_4
def dkwX5_read_2 : List UInt8 := [167, 0, 4, 3, 60, 167, 255, 219, 27, 154, 0, 22, 42, 42, 180, 0, 226, 181, 0, 42, 42, 3]
abbrev dktX5_read_2 : List UInt8 := dkwX5_read_2 ++ dktX5_read_3
def dkwX5_read_1 : List UInt8 := [180, 0, 223, 162, 0, 28, 42, 16, 59, 182, 1, 25, 153, 0, 14, 42, 182, 1, 32, 153, 0, 7, 4]
abbrev dktX5_read_1 : List UInt8 := dkwX5_read_1 ++ dktX5_read_2
def dkwX5_read_0 : List UInt8 := [42, 182, 0, 146, 42, 3, 181, 0, 226, 42, 182, 1, 32, 60, 27, 153, 0, 39, 42, 180, 0, 226, 42]
abbrev dktX5_read_0 : List UInt8 := dkwX5_read_0 ++ dktX5_read_1
theorem dksX5_read_0 : cX5_read.data.toList.drop 0 = dktX5_read_0 := by decide +kernel
theorem dksX5_read_1 : cX5_read.data.toList.drop 23 = dktX5_read_1 := dk_seg dksX5_read_0 23 rfl rfl
theorem dksX5_read_2 : cX5_read.data.toList.drop 46 = dktX5_read_2 := dk_seg dksX5_read_1 23 rfl rfl
theorem dksX5_read_3 : cX5_read.data.toList.drop 68 = dktX5_read_3 := dk_seg dksX5_read_2 22 rfl rfl
theorem dksX5_read_4 : cX5_read.data.toList.drop 91 = dktX5_read_4 := dk_seg dksX5_read_3 23 rfl rfl
theorem dksX5_read_5 : cX5_read.data.toList.drop 115 = dktX5_read_5 := dk_seg dksX5_read_4 24 rfl rfl
theorem dksX5_read_6 : cX5_read.data.toList.drop 139 = dktX5_read_6 := dk_seg dksX5_read_5 24 rfl rfl
theorem dksX5_read_7 : cX5_read.data.toList.drop 163 = dktX5_read_7 := dk_seg dksX5_read_6 24 rfl rfl
theorem dX5_read_0 : decode cX5_read 0 = .ok (.aload_n 0, 1) := dk_42 (dk_at dksX5_read_0 0 rfl rfl)
theorem dX5_read_1 : decode cX5_read 1 = .ok (.invokevirtual 146, 3) := dk_182 0 146 (dk_at dksX5_read_0 1 rfl rfl)
theorem dX5_read_4 : decode cX5_read 4 = .ok (.aload_n 0, 1) := dk_42 (dk_at dksX5_read_0 4 rfl rfl)
theorem dX5_read_5 : decode cX5_read 5 = .ok (.iconst 0, 1) := dk_3 (dk_at dksX5_read_0 5 rfl rfl)
theorem dX5_read_6 : decode cX5_read 6 = .ok (.putfield 226, 3) := dk_181 0 226 (dk_at dksX5_read_0 6 rfl rfl)
theorem dX5_read_9 : decode cX5_read 9 = .ok (.aload_n 0, 1) := dk_42 (dk_at dksX5_read_0 9 rfl rfl)
theorem dX5_read_10 : decode cX5_read 10 = .ok (.invokevirtual 288, 3) := dk_182 1 32 (dk_at dksX5_read_0 10 rfl rfl)
theorem dX5_read_13 : decode cX5_read 13 = .ok (.istore_n 1, 1) := dk_60 (dk_at dksX5_read_0 13 rfl rfl)
theorem dX5_read_14 : decode cX5_read 14 = .ok (.iload_n 1, 1) := dk_27 (dk_at dksX5_read_0 14 rfl rfl)
theorem dX5_read_15 : decode cX5_read 15 = .ok (.ifCond .eq 39, 3) := dk_153 0 39 (dk_at dksX5_read_0 15 rfl rfl)
theorem dX5_read_18 : decode cX5_read 18 = .ok (.aload_n 0, 1) := dk_42 (dk_at dksX5_read_0 18 rfl rfl)
theorem dX5_read_19 : decode cX5_read 19 = .ok (.getfield 226, 3) := dk_180 0 226 (dk_at dksX5_read_0 19 rfl rfl)
theorem dX5_read_22 : decode cX5_read 22 = .ok (.aload_n 0, 1) := dk_42 (dk_at dksX5_read_0 22 rfl rfl)
theorem dX5_read_23 : decode cX5_read 23 = .ok (.getfield 223, 3) := dk_180 0 223 (dk_at dksX5_read_1 0 rfl rfl)
theorem dX5_read_26 : decode cX5_read 26 = .ok (.if_icmp .ge 28, 3) := dk_162 0 28 (dk_at dksX5_read_1 3 rfl rfl)
theorem dX5_read_29 : decode cX5_read 29 = .ok (.aload_n 0, 1) := dk_42 (dk_at dksX5_read_1 6 rfl rfl)
theorem dX5_read_30 : decode cX5_read 30 = .ok (.bipush 59, 2) := dk_16 59 (dk_at dksX5_read_1 7 rfl rfl)
theorem dX5_read_32 : decode cX5_read 32 = .ok (.invokevirtual 281, 3) := dk_182 1 25 (dk_at dksX5_read_1 9 rfl rfl)
theorem dX5_read_35 : decode cX5_read 35 = .ok (.ifCond .eq 14, 3) := dk_153 0 14 (dk_at dksX5_read_1 12 rfl rfl)
theorem dX5_read_38 : decode cX5_read 38 = .ok (.aload_n 0, 1) := dk_42 (dk_at dksX5_read_1 15 rfl rfl)
theorem dX5_read_39 : decode cX5_read 39 = .ok (.invokevirtual 288, 3) := dk_182 1 32 (dk_at dksX5_read_1 16 rfl rfl)
theorem dX5_read_42 : decode cX5_read 42 = .ok (.ifCond .eq 7, 3) := dk_153 0 7 (dk_at dksX5_read_1 19 rfl rfl)
theorem dX5_read_45 : decode cX5_read 45 = .ok (.iconst 1, 1) := dk_4 (dk_at dksX5_read_1 22 rfl rfl)
theorem dX5_read_46 : decode cX5_read 46 = .ok (.goto 4, 3) := dk_167 0 4 (dk_at dksX5_read_2 0 rfl rfl)
theorem dX5_read_49 : decode cX5_read 49 = .ok (.iconst 0, 1) := dk_3 (dk_at dksX5_read_2 3 rfl rfl)
theorem dX5_read_50 : decode cX5_read 50 = .ok (.istore_n 1, 1) := dk_60 (dk_at dksX5_read_2 4 rfl rfl)
theorem dX5_read_51 : decode cX5_read 51 = .ok (.goto (-37), 3) := dk_167 255 219 (dk_at dksX5_read_2 5 rfl rfl)
theorem dX5_read_54 : decode cX5_read 54 = .ok (.iload_n 1, 1) := dk_27 (dk_at dksX5_read_2 8 rfl rfl)
theorem dX5_read_55 : decode cX5_read 55 = .ok (.ifCond .ne 22, 3) := dk_154 0 22 (dk_at dksX5_read_2 9 rfl rfl)
theorem dX5_read_58 : decode cX5_read 58 = .ok (.aload_n 0, 1) := dk_42 (dk_at dksX5_read_2 12 rfl rfl)
theorem dX5_read_59 : decode cX5_read 59 = .ok (.aload_n 0, 1) := dk_42 (dk_at dksX5_read_2 13 rfl rfl)
theorem dX5_read_60 : decode cX5_read 60 = .ok (.getfield 226, 3) := dk_180 0 226 (dk_at dksX5_read_2 14 rfl rfl)
theorem dX5_read_63 : decode cX5_read 63 = .ok (.putfield 42, 3) := dk_181 0 42 (dk_at dksX5_read_2 17 rfl rfl)
theorem dX5_read_66 : decode cX5_read 66 = .ok (.aload_n 0, 1) := dk_42 (dk_at dksX5_read_2 20 rfl rfl)
theorem dX5_read_67 : decode cX5_read 67 = .ok (.iconst 0, 1) := dk_3 (dk_at dksX5_read_2 21 rfl rfl)
theorem dX5_read_68 : decode cX5_read 68 = .ok (.putfield 223, 3) := dk_181 0 223 (dk_at dksX5_read_3 0 rfl rfl)
theorem dX5_read_71 : decode cX5_read 71 = .ok (.aload_n 0, 1) := dk_42 (dk_at dksX5_read_3 3 rfl rfl)
theorem dX5_read_72 : decode cX5_read 72 = .ok (.iconst 1, 1) := dk_4 (dk_at dksX5_read_3 4 rfl rfl)
theorem dX5_read_73 : decode cX5_read 73 = .ok (.invokevirtual 149, 3) := dk_182 0 149 (dk_at dksX5_read_3 5 rfl rfl)
theorem dX5_read_76 : decode cX5_read 76 = .ok (.ireturn, 1) := dk_172 (dk_at dksX5_read_3 8 rfl rfl)
theorem dX5_read_77 : decode cX5_read 77 = .ok (.aload_n 0, 1) := dk_42 (dk_at dksX5_read_3 9 rfl rfl)
theorem dX5_read_78 : decode cX5_read 78 = .ok (.iconst 0, 1) := dk_3 (dk_at dksX5_read_3 10 rfl rfl)
theorem dX5_read_79 : decode cX5_read 79 = .ok (.putfield 226, 3) := dk_181 0 226 (dk_at dksX5_read_3 11 rfl rfl)
theorem dX5_read_82 : decode cX5_read 82 = .ok (.iconst 0, 1) := dk_3 (dk_at dksX5_read_3 14 rfl rfl)
theorem dX5_read_83 : decode cX5_read 83 = .ok (.istore_n 2, 1) := dk_61 (dk_at dksX5_read_3 15 rfl rfl)
theorem dX5_read_84 : decode cX5_read 84 = .ok (.iconst 0, 1) := dk_3 (dk_at dksX5_read_3 16 rfl rfl)
theorem dX5_read_85 : decode cX5_read 85 = .ok (.istore_n 3, 1) := dk_62 (dk_at dksX5_read_3 17 rfl rfl)
theorem dX5_read_86 : decode cX5_read 86 = .ok (.iconst 1, 1) := dk_4 (dk_at dksX5_read_3 18 rfl rfl)
theorem dX5_read_87 : decode cX5_read 87 = .ok (.istore 4, 2) := dk_54 4 (dk_at dksX5_read_3 19 rfl rfl)
theorem dX5_read_89 : decode cX5_read 89 = .ok (.iload 4, 2) := dk_21 4 (dk_at dksX5_read_3 21 rfl rfl)
theorem dX5_read_91 : decode cX5_read 91 = .ok (.ifCond .eq 43, 3) := dk_153 0 43 (dk_at dksX5_read_4 0 rfl rfl)
theorem dX5_read_94 : decode cX5_read 94 = .ok (.aload_n 0, 1) := dk_42 (dk_at dksX5_read_4 3 rfl rfl)
theorem dX5_read_95 : decode cX5_read 95 = .ok (.invokevirtual 288, 3) := dk_182 1 32 (dk_at dksX5_read_4 4 rfl rfl)
theorem dX5_read_98 : decode cX5_read 98 = .ok (.istore_n 1, 1) := dk_60 (dk_at dksX5_read_4 7 rfl rfl)
theorem dX5_read_99 : decode cX5_read 99 = .ok (.aload_n 0, 1) := dk_42 (dk_at dksX5_read_4 8 rfl rfl)
theorem dX5_read_100 : decode cX5_read 100 = .ok (.invokevirtual 291, 3) := dk_182 1 35 (dk_at dksX5_read_4 9 rfl rfl)
theorem dX5_read_103 : decode cX5_read 103 = .ok (.istore_n 3, 1) := dk_62 (dk_at dksX5_read_4 12 rfl rfl)
theorem dX5_read_104 : decode cX5_read 104 = .ok (.iload_n 3, 1) := dk_29 (dk_at dksX5_read_4 13 rfl rfl)
theorem dX5_read_105 : decode cX5_read 105 = .ok (.ifCond .ne 6, 3) := dk_154 0 6 (dk_at dksX5_read_4 14 rfl rfl)
theorem dX5_read_108 : decode cX5_read 108 = .ok (.iinc 2 1, 3) := dk_132 2 1 (dk_at dksX5_read_4 17 rfl rfl)
theorem dX5_read_111 : decode cX5_read 111 = .ok (.iload_n 3, 1) := dk_29 (dk_at dksX5_read_4 20 rfl rfl)
theorem dX5_read_112 : decode cX5_read 112 = .ok (.ifCond .ne 16, 3) := dk_154 0 16 (dk_at dksX5_read_4 21 rfl rfl)
theorem dX5_read_115 : decode cX5_read 115 = .ok (.aload_n 0, 1) := dk_42 (dk_at dksX5_read_5 0 rfl rfl)
theorem dX5_read_116 : decode cX5_read 116 = .ok (.bipush 59, 2) := dk_16 59 (dk_at dksX5_read_5 1 rfl rfl)
theorem dX5_read_118 : decode cX5_read 118 = .ok (.invokevirtual 281, 3) := dk_182 1 25 (dk_at dksX5_read_5 3 rfl rfl)
theorem dX5_read_121 : decode cX5_read 121 = .ok (.ifCond .eq 7, 3) := dk_153 0 7 (dk_at dksX5_read_5 6 rfl rfl)
theorem dX5_read_124 : decode cX5_read 124 = .ok (.iconst 1, 1) := dk_4 (dk_at dksX5_read_5 9 rfl rfl)
theorem dX5_read_125 : decode cX5_read 125 = .ok (.goto 4, 3) := dk_167 0 4 (dk_at dksX5_read_5 10 rfl rfl)
theorem dX5_read_128 : decode cX5_read 128 = .ok (.iconst 0, 1) := dk_3 (dk_at dksX5_read_5 13 rfl rfl)
theorem dX5_read_129 : decode cX5_read 129 = .ok (.istore 4, 2) := dk_54 4 (dk_at dksX5_read_5 14 rfl rfl)
theorem dX5_read_131 : decode cX5_read 131 = .ok (.goto (-42), 3) := dk_167 255 214 (dk_at dksX5_read_5 16 rfl rfl)
theorem dX5_read_134 : decode cX5_read 134 = .ok (.aload_n 0, 1) := dk_42 (dk_at dksX5_read_5 19 rfl rfl)
theorem dX5_read_135 : decode cX5_read 135 = .ok (.iconst 0, 1) := dk_3 (dk_at dksX5_read_5 20 rfl rfl)
theorem dX5_read_136 : decode cX5_read 136 = .ok (.putfield 223, 3) := dk_181 0 223 (dk_at dksX5_read_5 21 rfl rfl)
theorem dX5_read_139 : decode cX5_read 139 = .ok (.iload_n 3, 1) := dk_29 (dk_at dksX5_read_6 0 rfl rfl)
theorem dX5_read_140 : decode cX5_read 140 = .ok (.ifCond .ne 9, 3) := dk_154 0 9 (dk_at dksX5_read_6 1 rfl rfl)
theorem dX5_read_143 : decode cX5_read 143 = .ok (.aload_n 0, 1) := dk_42 (dk_at dksX5_read_6 4 rfl rfl)
theorem dX5_read_144 : decode cX5_read 144 = .ok (.iload_n 2, 1) := dk_28 (dk_at dksX5_read_6 5 rfl rfl)
theorem dX5_read_145 : decode cX5_read 145 = .ok (.invokevirtual 155, 3) := dk_182 0 155 (dk_at dksX5_read_6 6 rfl rfl)
theorem dX5_read_148 : decode cX5_read 148 = .ok (.ireturn, 1) := dk_172 (dk_at dksX5_read_6 9 rfl rfl)
theorem dX5_read_149 : decode cX5_read 149 = .ok (.aload_n 0, 1) := dk_42 (dk_at dksX5_read_6 10 rfl rfl)
theorem dX5_read_150 : decode cX5_read 150 = .ok (.bipush 13, 2) := dk_16 13 (dk_at dksX5_read_6 11 rfl rfl)
theorem dX5_read_152 : decode cX5_read 152 = .ok (.iload_n 2, 1) := dk_28 (dk_at dksX5_read_6 13 rfl rfl)
theorem dX5_read_153 : decode cX5_read 153 = .ok (.invokevirtual 152, 3) := dk_182 0 152 (dk_at dksX5_read_6 14 rfl rfl)
theorem dX5_read_156 : decode cX5_read 156 = .ok (.istore_n 3, 1) := dk_62 (dk_at dksX5_read_6 17 rfl rfl)
theorem dX5_read_157 : decode cX5_read 157 = .ok (.aload_n 0, 1) := dk_42 (dk_at dksX5_read_6 18 rfl rfl)
theorem dX5_read_158 : decode cX5_read 158 = .ok (.invokevirtual 294, 3) := dk_182 1 38 (dk_at dksX5_read_6 19 rfl rfl)
theorem dX5_read_161 : decode cX5_read 161 = .ok (.aload_n 0, 1) := dk_42 (dk_at dksX5_read_6 22 rfl rfl)
theorem dX5_read_162 : decode cX5_read 162 = .ok (.iconst 2, 1) := dk_5 (dk_at dksX5_read_6 23 rfl rfl)
theorem dX5_read_163 : decode cX5_read 163 = .ok (.invokevirtual 149, 3) := dk_182 0 149 (dk_at dksX5_read_7 0 rfl rfl)
theorem dX5_read_166 : decode cX5_read 166 = .ok (.ireturn, 1) := dk_172 (dk_at dksX5_read_7 3 rfl rfl)
abbrev cX5_isCommand : ByteArray := prog_25_method_79_code
def dkwX5_isCommand_9 : List UInt8 := [5, 182, 0, 255, 153, 0, 7, 4, 167, 0, 4, 3, 172, 42, 182, 1, 29, 172]
abbrev dktX5_isCommand_9 : List UInt8 := dkwX5_isCommand_9 ++ []
def dkwX5_isCommand_8 : List UInt8 := [182, 1, 25, 153, 0, 32, 42, 4, 182, 0, 255, 153, 0, 24, 42, 16, 32, 182, 1, 25, 153, 0, 15, 42]
abbrev dktX5_isCommand_8 : List UInt8 := dkwX5_isCommand_8 ++ dktX5_isCommand_9
def dkwX5_isCommand_7 : List UInt8 := [42, 3, 182, 0, 255, 172, 42, 182, 1, 21, 172, 42, 3, 182, 0, 255, 153, 0, 41, 42, 16, 32]
abbrev dktX5_isCommand_7 : List UInt8 := dkwX5_isCommand_7 ++ dktX5_isCommand_8
def dkwX5_isCommand_6 : List UInt8 := [170, 0, 0, 0, 0, 0, 94, 0, 0, 0, 0, 0, 0, 0, 4, 0, 0, 0, 35, 0, 0, 0, 35, 0, 0, 0, 41, 0, 0, 0, 41, 0, 0, 0, 46]
abbrev dktX5_isCommand_6 : List UInt8 := dkwX5_isCommand_6 ++ dktX5_isCommand_7
def dkwX5_isCommand_5 : List UInt8 := [7, 61, 28]
abbrev dktX5_isCommand_5 : List UInt8 := dkwX5_isCommand_5 ++ dktX5_isCommand_6
def dkwX5_isCommand_4 : List UInt8 := [19, 1, 17, 182, 1, 9, 153, 0, 20, 6, 61, 167, 0, 15, 43, 19, 1, 19, 182, 1, 9, 153, 0, 5]
abbrev dktX5_isCommand_4 : List UInt8 := dkwX5_isCommand_4 ++ dktX5_isCommand_5
def dkwX5_isCommand_3 : List UInt8 := [153, 0, 50, 4, 61, 167, 0, 45, 43, 19, 1, 15, 182, 1, 9, 153, 0, 35, 5, 61, 167, 0, 30, 43]
abbrev dktX5_isCommand_3 : List UInt8 := dkwX5_isCommand_3 ++ dktX5_isCommand_4
def dkwX5_isCommand_2 : List UInt8 := [43, 19, 1, 7, 182, 1, 9, 153, 0, 65, 3, 61, 167, 0, 60, 43, 19, 1, 13, 182, 1, 9]
abbrev dktX5_isCommand_2 : List UInt8 := dkwX5_isCommand_2 ++ dktX5_isCommand_3
def dkwX5_isCommand_1 : List UInt8 := [171, 0, 0, 0, 121, 0, 0, 0, 5, 179, 150, 157, 76, 0, 0, 0, 79, 190, 8, 122, 92, 0, 0, 0, 109, 0, 45, 212, 199, 0, 0, 0, 49, 6, 186, 162, 252, 0, 0, 0, 94, 32, 203, 160, 230, 0, 0, 0, 64]
abbrev dktX5_isCommand_1 : List UInt8 := dkwX5_isCommand_1 ++ dktX5_isCommand_2
def dkwX5_isCommand_0 : List UInt8 := [42, 19, 1, 2, 182, 0, 251, 154, 0, 5, 3, 172, 42, 180, 0, 35, 76, 2, 61, 43, 182, 1, 4]
abbrev dktX5_isCommand_0 : List UInt8 := dkwX5_isCommand_0 ++ dktX5_isCommand_1
theorem dksX5_isCommand_0 : cX5_isCommand.data.toList.drop 0 = dktX5_isCommand_0 := by decide +kernel
theorem dksX5_isCommand_1 : cX5_isCommand.data.toList.drop 23 = dktX5_isCommand_1 := dk_seg dksX5_isCommand_0 23 rfl rfl
theorem dksX5_isCommand_2 : cX5_isCommand.data.toList.drop 72 = dktX5_isCommand_2 := dk_seg dksX5_isCommand_1 49 rfl rfl
theorem dksX5_isCommand_3 : cX5_isCommand.data.toList.drop 94 = dktX5_isCommand_3 := dk_seg dksX5_isCommand_2 22 rfl rfl
theorem dksX5_isCommand_4 : cX5_isCommand.data.toList.drop 118 = dktX5_isCommand_4 := dk_seg dksX5_isCommand_3 24 rfl rfl
theorem dksX5_isCommand_5 : cX5_isCommand.data.toList.drop 142 = dktX5_isCommand_5 := dk_seg dksX5_isCommand_4 24 rfl rfl
theorem dksX5_isCommand_6 : cX5_isCommand.data.toList.drop 145 = dktX5_isCommand_6 := dk_seg dksX5_isCommand_5 3 rfl rfl
theorem dksX5_isCommand_7 : cX5_isCommand.data.toList.drop 180 = dktX5_isCommand_7 := dk_seg dksX5_isCommand_6 35 rfl rfl
theorem dksX5_isCommand_8 : cX5_isCommand.data.toList.drop 202 = dktX5_isCommand_8 := dk_seg dksX5_isCommand_7 22 rfl rfl
theorem dksX5_isCommand_9 : cX5_isCommand.data.toList.drop 226 = dktX5_isCommand_9 := dk_seg dksX5_isCommand_8 24 rfl rfl
theorem dX5_isCommand_0 : decode cX5_isCommand 0 = .ok (.aload_n 0, 1) := dk_42 (dk_at dksX5_isCommand_0 0 rfl rfl)
theorem dX5_isCommand_1 : decode cX5_isCommand 1 = .ok (.ldc_w 258, 3) := dk_19 1 2 (dk_at dksX5_isCommand_0 1 rfl rfl)
theorem dX5_isCommand_4 : decode cX5_isCommand 4 = .ok (.invokevirtual 251, 3) := dk_182 0 251 (dk_at dksX5_isCommand_0 4 rfl rfl)
theorem dX5_isCommand_7 : decode cX5_isCommand 7 = .ok (.ifCond .ne 5, 3) := dk_154 0 5 (dk_at dksX5_isCommand_0 7 rfl rfl)
theorem dX5_isCommand_10 : decode cX5_isCommand 10 = .ok (.iconst 0, 1) := dk_3 (dk_at dksX5_isCommand_0 10 rfl rfl)
theorem dX5_isCommand_11 : decode cX5_isCommand 11 = .ok (.ireturn, 1) := dk_172 (dk_at dksX5_isCommand_0 11 rfl rfl)
theorem dX5_isCommand_12 : decode cX5_isCommand 12 = .ok (.aload_n 0, 1) := dk_42 (dk_at dksX5_isCommand_0 12 rfl rfl)
theorem dX5_isCommand_13 : decode cX5_isCommand 13 = .ok (.getfield 35, 3) := dk_180 0 35 (dk_at dksX5_isCommand_0 13 rfl rfl)
theorem dX5_isCommand_16 : decode cX5_isCommand 16 = .ok (.astore_n 1, 1) := dk_76 (dk_at dksX5_isCommand_0 16 rfl rfl)
theorem dX5_isCommand_17 : decode cX5_isCommand 17 = .ok (.iconst (-1), 1) := dk_2 (dk_at dksX5_isCommand_0 17 rfl rfl)
theorem dX5_isCommand_18 : decode cX5_isCommand 18 = .ok (.istore_n 2, 1) := dk_61 (dk_at dksX5_isCommand_0 18 rfl rfl)
theorem dX5_isCommand_19 : decode cX5_isCommand 19 = .ok (.aload_n 1, 1) := dk_43 (dk_at dksX5_isCommand_0 19 rfl rfl)
theorem dX5_isCommand_20 : decode cX5_isCommand 20 = .ok (.invokevirtual 260, 3) := dk_182 1 4 (dk_at dksX5_isCommand_0 20 rfl rfl)
theorem dX5_isCommand_23 : decode cX5_isCommand 23 = .ok (.lookupswitch 121 #[(-1281974964, 79), (-1106740644, 109), (3003591, 49), (112894716, 94), (550215910, 64)], 49) := by decide +kernel
theorem dX5_isCommand_72 : decode cX5_isCommand 72 = .ok (.aload_n 1, 1) := dk_43 (dk_at dksX5_isCommand_2 0 rfl rfl)
theorem dX5_isCommand_73 : decode cX5_isCommand 73 = .ok (.ldc_w 263, 3) := dk_19 1 7 (dk_at dksX5_isCommand_2 1 rfl rfl)
theorem dX5_isCommand_76 : decode cX5_isCommand 76 = .ok (.invokevirtual 265, 3) := dk_182 1 9 (dk_at dksX5_isCommand_2 4 rfl rfl)
theorem dX5_isCommand_79 : decode cX5_isCommand 79 = .ok (.ifCond .eq 65, 3) := dk_153 0 65 (dk_at dksX5_isCommand_2 7 rfl rfl)
theorem dX5_isCommand_82 : decode cX5_isCommand 82 = .ok (.iconst 0, 1) := dk_3 (dk_at dksX5_isCommand_2 10 rfl rfl)
theorem dX5_isCommand_83 : decode cX5_isCommand 83 = .ok (.istore_n 2, 1) := dk_61 (dk_at dksX5_isCommand_2 11 rfl rfl)
theorem dX5_isCommand_84 : decode cX5_isCommand 84 = .ok (.goto 60, 3) := dk_167 0 60 (dk_at dksX5_isCommand_2 12 rfl rfl)
theorem dX5_isCommand_87 : decode cX5_isCommand 87 = .ok (.aload_n 1, 1) := dk_43 (dk_at dksX5_isCommand_2 15 rfl rfl)
theorem dX5_isCommand_88 : decode cX5_isCommand 88 = .ok (.ldc_w 269, 3) := dk_19 1 13 (dk_at dksX5_isCommand_2 16 rfl rfl)
theorem dX5_isCommand_91 : decode cX5_isCommand 91 = .ok (.invokevirtual 265, 3) := dk_182 1 9 (dk_at dksX5_isCommand_2 19 rfl rfl)
theorem dX5_isCommand_94 : decode cX5_isCommand 94 = .ok (.ifCond .eq 50, 3) := dk_153 0 50 (dk_at dksX5_isCommand_3 0 rfl rfl)
theorem dX5_isCommand_97 : decode cX5_isCommand 97 = .ok (.iconst 1, 1) := dk_4 (dk_at dksX5_isCommand_3 3 rfl rfl)
theorem dX5_isCommand_98 : decode cX5_isCommand 98 = .ok (.istore_n 2, 1) := dk_61 (dk_at dksX5_isCommand_3 4 rfl rfl)
theorem dX5_isCommand_99 : decode cX5_isCommand 99 = .ok (.goto 45, 3) := dk_167 0 45 (dk_at dksX5_isCommand_3 5 rfl rfl)
theorem dX5_isCommand_102 : decode cX5_isCommand 102 = .ok (.aload_n 1, 1) := dk_43 (dk_at dksX5_isCommand_3 8 rfl rfl)
theorem dX5_isCommand_103 : decode cX5_isCommand 103 = .ok (.ldc_w 271, 3) := dk_19 1 15 (dk_at dksX5_isCommand_3 9 rfl rfl)
theorem dX5_isCommand_106 : decode cX5_isCommand 106 = .ok (.invokevirtual 265, 3) := dk_182 1 9 (dk_at dksX5_isCommand_3 12 rfl rfl)
theorem dX5_isCommand_109 : decode cX5_isCommand 109 = .ok (.ifCond .eq 35, 3) := dk_153 0 35 (dk_at dksX5_isCommand_3 15 rfl rfl)
theorem dX5_isCommand_112 : decode cX5_isCommand 112 = .ok (.iconst 2, 1) := dk_5 (dk_at dksX5_isCommand_3 18 rfl rfl)
theorem dX5_isCommand_113 : decode cX5_isCommand 113 = .ok (.istore_n 2, 1) := dk_61 (dk_at dksX5_isCommand_3 19 rfl rfl)
theorem dX5_isCommand_114 : decode cX5_isCommand 114 = .ok (.goto 30, 3) := dk_167 0 30 (dk_at dksX5_isCommand_3 20 rfl rfl)
theorem dX5_isCommand_117 : decode cX5_isCommand 117 = .ok (.aload_n 1, 1) := dk_43 (dk_at dksX5_isCommand_3 23 rfl rfl)
theorem dX5_isCommand_118 : decode cX5_isCommand 118 = .ok (.ldc_w 273, 3) := dk_19 1 17 (dk_at dksX5_isCommand_4 0 rfl rfl)
theorem dX5_isCommand_121 : decode cX5_isCommand 121 = .ok (.invokevirtual 265, 3) := dk_182 1 9 (dk_at dksX5_isCommand_4 3 rfl rfl)
theorem dX5_isCommand_124 : decode cX5_isCommand 124 = .ok (.ifCond .eq 20, 3) := dk_153 0 20 (dk_at dksX5_isCommand_4 6 rfl rfl)
theorem dX5_isCommand_127 : decode cX5_isCommand 127 = .ok (.iconst 3, 1) := dk_6 (dk_at dksX5_isCommand_4 9 rfl rfl)
theorem dX5_isCommand_128 : decode cX5_isCommand 128 = .ok (.istore_n 2, 1) := dk_61 (dk_at dksX5_isCommand_4 10 rfl rfl)
theorem dX5_isCommand_129 : decode cX5_isCommand 129 = .ok (.goto 15, 3) := dk_167 0 15 (dk_at dksX5_isCommand_4 11 rfl rfl)
theorem dX5_isCommand_132 : decode cX5_isCommand 132 = .ok (.aload_n 1, 1) := dk_43 (dk_at dksX5_isCommand_4 14 rfl rfl)
theorem dX5_isCommand_133 : decode cX5_isCommand 133 = .ok (.ldc_w 275, 3) := dk_19 1 19 (dk_at dksX5_isCommand_4 15 rfl rfl)
theorem dX5_isCommand_136 : decode cX5_isCommand 136 = .ok (.invokevirtual 265, 3) := dk_182 1 9 (dk_at dksX5_isCommand_4 18 rfl rfl)
theorem dX5_isCommand_139 : decode cX5_isCommand 139 = .ok (.ifCond .eq 5, 3) := dk_153 0 5 (dk_at dksX5_isCommand_4 21 rfl rfl)
theorem dX5_isCommand_142 : decode cX5_isCommand 142 = .ok (.iconst 4, 1) := dk_7 (dk_at dksX5_isCommand_5 0 rfl rfl)
theorem dX5_isCommand_143 : decode cX5_isCommand 143 = .ok (.istore_n 2, 1) := dk_61 (dk_at dksX5_isCommand_5 1 rfl rfl)
theorem dX5_isCommand_144 : decode cX5_isCommand 144 = .ok (.iload_n 2, 1) := dk_28 (dk_at dksX5_isCommand_5 2 rfl rfl)
theorem dX5_isCommand_145 : decode cX5_isCommand 145 = .ok (.tableswitch 94 0 4 #[35, 35, 41, 41, 46], 35) := by decide +kernel
theorem dX5_isCommand_180 : decode cX5_isCommand 180 = .ok (.aload_n 0, 1) := dk_42 (dk_at dksX5_isCommand_7 0 rfl rfl)
theorem dX5_isCommand_181 : decode cX5_isCommand 181 = .ok (.iconst 0, 1) := dk_3 (dk_at dksX5_isCommand_7 1 rfl rfl)
theorem dX5_isCommand_182 : decode cX5_isCommand 182 = .ok (.invokevirtual 255, 3) := dk_182 0 255 (dk_at dksX5_isCommand_7 2 rfl rfl)
theorem dX5_isCommand_185 : decode cX5_isCommand 185 = .ok (.ireturn, 1) := dk_172 (dk_at dksX5_isCommand_7 5 rfl rfl)
theorem dX5_isCommand_186 : decode cX5_isCommand 186 = .ok (.aload_n 0, 1) := dk_42 (dk_at dksX5_isCommand_7 6 rfl rfl)
theorem dX5_isCommand_187 : decode cX5_isCommand 187 = .ok (.invokevirtual 277, 3) := dk_182 1 21 (dk_at dksX5_isCommand_7 7 rfl rfl)
theorem dX5_isCommand_190 : decode cX5_isCommand 190 = .ok (.ireturn, 1) := dk_172 (dk_at dksX5_isCommand_7 10 rfl rfl)
theorem dX5_isCommand_191 : decode cX5_isCommand 191 = .ok (.aload_n 0, 1) := dk_42 (dk_at dksX5_isCommand_7 11 rfl rfl)
theorem dX5_isCommand_192 : decode cX5_isCommand 192 = .ok (.iconst 0, 1) := dk_3 (dk_at dksX5_isCommand_7 12 rfl rfl)
theorem dX5_isCommand_193 : decode cX5_isCommand 193 = .ok (.invokevirtual 255, 3) := dk_182 0 255 (dk_at dksX5_isCommand_7 13 rfl rfl)
theorem dX5_isCommand_196 : decode cX5_isCommand 196 = .ok (.ifCond .eq 41, 3) := dk_153 0 41 (dk_at dksX5_isCommand_7 16 rfl rfl)
theorem dX5_isCommand_199 : decode cX5_isCommand 199 = .ok (.aload_n 0, 1) := dk_42 (dk_at dksX5_isCommand_7 19 rfl rfl)
theorem dX5_isCommand_200 : decode cX5_isCommand 200 = .ok (.bipush 32, 2) := dk_16 32 (dk_at dksX5_isCommand_7 20 rfl rfl)
theorem dX5_isCommand_202 : decode cX5_isCommand 202 = .ok (.invokevirtual 281, 3) := dk_182 1 25 (dk_at dksX5_isCommand_8 0 rfl rfl)
theorem dX5_isCommand_205 : decode cX5_isCommand 205 = .ok (.ifCond .eq 32, 3) := dk_153 0 32 (dk_at dksX5_isCommand_8 3 rfl rfl)
theorem dX5_isCommand_208 : decode cX5_isCommand 208 = .ok (.aload_n 0, 1) := dk_42 (dk_at dksX5_isCommand_8 6 rfl rfl)
theorem dX5_isCommand_209 : decode cX5_isCommand 209 = .ok (.iconst 1, 1) := dk_4 (dk_at dksX5_isCommand_8 7 rfl rfl)
theorem dX5_isCommand_210 : decode cX5_isCommand 210 = .ok (.invokevirtual 255, 3) := dk_182 0 255 (dk_at dksX5_isCommand_8 8 rfl rfl)
theorem dX5_isCommand_213 : decode cX5_isCommand 213 = .ok (.ifCond .eq 24, 3) := dk_153 0 24 (dk_at dksX5_isCommand_8 11 rfl rfl)
theorem dX5_isCommand_216 : decode cX5_isCommand 216 = .ok (.aload_n 0, 1) := dk_42 (dk_at dksX5_isCommand_8 14 rfl rfl)
theorem dX5_isCommand_217 : decode cX5_isCommand 217 = .ok (.bipush 32, 2) := dk_16 32 (dk_at dksX5_isCommand_8 15 rfl rfl)
theorem dX5_isCommand_219 : decode cX5_isCommand 219 = .ok (.invokevirtual 281, 3) := dk_182 1 25 (dk_at dksX5_isCommand_8 17 rfl rfl)
theorem dX5_isCommand_222 : decode cX5_isCommand 222 = .ok (.ifCond .eq 15, 3) := dk_153 0 15 (dk_at dksX5_isCommand_8 20 rfl rfl)
theorem dX5_isCommand_225 : decode cX5_isCommand 225 = .ok (.aload_n 0, 1) := dk_42 (dk_at dksX5_isCommand_8 23 rfl rfl)
theorem dX5_isCommand_226 : decode cX5_isCommand 226 = .ok (.iconst 2, 1) := dk_5 (dk_at dksX5_isCommand_9 0 rfl rfl)
theorem dX5_isCommand_227 : decode cX5_isCommand 227 = .ok (.invokevirtual 255, 3) := dk_182 0 255 (dk_at dksX5_isCommand_9 1 rfl rfl)
theorem dX5_isCommand_230 : decode cX5_isCommand 230 = .ok (.ifCond .eq 7, 3) := dk_153 0 7 (dk_at dksX5_isCommand_9 4 rfl rfl)
theorem dX5_isCommand_233 : decode cX5_isCommand 233 = .ok (.iconst 1, 1) := dk_4 (dk_at dksX5_isCommand_9 7 rfl rfl)
theorem dX5_isCommand_234 : decode cX5_isCommand 234 = .ok (.goto 4, 3) := dk_167 0 4 (dk_at dksX5_isCommand_9 8 rfl rfl)
theorem dX5_isCommand_237 : decode cX5_isCommand 237 = .ok (.iconst 0, 1) := dk_3 (dk_at dksX5_isCommand_9 11 rfl rfl)
theorem dX5_isCommand_238 : decode cX5_isCommand 238 = .ok (.ireturn, 1) := dk_172 (dk_at dksX5_isCommand_9 12 rfl rfl)
theorem dX5_isCommand_239 : decode cX5_isCommand 239 = .ok (.aload_n 0, 1) := dk_42 (dk_at dksX5_isCommand_9 13 rfl rfl)
theorem dX5_isCommand_240 : decode cX5_isCommand 240 = .ok (.invokevirtual 285, 3) := dk_182 1 29 (dk_at dksX5_isCommand_9 14 rfl rfl)
theorem dX5_isCommand_243 : decode cX5_isCommand 243 = .ok (.ireturn, 1) := dk_172 (dk_at dksX5_isCommand_9 17 rfl rfl)
abbrev cX5_isOneOf : ByteArray := prog_25_method_75_code
def dkwX5_isOneOf_5 : List UInt8 := [21, 4, 4, 96, 62, 167, 255, 139, 42, 89, 180, 0, 226, 28, 96, 181, 0, 226, 3, 172]
abbrev dktX5_isOneOf_5 : List UInt8 := dkwX5_isOneOf_5 ++ []
def dkwX5_isOneOf_4 : List UInt8 := [181, 0, 35, 42, 89, 180, 0, 226, 21, 5, 96, 181, 0, 226, 4, 172, 28, 21, 5, 184, 0, 244, 61]
abbrev dktX5_isOneOf_4 : List UInt8 := dkwX5_isOneOf_4 ++ dktX5_isOneOf_5
def dkwX5_isOneOf_3 : List UInt8 := [132, 5, 1, 167, 255, 207, 21, 5, 21, 4, 29, 100, 160, 0, 27, 42, 43, 29, 21, 4, 182, 0, 240]
abbrev dktX5_isOneOf_3 : List UInt8 := dkwX5_isOneOf_3 ++ dktX5_isOneOf_4
def dkwX5_isOneOf_2 : List UInt8 := [180, 0, 30, 42, 180, 0, 226, 21, 5, 96, 52, 43, 29, 21, 5, 96, 182, 0, 236, 160, 0, 9]
abbrev dktX5_isOneOf_2 : List UInt8 := dkwX5_isOneOf_2 ++ dktX5_isOneOf_3
def dkwX5_isOneOf_1 : List UInt8 := [21, 5, 21, 4, 29, 100, 162, 0, 46, 42, 180, 0, 226, 21, 5, 96, 42, 180, 0, 223, 162, 0, 32, 42]
abbrev dktX5_isOneOf_1 : List UInt8 := dkwX5_isOneOf_1 ++ dktX5_isOneOf_2
def dkwX5_isOneOf_0 : List UInt8 := [3, 61, 3, 62, 29, 43, 182, 0, 229, 162, 0, 115, 43, 16, 95, 29, 182, 0, 233, 54, 4, 3, 54, 5]
abbrev dktX5_isOneOf_0 : List UInt8 := dkwX5_isOneOf_0 ++ dktX5_isOneOf_1
theorem dksX5_isOneOf_0 : cX5_isOneOf.data.toList.drop 0 = dktX5_isOneOf_0 := by decide +kernel
theorem dksX5_isOneOf_1 : cX5_isOneOf.data.toList.drop 24 = dktX5_isOneOf_1 := dk_seg dksX5_isOneOf_0 24 rfl rfl
theorem dksX5_isOneOf_2 : cX5_isOneOf.data.toList.drop 48 = dktX5_isOneOf_2 := dk_seg dksX5_isOneOf_1 24 rfl rfl
theorem dksX5_isOneOf_3 : cX5_isOneOf.data.toList.drop 70 = dktX5_isOneOf_3 := dk_seg dksX5_isOneOf_2 22 rfl rfl
theorem dksX5_isOneOf_4 : cX5_isOneOf.data.toList.drop 93 = dktX5_isOneOf_4 := dk_seg dksX5_isOneOf_3 23 rfl rfl
theorem dksX5_isOneOf_5 : cX5_isOneOf.data.toList.drop 116 = dktX5_isOneOf_5 := dk_seg dksX5_isOneOf_4 23 rfl rfl
theorem dX5_isOneOf_0 : decode cX5_isOneOf 0 = .ok (.iconst 0, 1) := dk_3 (dk_at dksX5_isOneOf_0 0 rfl rfl)
theorem dX5_isOneOf_1 : decode cX5_isOneOf 1 = .ok (.istore_n 2, 1) := dk_61 (dk_at dksX5_isOneOf_0 1 rfl rfl)
theorem dX5_isOneOf_2 : decode cX5_isOneOf 2 = .ok (.iconst 0, 1) := dk_3 (dk_at dksX5_isOneOf_0 2 rfl rfl)
theorem dX5_isOneOf_3 : decode cX5_isOneOf 3 = .ok (.istore_n 3, 1) := dk_62 (dk_at dksX5_isOneOf_0 3 rfl rfl)
theorem dX5_isOneOf_4 : decode cX5_isOneOf 4 = .ok (.iload_n 3, 1) := dk_29 (dk_at dksX5_isOneOf_0 4 rfl rfl)
theorem dX5_isOneOf_5 : decode cX5_isOneOf 5 = .ok (.aload_n 1, 1) := dk_43 (dk_at dksX5_isOneOf_0 5 rfl rfl)
theorem dX5_isOneOf_6 : decode cX5_isOneOf 6 = .ok (.invokevirtual 229, 3) := dk_182 0 229 (dk_at dksX5_isOneOf_0 6 rfl rfl)
theorem dX5_isOneOf_9 : decode cX5_isOneOf 9 = .ok (.if_icmp .ge 115, 3) := dk_162 0 115 (dk_at dksX5_isOneOf_0 9 rfl rfl)
theorem dX5_isOneOf_12 : decode cX5_isOneOf 12 = .ok (.aload_n 1, 1) := dk_43 (dk_at dksX5_isOneOf_0 12 rfl rfl)
theorem dX5_isOneOf_13 : decode cX5_isOneOf 13 = .ok (.bipush 95, 2) := dk_16 95 (dk_at dksX5_isOneOf_0 13 rfl rfl)
theorem dX5_isOneOf_15 : decode cX5_isOneOf 15 = .ok (.iload_n 3, 1) := dk_29 (dk_at dksX5_isOneOf_0 15 rfl rfl)
theorem dX5_isOneOf_16 : decode cX5_isOneOf 16 = .ok (.invokevirtual 233, 3) := dk_182 0 233 (dk_at dksX5_isOneOf_0 16 rfl rfl)
theorem dX5_isOneOf_19 : decode cX5_isOneOf 19 = .ok (.istore 4, 2) := dk_54 4 (dk_at dksX5_isOneOf_0 19 rfl rfl)
theorem dX5_isOneOf_21 : decode cX5_isOneOf 21 = .ok (.iconst 0, 1) := dk_3 (dk_at dksX5_isOneOf_0 21 rfl rfl)
theorem dX5_isOneOf_22 : decode cX5_isOneOf 22 = .ok (.istore 5, 2) := dk_54 5 (dk_at dksX5_isOneOf_0 22 rfl rfl)
theorem dX5_isOneOf_24 : decode cX5_isOneOf 24 = .ok (.iload 5, 2) := dk_21 5 (dk_at dksX5_isOneOf_1 0 rfl rfl)
theorem dX5_isOneOf_26 : decode cX5_isOneOf 26 = .ok (.iload 4, 2) := dk_21 4 (dk_at dksX5_isOneOf_1 2 rfl rfl)
theorem dX5_isOneOf_28 : decode cX5_isOneOf 28 = .ok (.iload_n 3, 1) := dk_29 (dk_at dksX5_isOneOf_1 4 rfl rfl)
theorem dX5_isOneOf_29 : decode cX5_isOneOf 29 = .ok (.isub, 1) := dk_100 (dk_at dksX5_isOneOf_1 5 rfl rfl)
theorem dX5_isOneOf_30 : decode cX5_isOneOf 30 = .ok (.if_icmp .ge 46, 3) := dk_162 0 46 (dk_at dksX5_isOneOf_1 6 rfl rfl)
theorem dX5_isOneOf_33 : decode cX5_isOneOf 33 = .ok (.aload_n 0, 1) := dk_42 (dk_at dksX5_isOneOf_1 9 rfl rfl)
theorem dX5_isOneOf_34 : decode cX5_isOneOf 34 = .ok (.getfield 226, 3) := dk_180 0 226 (dk_at dksX5_isOneOf_1 10 rfl rfl)
theorem dX5_isOneOf_37 : decode cX5_isOneOf 37 = .ok (.iload 5, 2) := dk_21 5 (dk_at dksX5_isOneOf_1 13 rfl rfl)
theorem dX5_isOneOf_39 : decode cX5_isOneOf 39 = .ok (.iadd, 1) := dk_96 (dk_at dksX5_isOneOf_1 15 rfl rfl)
theorem dX5_isOneOf_40 : decode cX5_isOneOf 40 = .ok (.aload_n 0, 1) := dk_42 (dk_at dksX5_isOneOf_1 16 rfl rfl)
theorem dX5_isOneOf_41 : decode cX5_isOneOf 41 = .ok (.getfield 223, 3) := dk_180 0 223 (dk_at dksX5_isOneOf_1 17 rfl rfl)
theorem dX5_isOneOf_44 : decode cX5_isOneOf 44 = .ok (.if_icmp .ge 32, 3) := dk_162 0 32 (dk_at dksX5_isOneOf_1 20 rfl rfl)
theorem dX5_isOneOf_47 : decode cX5_isOneOf 47 = .ok (.aload_n 0, 1) := dk_42 (dk_at dksX5_isOneOf_1 23 rfl rfl)
theorem dX5_isOneOf_48 : decode cX5_isOneOf 48 = .ok (.getfield 30, 3) := dk_180 0 30 (dk_at dksX5_isOneOf_2 0 rfl rfl)
theorem dX5_isOneOf_51 : decode cX5_isOneOf 51 = .ok (.aload_n 0, 1) := dk_42 (dk_at dksX5_isOneOf_2 3 rfl rfl)
theorem dX5_isOneOf_52 : decode cX5_isOneOf 52 = .ok (.getfield 226, 3) := dk_180 0 226 (dk_at dksX5_isOneOf_2 4 rfl rfl)
theorem dX5_isOneOf_55 : decode cX5_isOneOf 55 = .ok (.iload 5, 2) := dk_21 5 (dk_at dksX5_isOneOf_2 7 rfl rfl)
theorem dX5_isOneOf_57 : decode cX5_isOneOf 57 = .ok (.iadd, 1) := dk_96 (dk_at dksX5_isOneOf_2 9 rfl rfl)
theorem dX5_isOneOf_58 : decode cX5_isOneOf 58 = .ok (.caload, 1) := dk_52 (dk_at dksX5_isOneOf_2 10 rfl rfl)
theorem dX5_isOneOf_59 : decode cX5_isOneOf 59 = .ok (.aload_n 1, 1) := dk_43 (dk_at dksX5_isOneOf_2 11 rfl rfl)
theorem dX5_isOneOf_60 : decode cX5_isOneOf 60 = .ok (.iload_n 3, 1) := dk_29 (dk_at dksX5_isOneOf_2 12 rfl rfl)
theorem dX5_isOneOf_61 : decode cX5_isOneOf 61 = .ok (.iload 5, 2) := dk_21 5 (dk_at dksX5_isOneOf_2 13 rfl rfl)
theorem dX5_isOneOf_63 : decode cX5_isOneOf 63 = .ok (.iadd, 1) := dk_96 (dk_at dksX5_isOneOf_2 15 rfl rfl)
theorem dX5_isOneOf_64 : decode cX5_isOneOf 64 = .ok (.invokevirtual 236, 3) := dk_182 0 236 (dk_at dksX5_isOneOf_2 16 rfl rfl)
theorem dX5_isOneOf_67 : decode cX5_isOneOf 67 = .ok (.if_icmp .ne 9, 3) := dk_160 0 9 (dk_at dksX5_isOneOf_2 19 rfl rfl)
theorem dX5_isOneOf_70 : decode cX5_isOneOf 70 = .ok (.iinc 5 1, 3) := dk_132 5 1 (dk_at dksX5_isOneOf_3 0 rfl rfl)
theorem dX5_isOneOf_73 : decode cX5_isOneOf 73 = .ok (.goto (-49), 3) := dk_167 255 207 (dk_at dksX5_isOneOf_3 3 rfl rfl)
theorem dX5_isOneOf_76 : decode cX5_isOneOf 76 = .ok (.iload 5, 2) := dk_21 5 (dk_at dksX5_isOneOf_3 6 rfl rfl)
theorem dX5_isOneOf_78 : decode cX5_isOneOf 78 = .ok (.iload 4, 2) := dk_21 4 (dk_at dksX5_isOneOf_3 8 rfl rfl)
theorem dX5_isOneOf_80 : decode cX5_isOneOf 80 = .ok (.iload_n 3, 1) := dk_29 (dk_at dksX5_isOneOf_3 10 rfl rfl)
theorem dX5_isOneOf_81 : decode cX5_isOneOf 81 = .ok (.isub, 1) := dk_100 (dk_at dksX5_isOneOf_3 11 rfl rfl)
theorem dX5_isOneOf_82 : decode cX5_isOneOf 82 = .ok (.if_icmp .ne 27, 3) := dk_160 0 27 (dk_at dksX5_isOneOf_3 12 rfl rfl)
theorem dX5_isOneOf_85 : decode cX5_isOneOf 85 = .ok (.aload_n 0, 1) := dk_42 (dk_at dksX5_isOneOf_3 15 rfl rfl)
theorem dX5_isOneOf_86 : decode cX5_isOneOf 86 = .ok (.aload_n 1, 1) := dk_43 (dk_at dksX5_isOneOf_3 16 rfl rfl)
theorem dX5_isOneOf_87 : decode cX5_isOneOf 87 = .ok (.iload_n 3, 1) := dk_29 (dk_at dksX5_isOneOf_3 17 rfl rfl)
theorem dX5_isOneOf_88 : decode cX5_isOneOf 88 = .ok (.iload 4, 2) := dk_21 4 (dk_at dksX5_isOneOf_3 18 rfl rfl)
theorem dX5_isOneOf_90 : decode cX5_isOneOf 90 = .ok (.invokevirtual 240, 3) := dk_182 0 240 (dk_at dksX5_isOneOf_3 20 rfl rfl)
theorem dX5_isOneOf_93 : decode cX5_isOneOf 93 = .ok (.putfield 35, 3) := dk_181 0 35 (dk_at dksX5_isOneOf_4 0 rfl rfl)
theorem dX5_isOneOf_96 : decode cX5_isOneOf 96 = .ok (.aload_n 0, 1) := dk_42 (dk_at dksX5_isOneOf_4 3 rfl rfl)
theorem dX5_isOneOf_97 : decode cX5_isOneOf 97 = .ok (.dup, 1) := dk_89 (dk_at dksX5_isOneOf_4 4 rfl rfl)
theorem dX5_isOneOf_98 : decode cX5_isOneOf 98 = .ok (.getfield 226, 3) := dk_180 0 226 (dk_at dksX5_isOneOf_4 5 rfl rfl)
theorem dX5_isOneOf_101 : decode cX5_isOneOf 101 = .ok (.iload 5, 2) := dk_21 5 (dk_at dksX5_isOneOf_4 8 rfl rfl)
theorem dX5_isOneOf_103 : decode cX5_isOneOf 103 = .ok (.iadd, 1) := dk_96 (dk_at dksX5_isOneOf_4 10 rfl rfl)
theorem dX5_isOneOf_104 : decode cX5_isOneOf 104 = .ok (.putfield 226, 3) := dk_181 0 226 (dk_at dksX5_isOneOf_4 11 rfl rfl)
theorem dX5_isOneOf_107 : decode cX5_isOneOf 107 = .ok (.iconst 1, 1) := dk_4 (dk_at dksX5_isOneOf_4 14 rfl rfl)
theorem dX5_isOneOf_108 : decode cX5_isOneOf 108 = .ok (.ireturn, 1) := dk_172 (dk_at dksX5_isOneOf_4 15 rfl rfl)
theorem dX5_isOneOf_109 : decode cX5_isOneOf 109 = .ok (.iload_n 2, 1) := dk_28 (dk_at dksX5_isOneOf_4 16 rfl rfl)
theorem dX5_isOneOf_110 : decode cX5_isOneOf 110 = .ok (.iload 5, 2) := dk_21 5 (dk_at dksX5_isOneOf_4 17 rfl rfl)
theorem dX5_isOneOf_112 : decode cX5_isOneOf 112 = .ok (.invokestatic 244, 3) := dk_184 0 244 (dk_at dksX5_isOneOf_4 19 rfl rfl)
theorem dX5_isOneOf_115 : decode cX5_isOneOf 115 = .ok (.istore_n 2, 1) := dk_61 (dk_at dksX5_isOneOf_4 22 rfl rfl)
theorem dX5_isOneOf_116 : decode cX5_isOneOf 116 = .ok (.iload 4, 2) := dk_21 4 (dk_at dksX5_isOneOf_5 0 rfl rfl)
theorem dX5_isOneOf_118 : decode cX5_isOneOf 118 = .ok (.iconst 1, 1) := dk_4 (dk_at dksX5_isOneOf_5 2 rfl rfl)
theorem dX5_isOneOf_119 : decode cX5_isOneOf 119 = .ok (.iadd, 1) := dk_96 (dk_at dksX5_isOneOf_5 3 rfl rfl)
theorem dX5_isOneOf_120 : decode cX5_isOneOf 120 = .ok (.istore_n 3, 1) := dk_62 (dk_at dksX5_isOneOf_5 4 rfl rfl)
theorem dX5_isOneOf_121 : decode cX5_isOneOf 121 = .ok (.goto (-117), 3) := dk_167 255 139 (dk_at dksX5_isOneOf_5 5 rfl rfl)
theorem dX5_isOneOf_124 : decode cX5_isOneOf 124 = .ok (.aload_n 0, 1) := dk_42 (dk_at dksX5_isOneOf_5 8 rfl rfl)
theorem dX5_isOneOf_125 : decode cX5_isOneOf 125 = .ok (.dup, 1) := dk_89 (dk_at dksX5_isOneOf_5 9 rfl rfl)
theorem dX5_isOneOf_126 : decode cX5_isOneOf 126 = .ok (.getfield 226, 3) := dk_180 0 226 (dk_at dksX5_isOneOf_5 10 rfl rfl)
theorem dX5_isOneOf_129 : decode cX5_isOneOf 129 = .ok (.iload_n 2, 1) := dk_28 (dk_at dksX5_isOneOf_5 13 rfl rfl)
theorem dX5_isOneOf_130 : decode cX5_isOneOf 130 = .ok (.iadd, 1) := dk_96 (dk_at dksX5_isOneOf_5 14 rfl rfl)
theorem dX5_isOneOf_131 : decode cX5_isOneOf 131 = .ok (.putfield 226, 3) := dk_181 0 226 (dk_at dksX5_isOneOf_5 15 rfl rfl)
theorem dX5_isOneOf_134 : decode cX5_isOneOf 134 = .ok (.iconst 0, 1) := dk_3 (dk_at dksX5_isOneOf_5 18 rfl rfl)
theorem dX5_isOneOf_135 : decode cX5_isOneOf 135 = .ok (.ireturn, 1) := dk_172 (dk_at dksX5_isOneOf_5 19 rfl rfl)
abbrev cX5_digit : ByteArray := prog_25_method_76_code
def dkwX5_digit_2 : List UInt8 := [96, 181, 0, 226, 52, 16, 48, 100, 79, 4, 172]
abbrev dktX5_digit_2 : List UInt8 := dkwX5_digit_2 ++ []
def dkwX5_digit_1 : List UInt8 := [184, 0, 62, 154, 0, 5, 3, 172, 42, 180, 0, 39, 27, 42, 180, 0, 30, 42, 89, 180, 0, 226, 90, 4]
abbrev dktX5_digit_1 : List UInt8 := dkwX5_digit_1 ++ dktX5_digit_2
def dkwX5_digit_0 : List UInt8 := [42, 180, 0, 226, 42, 180, 0, 223, 159, 0, 22, 42, 180, 0, 30, 42, 180, 0, 226, 52, 16, 48, 16, 57]
abbrev dktX5_digit_0 : List UInt8 := dkwX5_digit_0 ++ dktX5_digit_1
theorem dksX5_digit_0 : cX5_digit.data.toList.drop 0 = dktX5_digit_0 := by decide +kernel
theorem dksX5_digit_1 : cX5_digit.data.toList.drop 24 = dktX5_digit_1 := dk_seg dksX5_digit_0 24 rfl rfl
theorem dksX5_digit_2 : cX5_digit.data.toList.drop 48 = dktX5_digit_2 := dk_seg dksX5_digit_1 24 rfl rfl
theorem dX5_digit_0 : decode cX5_digit 0 = .ok (.aload_n 0, 1) := dk_42 (dk_at dksX5_digit_0 0 rfl rfl)
theorem dX5_digit_1 : decode cX5_digit 1 = .ok (.getfield 226, 3) := dk_180 0 226 (dk_at dksX5_digit_0 1 rfl rfl)
theorem dX5_digit_4 : decode cX5_digit 4 = .ok (.aload_n 0, 1) := dk_42 (dk_at dksX5_digit_0 4 rfl rfl)
theorem dX5_digit_5 : decode cX5_digit 5 = .ok (.getfield 223, 3) := dk_180 0 223 (dk_at dksX5_digit_0 5 rfl rfl)
theorem dX5_digit_8 : decode cX5_digit 8 = .ok (.if_icmp .eq 22, 3) := dk_159 0 22 (dk_at dksX5_digit_0 8 rfl rfl)
theorem dX5_digit_11 : decode cX5_digit 11 = .ok (.aload_n 0, 1) := dk_42 (dk_at dksX5_digit_0 11 rfl rfl)
theorem dX5_digit_12 : decode cX5_digit 12 = .ok (.getfield 30, 3) := dk_180 0 30 (dk_at dksX5_digit_0 12 rfl rfl)
theorem dX5_digit_15 : decode cX5_digit 15 = .ok (.aload_n 0, 1) := dk_42 (dk_at dksX5_digit_0 15 rfl rfl)
theorem dX5_digit_16 : decode cX5_digit 16 = .ok (.getfield 226, 3) := dk_180 0 226 (dk_at dksX5_digit_0 16 rfl rfl)
theorem dX5_digit_19 : decode cX5_digit 19 = .ok (.caload, 1) := dk_52 (dk_at dksX5_digit_0 19 rfl rfl)
theorem dX5_digit_20 : decode cX5_digit 20 = .ok (.bipush 48, 2) := dk_16 48 (dk_at dksX5_digit_0 20 rfl rfl)
theorem dX5_digit_22 : decode cX5_digit 22 = .ok (.bipush 57, 2) := dk_16 57 (dk_at dksX5_digit_0 22 rfl rfl)
theorem dX5_digit_24 : decode cX5_digit 24 = .ok (.invokestatic 62, 3) := dk_184 0 62 (dk_at dksX5_digit_1 0 rfl rfl)
theorem dX5_digit_27 : decode cX5_digit 27 = .ok (.ifCond .ne 5, 3) := dk_154 0 5 (dk_at dksX5_digit_1 3 rfl rfl)
theorem dX5_digit_30 : decode cX5_digit 30 = .ok (.iconst 0, 1) := dk_3 (dk_at dksX5_digit_1 6 rfl rfl)
theorem dX5_digit_31 : decode cX5_digit 31 = .ok (.ireturn, 1) := dk_172 (dk_at dksX5_digit_1 7 rfl rfl)
theorem dX5_digit_32 : decode cX5_digit 32 = .ok (.aload_n 0, 1) := dk_42 (dk_at dksX5_digit_1 8 rfl rfl)
theorem dX5_digit_33 : decode cX5_digit 33 = .ok (.getfield 39, 3) := dk_180 0 39 (dk_at dksX5_digit_1 9 rfl rfl)
theorem dX5_digit_36 : decode cX5_digit 36 = .ok (.iload_n 1, 1) := dk_27 (dk_at dksX5_digit_1 12 rfl rfl)
theorem dX5_digit_37 : decode cX5_digit 37 = .ok (.aload_n 0, 1) := dk_42 (dk_at dksX5_digit_1 13 rfl rfl)
theorem dX5_digit_38 : decode cX5_digit 38 = .ok (.getfield 30, 3) := dk_180 0 30 (dk_at dksX5_digit_1 14 rfl rfl)
theorem dX5_digit_41 : decode cX5_digit 41 = .ok (.aload_n 0, 1) := dk_42 (dk_at dksX5_digit_1 17 rfl rfl)
theorem dX5_digit_42 : decode cX5_digit 42 = .ok (.dup, 1) := dk_89 (dk_at dksX5_digit_1 18 rfl rfl)
theorem dX5_digit_43 : decode cX5_digit 43 = .ok (.getfield 226, 3) := dk_180 0 226 (dk_at dksX5_digit_1 19 rfl rfl)
theorem dX5_digit_46 : decode cX5_digit 46 = .ok (.dup_x1, 1) := dk_90 (dk_at dksX5_digit_1 22 rfl rfl)
theorem dX5_digit_47 : decode cX5_digit 47 = .ok (.iconst 1, 1) := dk_4 (dk_at dksX5_digit_1 23 rfl rfl)
theorem dX5_digit_48 : decode cX5_digit 48 = .ok (.iadd, 1) := dk_96 (dk_at dksX5_digit_2 0 rfl rfl)
theorem dX5_digit_49 : decode cX5_digit 49 = .ok (.putfield 226, 3) := dk_181 0 226 (dk_at dksX5_digit_2 1 rfl rfl)
theorem dX5_digit_52 : decode cX5_digit 52 = .ok (.caload, 1) := dk_52 (dk_at dksX5_digit_2 4 rfl rfl)
theorem dX5_digit_53 : decode cX5_digit 53 = .ok (.bipush 48, 2) := dk_16 48 (dk_at dksX5_digit_2 5 rfl rfl)
theorem dX5_digit_55 : decode cX5_digit 55 = .ok (.isub, 1) := dk_100 (dk_at dksX5_digit_2 7 rfl rfl)
theorem dX5_digit_56 : decode cX5_digit 56 = .ok (.iastore, 1) := dk_79 (dk_at dksX5_digit_2 8 rfl rfl)
theorem dX5_digit_57 : decode cX5_digit 57 = .ok (.iconst 1, 1) := dk_4 (dk_at dksX5_digit_2 9 rfl rfl)
theorem dX5_digit_58 : decode cX5_digit 58 = .ok (.ireturn, 1) := dk_172 (dk_at dksX5_digit_2 10 rfl rfl)
abbrev cX5_who : ByteArray := prog_25_method_77_code
def dkwX5_who_2 : List UInt8 := [3, 2, 79, 28, 172, 42, 3, 182, 0, 255, 172]
abbrev dktX5_who_2 : List UInt8 := dkwX5_who_2 ++ []
def dkwX5_who_1 : List UInt8 := [160, 0, 29, 42, 180, 0, 35, 76, 42, 18, 249, 182, 0, 251, 61, 42, 43, 181, 0, 35, 42, 180, 0, 39]
abbrev dktX5_who_1 : List UInt8 := dkwX5_who_1 ++ dktX5_who_2
def dkwX5_who_0 : List UInt8 := [42, 180, 0, 226, 42, 180, 0, 223, 162, 0, 43, 42, 180, 0, 30, 42, 180, 0, 226, 52, 16, 104]
abbrev dktX5_who_0 : List UInt8 := dkwX5_who_0 ++ dktX5_who_1
theorem dksX5_who_0 : cX5_who.data.toList.drop 0 = dktX5_who_0 := by decide +kernel
theorem dksX5_who_1 : cX5_who.data.toList.drop 22 = dktX5_who_1 := dk_seg dksX5_who_0 22 rfl rfl
theorem dksX5_who_2 : cX5_who.data.toList.drop 46 = dktX5_who_2 := dk_seg dksX5_who_1 24 rfl rfl
theorem dX5_who_0 : decode cX5_who 0 = .ok (.aload_n 0, 1) := dk_42 (dk_at dksX5_who_0 0 rfl rfl)
theorem dX5_who_1 : decode cX5_who 1 = .ok (.getfield 226, 3) := dk_180 0 226 (dk_at dksX5_who_0 1 rfl rfl)
theorem dX5_who_4 : decode cX5_who 4 = .ok (.aload_n 0, 1) := dk_42 (dk_at dksX5_who_0 4 rfl rfl)
theorem dX5_who_5 : decode cX5_who 5 = .ok (.getfield 223, 3) := dk_180 0 223 (dk_at dksX5_who_0 5 rfl rfl)
theorem dX5_who_8 : decode cX5_who 8 = .ok (.if_icmp .ge 43, 3) := dk_162 0 43 (dk_at dksX5_who_0 8 rfl rfl)
theorem dX5_who_11 : decode cX5_who 11 = .ok (.aload_n 0, 1) := dk_42 (dk_at dksX5_who_0 11 rfl rfl)
theorem dX5_who_12 : decode cX5_who 12 = .ok (.getfield 30, 3) := dk_180 0 30 (dk_at dksX5_who_0 12 rfl rfl)
theorem dX5_who_15 : decode cX5_who 15 = .ok (.aload_n 0, 1) := dk_42 (dk_at dksX5_who_0 15 rfl rfl)
theorem dX5_who_16 : decode cX5_who 16 = .ok (.getfield 226, 3) := dk_180 0 226 (dk_at dksX5_who_0 16 rfl rfl)
theorem dX5_who_19 : decode cX5_who 19 = .ok (.caload, 1) := dk_52 (dk_at dksX5_who_0 19 rfl rfl)
theorem dX5_who_20 : decode cX5_who 20 = .ok (.bipush 104, 2) := dk_16 104 (dk_at dksX5_who_0 20 rfl rfl)
theorem dX5_who_22 : decode cX5_who 22 = .ok (.if_icmp .ne 29, 3) := dk_160 0 29 (dk_at dksX5_who_1 0 rfl rfl)
theorem dX5_who_25 : decode cX5_who 25 = .ok (.aload_n 0, 1) := dk_42 (dk_at dksX5_who_1 3 rfl rfl)
theorem dX5_who_26 : decode cX5_who 26 = .ok (.getfield 35, 3) := dk_180 0 35 (dk_at dksX5_who_1 4 rfl rfl)
theorem dX5_who_29 : decode cX5_who 29 = .ok (.astore_n 1, 1) := dk_76 (dk_at dksX5_who_1 7 rfl rfl)
theorem dX5_who_30 : decode cX5_who 30 = .ok (.aload_n 0, 1) := dk_42 (dk_at dksX5_who_1 8 rfl rfl)
theorem dX5_who_31 : decode cX5_who 31 = .ok (.ldc 249, 2) := dk_18 249 (dk_at dksX5_who_1 9 rfl rfl)
theorem dX5_who_33 : decode cX5_who 33 = .ok (.invokevirtual 251, 3) := dk_182 0 251 (dk_at dksX5_who_1 11 rfl rfl)
theorem dX5_who_36 : decode cX5_who 36 = .ok (.istore_n 2, 1) := dk_61 (dk_at dksX5_who_1 14 rfl rfl)
theorem dX5_who_37 : decode cX5_who 37 = .ok (.aload_n 0, 1) := dk_42 (dk_at dksX5_who_1 15 rfl rfl)
theorem dX5_who_38 : decode cX5_who 38 = .ok (.aload_n 1, 1) := dk_43 (dk_at dksX5_who_1 16 rfl rfl)
theorem dX5_who_39 : decode cX5_who 39 = .ok (.putfield 35, 3) := dk_181 0 35 (dk_at dksX5_who_1 17 rfl rfl)
theorem dX5_who_42 : decode cX5_who 42 = .ok (.aload_n 0, 1) := dk_42 (dk_at dksX5_who_1 20 rfl rfl)
theorem dX5_who_43 : decode cX5_who 43 = .ok (.getfield 39, 3) := dk_180 0 39 (dk_at dksX5_who_1 21 rfl rfl)
theorem dX5_who_46 : decode cX5_who 46 = .ok (.iconst 0, 1) := dk_3 (dk_at dksX5_who_2 0 rfl rfl)
theorem dX5_who_47 : decode cX5_who 47 = .ok (.iconst (-1), 1) := dk_2 (dk_at dksX5_who_2 1 rfl rfl)
theorem dX5_who_48 : decode cX5_who 48 = .ok (.iastore, 1) := dk_79 (dk_at dksX5_who_2 2 rfl rfl)
theorem dX5_who_49 : decode cX5_who 49 = .ok (.iload_n 2, 1) := dk_28 (dk_at dksX5_who_2 3 rfl rfl)
theorem dX5_who_50 : decode cX5_who 50 = .ok (.ireturn, 1) := dk_172 (dk_at dksX5_who_2 4 rfl rfl)
theorem dX5_who_51 : decode cX5_who 51 = .ok (.aload_n 0, 1) := dk_42 (dk_at dksX5_who_2 5 rfl rfl)
theorem dX5_who_52 : decode cX5_who 52 = .ok (.iconst 0, 1) := dk_3 (dk_at dksX5_who_2 6 rfl rfl)
theorem dX5_who_53 : decode cX5_who 53 = .ok (.invokevirtual 255, 3) := dk_182 0 255 (dk_at dksX5_who_2 7 rfl rfl)
theorem dX5_who_56 : decode cX5_who 56 = .ok (.ireturn, 1) := dk_172 (dk_at dksX5_who_2 10 rfl rfl)
abbrev cX5_takes : ByteArray := prog_25_method_74_code
def dkwX5_takes_1 : List UInt8 := [3, 172, 42, 89, 180, 0, 226, 4, 96, 181, 0, 226, 4, 172]
abbrev dktX5_takes_1 : List UInt8 := dkwX5_takes_1 ++ []
def dkwX5_takes_0 : List UInt8 := [42, 180, 0, 226, 42, 180, 0, 223, 159, 0, 16, 42, 180, 0, 30, 42, 180, 0, 226, 52, 27, 159, 0, 5]
abbrev dktX5_takes_0 : List UInt8 := dkwX5_takes_0 ++ dktX5_takes_1
theorem dksX5_takes_0 : cX5_takes.data.toList.drop 0 = dktX5_takes_0 := by decide +kernel
theorem dksX5_takes_1 : cX5_takes.data.toList.drop 24 = dktX5_takes_1 := dk_seg dksX5_takes_0 24 rfl rfl
theorem dX5_takes_0 : decode cX5_takes 0 = .ok (.aload_n 0, 1) := dk_42 (dk_at dksX5_takes_0 0 rfl rfl)
theorem dX5_takes_1 : decode cX5_takes 1 = .ok (.getfield 226, 3) := dk_180 0 226 (dk_at dksX5_takes_0 1 rfl rfl)
theorem dX5_takes_4 : decode cX5_takes 4 = .ok (.aload_n 0, 1) := dk_42 (dk_at dksX5_takes_0 4 rfl rfl)
theorem dX5_takes_5 : decode cX5_takes 5 = .ok (.getfield 223, 3) := dk_180 0 223 (dk_at dksX5_takes_0 5 rfl rfl)
theorem dX5_takes_8 : decode cX5_takes 8 = .ok (.if_icmp .eq 16, 3) := dk_159 0 16 (dk_at dksX5_takes_0 8 rfl rfl)
theorem dX5_takes_11 : decode cX5_takes 11 = .ok (.aload_n 0, 1) := dk_42 (dk_at dksX5_takes_0 11 rfl rfl)
theorem dX5_takes_12 : decode cX5_takes 12 = .ok (.getfield 30, 3) := dk_180 0 30 (dk_at dksX5_takes_0 12 rfl rfl)
theorem dX5_takes_15 : decode cX5_takes 15 = .ok (.aload_n 0, 1) := dk_42 (dk_at dksX5_takes_0 15 rfl rfl)
theorem dX5_takes_16 : decode cX5_takes 16 = .ok (.getfield 226, 3) := dk_180 0 226 (dk_at dksX5_takes_0 16 rfl rfl)
theorem dX5_takes_19 : decode cX5_takes 19 = .ok (.caload, 1) := dk_52 (dk_at dksX5_takes_0 19 rfl rfl)
theorem dX5_takes_20 : decode cX5_takes 20 = .ok (.iload_n 1, 1) := dk_27 (dk_at dksX5_takes_0 20 rfl rfl)
theorem dX5_takes_21 : decode cX5_takes 21 = .ok (.if_icmp .eq 5, 3) := dk_159 0 5 (dk_at dksX5_takes_0 21 rfl rfl)
theorem dX5_takes_24 : decode cX5_takes 24 = .ok (.iconst 0, 1) := dk_3 (dk_at dksX5_takes_1 0 rfl rfl)
theorem dX5_takes_25 : decode cX5_takes 25 = .ok (.ireturn, 1) := dk_172 (dk_at dksX5_takes_1 1 rfl rfl)
theorem dX5_takes_26 : decode cX5_takes 26 = .ok (.aload_n 0, 1) := dk_42 (dk_at dksX5_takes_1 2 rfl rfl)
theorem dX5_takes_27 : decode cX5_takes 27 = .ok (.dup, 1) := dk_89 (dk_at dksX5_takes_1 3 rfl rfl)
theorem dX5_takes_28 : decode cX5_takes 28 = .ok (.getfield 226, 3) := dk_180 0 226 (dk_at dksX5_takes_1 4 rfl rfl)
theorem dX5_takes_31 : decode cX5_takes 31 = .ok (.iconst 1, 1) := dk_4 (dk_at dksX5_takes_1 7 rfl rfl)
theorem dX5_takes_32 : decode cX5_takes 32 = .ok (.iadd, 1) := dk_96 (dk_at dksX5_takes_1 8 rfl rfl)
theorem dX5_takes_33 : decode cX5_takes 33 = .ok (.putfield 226, 3) := dk_181 0 226 (dk_at dksX5_takes_1 9 rfl rfl)
theorem dX5_takes_36 : decode cX5_takes 36 = .ok (.iconst 1, 1) := dk_4 (dk_at dksX5_takes_1 12 rfl rfl)
theorem dX5_takes_37 : decode cX5_takes 37 = .ok (.ireturn, 1) := dk_172 (dk_at dksX5_takes_1 13 rfl rfl)
abbrev cX5_minutes : ByteArray := prog_25_method_78_code
def dkwX5_minutes_1 : List UInt8 := [3, 16, 10, 42, 180, 0, 39, 3, 46, 104, 42, 180, 0, 39, 4, 46, 96, 79, 4, 172]
abbrev dktX5_minutes_1 : List UInt8 := dkwX5_minutes_1 ++ []
def dkwX5_minutes_0 : List UInt8 := [42, 3, 182, 0, 255, 154, 0, 5, 3, 172, 42, 4, 182, 0, 255, 154, 0, 5, 4, 172, 42, 180, 0, 39]
abbrev dktX5_minutes_0 : List UInt8 := dkwX5_minutes_0 ++ dktX5_minutes_1
theorem dksX5_minutes_0 : cX5_minutes.data.toList.drop 0 = dktX5_minutes_0 := by decide +kernel
theorem dksX5_minutes_1 : cX5_minutes.data.toList.drop 24 = dktX5_minutes_1 := dk_seg dksX5_minutes_0 24 rfl rfl
theorem dX5_minutes_0 : decode cX5_minutes 0 = .ok (.aload_n 0, 1) := dk_42 (dk_at dksX5_minutes_0 0 rfl rfl)
theorem dX5_minutes_1 : decode cX5_minutes 1 = .ok (.iconst 0, 1) := dk_3 (dk_at dksX5_minutes_0 1 rfl rfl)
theorem dX5_minutes_2 : decode cX5_minutes 2 = .ok (.invokevirtual 255, 3) := dk_182 0 255 (dk_at dksX5_minutes_0 2 rfl rfl)
theorem dX5_minutes_5 : decode cX5_minutes 5 = .ok (.ifCond .ne 5, 3) := dk_154 0 5 (dk_at dksX5_minutes_0 5 rfl rfl)
theorem dX5_minutes_8 : decode cX5_minutes 8 = .ok (.iconst 0, 1) := dk_3 (dk_at dksX5_minutes_0 8 rfl rfl)
theorem dX5_minutes_9 : decode cX5_minutes 9 = .ok (.ireturn, 1) := dk_172 (dk_at dksX5_minutes_0 9 rfl rfl)
theorem dX5_minutes_10 : decode cX5_minutes 10 = .ok (.aload_n 0, 1) := dk_42 (dk_at dksX5_minutes_0 10 rfl rfl)
theorem dX5_minutes_11 : decode cX5_minutes 11 = .ok (.iconst 1, 1) := dk_4 (dk_at dksX5_minutes_0 11 rfl rfl)
theorem dX5_minutes_12 : decode cX5_minutes 12 = .ok (.invokevirtual 255, 3) := dk_182 0 255 (dk_at dksX5_minutes_0 12 rfl rfl)
theorem dX5_minutes_15 : decode cX5_minutes 15 = .ok (.ifCond .ne 5, 3) := dk_154 0 5 (dk_at dksX5_minutes_0 15 rfl rfl)
theorem dX5_minutes_18 : decode cX5_minutes 18 = .ok (.iconst 1, 1) := dk_4 (dk_at dksX5_minutes_0 18 rfl rfl)
theorem dX5_minutes_19 : decode cX5_minutes 19 = .ok (.ireturn, 1) := dk_172 (dk_at dksX5_minutes_0 19 rfl rfl)
theorem dX5_minutes_20 : decode cX5_minutes 20 = .ok (.aload_n 0, 1) := dk_42 (dk_at dksX5_minutes_0 20 rfl rfl)
theorem dX5_minutes_21 : decode cX5_minutes 21 = .ok (.getfield 39, 3) := dk_180 0 39 (dk_at dksX5_minutes_0 21 rfl rfl)
theorem dX5_minutes_24 : decode cX5_minutes 24 = .ok (.iconst 0, 1) := dk_3 (dk_at dksX5_minutes_1 0 rfl rfl)
theorem dX5_minutes_25 : decode cX5_minutes 25 = .ok (.bipush 10, 2) := dk_16 10 (dk_at dksX5_minutes_1 1 rfl rfl)
theorem dX5_minutes_27 : decode cX5_minutes 27 = .ok (.aload_n 0, 1) := dk_42 (dk_at dksX5_minutes_1 3 rfl rfl)
theorem dX5_minutes_28 : decode cX5_minutes 28 = .ok (.getfield 39, 3) := dk_180 0 39 (dk_at dksX5_minutes_1 4 rfl rfl)
theorem dX5_minutes_31 : decode cX5_minutes 31 = .ok (.iconst 0, 1) := dk_3 (dk_at dksX5_minutes_1 7 rfl rfl)
theorem dX5_minutes_32 : decode cX5_minutes 32 = .ok (.iaload, 1) := dk_46 (dk_at dksX5_minutes_1 8 rfl rfl)
theorem dX5_minutes_33 : decode cX5_minutes 33 = .ok (.imul, 1) := dk_104 (dk_at dksX5_minutes_1 9 rfl rfl)
theorem dX5_minutes_34 : decode cX5_minutes 34 = .ok (.aload_n 0, 1) := dk_42 (dk_at dksX5_minutes_1 10 rfl rfl)
theorem dX5_minutes_35 : decode cX5_minutes 35 = .ok (.getfield 39, 3) := dk_180 0 39 (dk_at dksX5_minutes_1 11 rfl rfl)
theorem dX5_minutes_38 : decode cX5_minutes 38 = .ok (.iconst 1, 1) := dk_4 (dk_at dksX5_minutes_1 14 rfl rfl)
theorem dX5_minutes_39 : decode cX5_minutes 39 = .ok (.iaload, 1) := dk_46 (dk_at dksX5_minutes_1 15 rfl rfl)
theorem dX5_minutes_40 : decode cX5_minutes 40 = .ok (.iadd, 1) := dk_96 (dk_at dksX5_minutes_1 16 rfl rfl)
theorem dX5_minutes_41 : decode cX5_minutes 41 = .ok (.iastore, 1) := dk_79 (dk_at dksX5_minutes_1 17 rfl rfl)
theorem dX5_minutes_42 : decode cX5_minutes 42 = .ok (.iconst 1, 1) := dk_4 (dk_at dksX5_minutes_1 18 rfl rfl)
theorem dX5_minutes_43 : decode cX5_minutes 43 = .ok (.ireturn, 1) := dk_172 (dk_at dksX5_minutes_1 19 rfl rfl)
abbrev cX5_carries : ByteArray := prog_25_method_80_code
def dkwX5_carries_10 : List UInt8 := [180, 0, 39, 3, 46, 182, 0, 208, 172]
abbrev dktX5_carries_10 : List UInt8 := dkwX5_carries_10 ++ []
def dkwX5_carries_9 : List UInt8 := [180, 0, 39, 3, 46, 42, 180, 0, 39, 4, 46, 42, 180, 0, 39, 5, 46, 182, 0, 202, 172, 42, 42]
abbrev dktX5_carries_9 : List UInt8 := dkwX5_carries_9 ++ dktX5_carries_10
def dkwX5_carries_8 : List UInt8 := [180, 0, 39, 3, 46, 182, 0, 196, 172, 42, 42, 180, 0, 39, 3, 46, 182, 0, 199, 172, 42, 42]
abbrev dktX5_carries_8 : List UInt8 := dkwX5_carries_8 ++ dktX5_carries_9
def dkwX5_carries_7 : List UInt8 := [42, 42, 180, 0, 39, 3, 46, 182, 0, 180, 172, 42, 42, 180, 0, 39, 3, 46, 182, 0, 186, 172, 42, 42]
abbrev dktX5_carries_7 : List UInt8 := dkwX5_carries_7 ++ dktX5_carries_8
def dkwX5_carries_6 : List UInt8 := [170, 0, 0, 0, 0, 0, 102, 0, 0, 0, 0, 0, 0, 0, 4, 0, 0, 0, 35, 0, 0, 0, 46, 0, 0, 0, 57, 0, 0, 0, 68, 0, 0, 0, 79]
abbrev dktX5_carries_6 : List UInt8 := dkwX5_carries_6 ++ dktX5_carries_7
def dkwX5_carries_5 : List UInt8 := [7, 61, 28]
abbrev dktX5_carries_5 : List UInt8 := dkwX5_carries_5 ++ dktX5_carries_6
def dkwX5_carries_4 : List UInt8 := [19, 1, 17, 182, 1, 9, 153, 0, 20, 6, 61, 167, 0, 15, 43, 19, 1, 19, 182, 1, 9, 153, 0, 5]
abbrev dktX5_carries_4 : List UInt8 := dkwX5_carries_4 ++ dktX5_carries_5
def dkwX5_carries_3 : List UInt8 := [153, 0, 50, 4, 61, 167, 0, 45, 43, 19, 1, 15, 182, 1, 9, 153, 0, 35, 5, 61, 167, 0, 30, 43]
abbrev dktX5_carries_3 : List UInt8 := dkwX5_carries_3 ++ dktX5_carries_4
def dkwX5_carries_2 : List UInt8 := [43, 19, 1, 7, 182, 1, 9, 153, 0, 65, 3, 61, 167, 0, 60, 43, 19, 1, 13, 182, 1, 9]
abbrev dktX5_carries_2 : List UInt8 := dkwX5_carries_2 ++ dktX5_carries_3
def dkwX5_carries_1 : List UInt8 := [171, 0, 0, 0, 121, 0, 0, 0, 5, 179, 150, 157, 76, 0, 0, 0, 79, 190, 8, 122, 92, 0, 0, 0, 109, 0, 45, 212, 199, 0, 0, 0, 49, 6, 186, 162, 252, 0, 0, 0, 94, 32, 203, 160, 230, 0, 0, 0, 64]
abbrev dktX5_carries_1 : List UInt8 := dkwX5_carries_1 ++ dktX5_carries_2
def dkwX5_carries_0 : List UInt8 := [42, 180, 0, 35, 76, 2, 61, 43, 182, 1, 4]
abbrev dktX5_carries_0 : List UInt8 := dkwX5_carries_0 ++ dktX5_carries_1
theorem dksX5_carries_0 : cX5_carries.data.toList.drop 0 = dktX5_carries_0 := by decide +kernel
theorem dksX5_carries_1 : cX5_carries.data.toList.drop 11 = dktX5_carries_1 := dk_seg dksX5_carries_0 11 rfl rfl
theorem dksX5_carries_2 : cX5_carries.data.toList.drop 60 = dktX5_carries_2 := dk_seg dksX5_carries_1 49 rfl rfl
theorem dksX5_carries_3 : cX5_carries.data.toList.drop 82 = dktX5_carries_3 := dk_seg dksX5_carries_2 22 rfl rfl
theorem dksX5_carries_4 : cX5_carries.data.toList.drop 106 = dktX5_carries_4 := dk_seg dksX5_carries_3 24 rfl rfl
theorem dksX5_carries_5 : cX5_carries.data.toList.drop 130 = dktX5_carries_5 := dk_seg dksX5_carries_4 24 rfl rfl
theorem dksX5_carries_6 : cX5_carries.data.toList.drop 133 = dktX5_carries_6 := dk_seg dksX5_carries_5 3 rfl rfl
theorem dksX5_carries_7 : cX5_carries.data.toList.drop 168 = dktX5_carries_7 := dk_seg dksX5_carries_6 35 rfl rfl
theorem dksX5_carries_8 : cX5_carries.data.toList.drop 192 = dktX5_carries_8 := dk_seg dksX5_carries_7 24 rfl rfl
theorem dksX5_carries_9 : cX5_carries.data.toList.drop 214 = dktX5_carries_9 := dk_seg dksX5_carries_8 22 rfl rfl
theorem dksX5_carries_10 : cX5_carries.data.toList.drop 237 = dktX5_carries_10 := dk_seg dksX5_carries_9 23 rfl rfl
theorem dX5_carries_0 : decode cX5_carries 0 = .ok (.aload_n 0, 1) := dk_42 (dk_at dksX5_carries_0 0 rfl rfl)
theorem dX5_carries_1 : decode cX5_carries 1 = .ok (.getfield 35, 3) := dk_180 0 35 (dk_at dksX5_carries_0 1 rfl rfl)
theorem dX5_carries_4 : decode cX5_carries 4 = .ok (.astore_n 1, 1) := dk_76 (dk_at dksX5_carries_0 4 rfl rfl)
theorem dX5_carries_5 : decode cX5_carries 5 = .ok (.iconst (-1), 1) := dk_2 (dk_at dksX5_carries_0 5 rfl rfl)
theorem dX5_carries_6 : decode cX5_carries 6 = .ok (.istore_n 2, 1) := dk_61 (dk_at dksX5_carries_0 6 rfl rfl)
theorem dX5_carries_7 : decode cX5_carries 7 = .ok (.aload_n 1, 1) := dk_43 (dk_at dksX5_carries_0 7 rfl rfl)
theorem dX5_carries_8 : decode cX5_carries 8 = .ok (.invokevirtual 260, 3) := dk_182 1 4 (dk_at dksX5_carries_0 8 rfl rfl)
theorem dX5_carries_11 : decode cX5_carries 11 = .ok (.lookupswitch 121 #[(-1281974964, 79), (-1106740644, 109), (3003591, 49), (112894716, 94), (550215910, 64)], 49) := by decide +kernel
theorem dX5_carries_60 : decode cX5_carries 60 = .ok (.aload_n 1, 1) := dk_43 (dk_at dksX5_carries_2 0 rfl rfl)
theorem dX5_carries_61 : decode cX5_carries 61 = .ok (.ldc_w 263, 3) := dk_19 1 7 (dk_at dksX5_carries_2 1 rfl rfl)
theorem dX5_carries_64 : decode cX5_carries 64 = .ok (.invokevirtual 265, 3) := dk_182 1 9 (dk_at dksX5_carries_2 4 rfl rfl)
theorem dX5_carries_67 : decode cX5_carries 67 = .ok (.ifCond .eq 65, 3) := dk_153 0 65 (dk_at dksX5_carries_2 7 rfl rfl)
theorem dX5_carries_70 : decode cX5_carries 70 = .ok (.iconst 0, 1) := dk_3 (dk_at dksX5_carries_2 10 rfl rfl)
theorem dX5_carries_71 : decode cX5_carries 71 = .ok (.istore_n 2, 1) := dk_61 (dk_at dksX5_carries_2 11 rfl rfl)
theorem dX5_carries_72 : decode cX5_carries 72 = .ok (.goto 60, 3) := dk_167 0 60 (dk_at dksX5_carries_2 12 rfl rfl)
theorem dX5_carries_75 : decode cX5_carries 75 = .ok (.aload_n 1, 1) := dk_43 (dk_at dksX5_carries_2 15 rfl rfl)
theorem dX5_carries_76 : decode cX5_carries 76 = .ok (.ldc_w 269, 3) := dk_19 1 13 (dk_at dksX5_carries_2 16 rfl rfl)
theorem dX5_carries_79 : decode cX5_carries 79 = .ok (.invokevirtual 265, 3) := dk_182 1 9 (dk_at dksX5_carries_2 19 rfl rfl)
theorem dX5_carries_82 : decode cX5_carries 82 = .ok (.ifCond .eq 50, 3) := dk_153 0 50 (dk_at dksX5_carries_3 0 rfl rfl)
theorem dX5_carries_85 : decode cX5_carries 85 = .ok (.iconst 1, 1) := dk_4 (dk_at dksX5_carries_3 3 rfl rfl)
theorem dX5_carries_86 : decode cX5_carries 86 = .ok (.istore_n 2, 1) := dk_61 (dk_at dksX5_carries_3 4 rfl rfl)
theorem dX5_carries_87 : decode cX5_carries 87 = .ok (.goto 45, 3) := dk_167 0 45 (dk_at dksX5_carries_3 5 rfl rfl)
theorem dX5_carries_90 : decode cX5_carries 90 = .ok (.aload_n 1, 1) := dk_43 (dk_at dksX5_carries_3 8 rfl rfl)
theorem dX5_carries_91 : decode cX5_carries 91 = .ok (.ldc_w 271, 3) := dk_19 1 15 (dk_at dksX5_carries_3 9 rfl rfl)
theorem dX5_carries_94 : decode cX5_carries 94 = .ok (.invokevirtual 265, 3) := dk_182 1 9 (dk_at dksX5_carries_3 12 rfl rfl)
theorem dX5_carries_97 : decode cX5_carries 97 = .ok (.ifCond .eq 35, 3) := dk_153 0 35 (dk_at dksX5_carries_3 15 rfl rfl)
theorem dX5_carries_100 : decode cX5_carries 100 = .ok (.iconst 2, 1) := dk_5 (dk_at dksX5_carries_3 18 rfl rfl)
theorem dX5_carries_101 : decode cX5_carries 101 = .ok (.istore_n 2, 1) := dk_61 (dk_at dksX5_carries_3 19 rfl rfl)
theorem dX5_carries_102 : decode cX5_carries 102 = .ok (.goto 30, 3) := dk_167 0 30 (dk_at dksX5_carries_3 20 rfl rfl)
theorem dX5_carries_105 : decode cX5_carries 105 = .ok (.aload_n 1, 1) := dk_43 (dk_at dksX5_carries_3 23 rfl rfl)
theorem dX5_carries_106 : decode cX5_carries 106 = .ok (.ldc_w 273, 3) := dk_19 1 17 (dk_at dksX5_carries_4 0 rfl rfl)
theorem dX5_carries_109 : decode cX5_carries 109 = .ok (.invokevirtual 265, 3) := dk_182 1 9 (dk_at dksX5_carries_4 3 rfl rfl)
theorem dX5_carries_112 : decode cX5_carries 112 = .ok (.ifCond .eq 20, 3) := dk_153 0 20 (dk_at dksX5_carries_4 6 rfl rfl)
theorem dX5_carries_115 : decode cX5_carries 115 = .ok (.iconst 3, 1) := dk_6 (dk_at dksX5_carries_4 9 rfl rfl)
theorem dX5_carries_116 : decode cX5_carries 116 = .ok (.istore_n 2, 1) := dk_61 (dk_at dksX5_carries_4 10 rfl rfl)
theorem dX5_carries_117 : decode cX5_carries 117 = .ok (.goto 15, 3) := dk_167 0 15 (dk_at dksX5_carries_4 11 rfl rfl)
theorem dX5_carries_120 : decode cX5_carries 120 = .ok (.aload_n 1, 1) := dk_43 (dk_at dksX5_carries_4 14 rfl rfl)
theorem dX5_carries_121 : decode cX5_carries 121 = .ok (.ldc_w 275, 3) := dk_19 1 19 (dk_at dksX5_carries_4 15 rfl rfl)
theorem dX5_carries_124 : decode cX5_carries 124 = .ok (.invokevirtual 265, 3) := dk_182 1 9 (dk_at dksX5_carries_4 18 rfl rfl)
theorem dX5_carries_127 : decode cX5_carries 127 = .ok (.ifCond .eq 5, 3) := dk_153 0 5 (dk_at dksX5_carries_4 21 rfl rfl)
theorem dX5_carries_130 : decode cX5_carries 130 = .ok (.iconst 4, 1) := dk_7 (dk_at dksX5_carries_5 0 rfl rfl)
theorem dX5_carries_131 : decode cX5_carries 131 = .ok (.istore_n 2, 1) := dk_61 (dk_at dksX5_carries_5 1 rfl rfl)
theorem dX5_carries_132 : decode cX5_carries 132 = .ok (.iload_n 2, 1) := dk_28 (dk_at dksX5_carries_5 2 rfl rfl)
theorem dX5_carries_133 : decode cX5_carries 133 = .ok (.tableswitch 102 0 4 #[35, 46, 57, 68, 79], 35) := by decide +kernel
theorem dX5_carries_168 : decode cX5_carries 168 = .ok (.aload_n 0, 1) := dk_42 (dk_at dksX5_carries_7 0 rfl rfl)
theorem dX5_carries_169 : decode cX5_carries 169 = .ok (.aload_n 0, 1) := dk_42 (dk_at dksX5_carries_7 1 rfl rfl)
theorem dX5_carries_170 : decode cX5_carries 170 = .ok (.getfield 39, 3) := dk_180 0 39 (dk_at dksX5_carries_7 2 rfl rfl)
theorem dX5_carries_173 : decode cX5_carries 173 = .ok (.iconst 0, 1) := dk_3 (dk_at dksX5_carries_7 5 rfl rfl)
theorem dX5_carries_174 : decode cX5_carries 174 = .ok (.iaload, 1) := dk_46 (dk_at dksX5_carries_7 6 rfl rfl)
theorem dX5_carries_175 : decode cX5_carries 175 = .ok (.invokevirtual 180, 3) := dk_182 0 180 (dk_at dksX5_carries_7 7 rfl rfl)
theorem dX5_carries_178 : decode cX5_carries 178 = .ok (.ireturn, 1) := dk_172 (dk_at dksX5_carries_7 10 rfl rfl)
theorem dX5_carries_179 : decode cX5_carries 179 = .ok (.aload_n 0, 1) := dk_42 (dk_at dksX5_carries_7 11 rfl rfl)
theorem dX5_carries_180 : decode cX5_carries 180 = .ok (.aload_n 0, 1) := dk_42 (dk_at dksX5_carries_7 12 rfl rfl)
theorem dX5_carries_181 : decode cX5_carries 181 = .ok (.getfield 39, 3) := dk_180 0 39 (dk_at dksX5_carries_7 13 rfl rfl)
theorem dX5_carries_184 : decode cX5_carries 184 = .ok (.iconst 0, 1) := dk_3 (dk_at dksX5_carries_7 16 rfl rfl)
theorem dX5_carries_185 : decode cX5_carries 185 = .ok (.iaload, 1) := dk_46 (dk_at dksX5_carries_7 17 rfl rfl)
theorem dX5_carries_186 : decode cX5_carries 186 = .ok (.invokevirtual 186, 3) := dk_182 0 186 (dk_at dksX5_carries_7 18 rfl rfl)
theorem dX5_carries_189 : decode cX5_carries 189 = .ok (.ireturn, 1) := dk_172 (dk_at dksX5_carries_7 21 rfl rfl)
theorem dX5_carries_190 : decode cX5_carries 190 = .ok (.aload_n 0, 1) := dk_42 (dk_at dksX5_carries_7 22 rfl rfl)
theorem dX5_carries_191 : decode cX5_carries 191 = .ok (.aload_n 0, 1) := dk_42 (dk_at dksX5_carries_7 23 rfl rfl)
theorem dX5_carries_192 : decode cX5_carries 192 = .ok (.getfield 39, 3) := dk_180 0 39 (dk_at dksX5_carries_8 0 rfl rfl)
theorem dX5_carries_195 : decode cX5_carries 195 = .ok (.iconst 0, 1) := dk_3 (dk_at dksX5_carries_8 3 rfl rfl)
theorem dX5_carries_196 : decode cX5_carries 196 = .ok (.iaload, 1) := dk_46 (dk_at dksX5_carries_8 4 rfl rfl)
theorem dX5_carries_197 : decode cX5_carries 197 = .ok (.invokevirtual 196, 3) := dk_182 0 196 (dk_at dksX5_carries_8 5 rfl rfl)
theorem dX5_carries_200 : decode cX5_carries 200 = .ok (.ireturn, 1) := dk_172 (dk_at dksX5_carries_8 8 rfl rfl)
theorem dX5_carries_201 : decode cX5_carries 201 = .ok (.aload_n 0, 1) := dk_42 (dk_at dksX5_carries_8 9 rfl rfl)
theorem dX5_carries_202 : decode cX5_carries 202 = .ok (.aload_n 0, 1) := dk_42 (dk_at dksX5_carries_8 10 rfl rfl)
theorem dX5_carries_203 : decode cX5_carries 203 = .ok (.getfield 39, 3) := dk_180 0 39 (dk_at dksX5_carries_8 11 rfl rfl)
theorem dX5_carries_206 : decode cX5_carries 206 = .ok (.iconst 0, 1) := dk_3 (dk_at dksX5_carries_8 14 rfl rfl)
theorem dX5_carries_207 : decode cX5_carries 207 = .ok (.iaload, 1) := dk_46 (dk_at dksX5_carries_8 15 rfl rfl)
theorem dX5_carries_208 : decode cX5_carries 208 = .ok (.invokevirtual 199, 3) := dk_182 0 199 (dk_at dksX5_carries_8 16 rfl rfl)
theorem dX5_carries_211 : decode cX5_carries 211 = .ok (.ireturn, 1) := dk_172 (dk_at dksX5_carries_8 19 rfl rfl)
theorem dX5_carries_212 : decode cX5_carries 212 = .ok (.aload_n 0, 1) := dk_42 (dk_at dksX5_carries_8 20 rfl rfl)
theorem dX5_carries_213 : decode cX5_carries 213 = .ok (.aload_n 0, 1) := dk_42 (dk_at dksX5_carries_8 21 rfl rfl)
theorem dX5_carries_214 : decode cX5_carries 214 = .ok (.getfield 39, 3) := dk_180 0 39 (dk_at dksX5_carries_9 0 rfl rfl)
theorem dX5_carries_217 : decode cX5_carries 217 = .ok (.iconst 0, 1) := dk_3 (dk_at dksX5_carries_9 3 rfl rfl)
theorem dX5_carries_218 : decode cX5_carries 218 = .ok (.iaload, 1) := dk_46 (dk_at dksX5_carries_9 4 rfl rfl)
theorem dX5_carries_219 : decode cX5_carries 219 = .ok (.aload_n 0, 1) := dk_42 (dk_at dksX5_carries_9 5 rfl rfl)
theorem dX5_carries_220 : decode cX5_carries 220 = .ok (.getfield 39, 3) := dk_180 0 39 (dk_at dksX5_carries_9 6 rfl rfl)
theorem dX5_carries_223 : decode cX5_carries 223 = .ok (.iconst 1, 1) := dk_4 (dk_at dksX5_carries_9 9 rfl rfl)
theorem dX5_carries_224 : decode cX5_carries 224 = .ok (.iaload, 1) := dk_46 (dk_at dksX5_carries_9 10 rfl rfl)
theorem dX5_carries_225 : decode cX5_carries 225 = .ok (.aload_n 0, 1) := dk_42 (dk_at dksX5_carries_9 11 rfl rfl)
theorem dX5_carries_226 : decode cX5_carries 226 = .ok (.getfield 39, 3) := dk_180 0 39 (dk_at dksX5_carries_9 12 rfl rfl)
theorem dX5_carries_229 : decode cX5_carries 229 = .ok (.iconst 2, 1) := dk_5 (dk_at dksX5_carries_9 15 rfl rfl)
theorem dX5_carries_230 : decode cX5_carries 230 = .ok (.iaload, 1) := dk_46 (dk_at dksX5_carries_9 16 rfl rfl)
theorem dX5_carries_231 : decode cX5_carries 231 = .ok (.invokevirtual 202, 3) := dk_182 0 202 (dk_at dksX5_carries_9 17 rfl rfl)
theorem dX5_carries_234 : decode cX5_carries 234 = .ok (.ireturn, 1) := dk_172 (dk_at dksX5_carries_9 20 rfl rfl)
theorem dX5_carries_235 : decode cX5_carries 235 = .ok (.aload_n 0, 1) := dk_42 (dk_at dksX5_carries_9 21 rfl rfl)
theorem dX5_carries_236 : decode cX5_carries 236 = .ok (.aload_n 0, 1) := dk_42 (dk_at dksX5_carries_9 22 rfl rfl)
theorem dX5_carries_237 : decode cX5_carries 237 = .ok (.getfield 39, 3) := dk_180 0 39 (dk_at dksX5_carries_10 0 rfl rfl)
theorem dX5_carries_240 : decode cX5_carries 240 = .ok (.iconst 0, 1) := dk_3 (dk_at dksX5_carries_10 3 rfl rfl)
theorem dX5_carries_241 : decode cX5_carries 241 = .ok (.iaload, 1) := dk_46 (dk_at dksX5_carries_10 4 rfl rfl)
theorem dX5_carries_242 : decode cX5_carries 242 = .ok (.invokevirtual 208, 3) := dk_182 0 208 (dk_at dksX5_carries_10 5 rfl rfl)
theorem dX5_carries_245 : decode cX5_carries 245 = .ok (.ireturn, 1) := dk_172 (dk_at dksX5_carries_10 8 rfl rfl)
abbrev cX5_comesBack : ByteArray := prog_25_method_6_code
def dkwX5_comesBack_1 : List UInt8 := [167, 255, 234, 177]
abbrev dktX5_comesBack_1 : List UInt8 := dkwX5_comesBack_1 ++ []
def dkwX5_comesBack_0 : List UInt8 := [3, 60, 27, 17, 21, 81, 162, 0, 21, 42, 180, 0, 9, 27, 42, 180, 0, 13, 27, 46, 79, 132, 1, 1]
abbrev dktX5_comesBack_0 : List UInt8 := dkwX5_comesBack_0 ++ dktX5_comesBack_1
theorem dksX5_comesBack_0 : cX5_comesBack.data.toList.drop 0 = dktX5_comesBack_0 := by decide +kernel
theorem dksX5_comesBack_1 : cX5_comesBack.data.toList.drop 24 = dktX5_comesBack_1 := dk_seg dksX5_comesBack_0 24 rfl rfl
theorem dX5_comesBack_0 : decode cX5_comesBack 0 = .ok (.iconst 0, 1) := dk_3 (dk_at dksX5_comesBack_0 0 rfl rfl)
theorem dX5_comesBack_1 : decode cX5_comesBack 1 = .ok (.istore_n 1, 1) := dk_60 (dk_at dksX5_comesBack_0 1 rfl rfl)
theorem dX5_comesBack_2 : decode cX5_comesBack 2 = .ok (.iload_n 1, 1) := dk_27 (dk_at dksX5_comesBack_0 2 rfl rfl)
theorem dX5_comesBack_3 : decode cX5_comesBack 3 = .ok (.sipush 5457, 3) := dk_17 21 81 (dk_at dksX5_comesBack_0 3 rfl rfl)
theorem dX5_comesBack_6 : decode cX5_comesBack 6 = .ok (.if_icmp .ge 21, 3) := dk_162 0 21 (dk_at dksX5_comesBack_0 6 rfl rfl)
theorem dX5_comesBack_9 : decode cX5_comesBack 9 = .ok (.aload_n 0, 1) := dk_42 (dk_at dksX5_comesBack_0 9 rfl rfl)
theorem dX5_comesBack_10 : decode cX5_comesBack 10 = .ok (.getfield 9, 3) := dk_180 0 9 (dk_at dksX5_comesBack_0 10 rfl rfl)
theorem dX5_comesBack_13 : decode cX5_comesBack 13 = .ok (.iload_n 1, 1) := dk_27 (dk_at dksX5_comesBack_0 13 rfl rfl)
theorem dX5_comesBack_14 : decode cX5_comesBack 14 = .ok (.aload_n 0, 1) := dk_42 (dk_at dksX5_comesBack_0 14 rfl rfl)
theorem dX5_comesBack_15 : decode cX5_comesBack 15 = .ok (.getfield 13, 3) := dk_180 0 13 (dk_at dksX5_comesBack_0 15 rfl rfl)
theorem dX5_comesBack_18 : decode cX5_comesBack 18 = .ok (.iload_n 1, 1) := dk_27 (dk_at dksX5_comesBack_0 18 rfl rfl)
theorem dX5_comesBack_19 : decode cX5_comesBack 19 = .ok (.iaload, 1) := dk_46 (dk_at dksX5_comesBack_0 19 rfl rfl)
theorem dX5_comesBack_20 : decode cX5_comesBack 20 = .ok (.iastore, 1) := dk_79 (dk_at dksX5_comesBack_0 20 rfl rfl)
theorem dX5_comesBack_21 : decode cX5_comesBack 21 = .ok (.iinc 1 1, 3) := dk_132 1 1 (dk_at dksX5_comesBack_0 21 rfl rfl)
theorem dX5_comesBack_24 : decode cX5_comesBack 24 = .ok (.goto (-22), 3) := dk_167 255 234 (dk_at dksX5_comesBack_1 0 rfl rfl)
theorem dX5_comesBack_27 : decode cX5_comesBack 27 = .ok (.return_, 1) := dk_177 (dk_at dksX5_comesBack_1 3 rfl rfl)
abbrev cX5_errorPosition : ByteArray := prog_25_method_82_code
def dkwX5_errorPosition_1 : List UInt8 := [172]
abbrev dktX5_errorPosition_1 : List UInt8 := dkwX5_errorPosition_1 ++ []
def dkwX5_errorPosition_0 : List UInt8 := [42, 3, 181, 0, 46, 42, 180, 0, 42, 156, 0, 11, 42, 4, 182, 0, 149, 167, 0, 7, 42, 180, 0, 42]
abbrev dktX5_errorPosition_0 : List UInt8 := dkwX5_errorPosition_0 ++ dktX5_errorPosition_1
theorem dksX5_errorPosition_0 : cX5_errorPosition.data.toList.drop 0 = dktX5_errorPosition_0 := by decide +kernel
theorem dksX5_errorPosition_1 : cX5_errorPosition.data.toList.drop 24 = dktX5_errorPosition_1 := dk_seg dksX5_errorPosition_0 24 rfl rfl
theorem dX5_errorPosition_0 : decode cX5_errorPosition 0 = .ok (.aload_n 0, 1) := dk_42 (dk_at dksX5_errorPosition_0 0 rfl rfl)
theorem dX5_errorPosition_1 : decode cX5_errorPosition 1 = .ok (.iconst 0, 1) := dk_3 (dk_at dksX5_errorPosition_0 1 rfl rfl)
theorem dX5_errorPosition_2 : decode cX5_errorPosition 2 = .ok (.putfield 46, 3) := dk_181 0 46 (dk_at dksX5_errorPosition_0 2 rfl rfl)
theorem dX5_errorPosition_5 : decode cX5_errorPosition 5 = .ok (.aload_n 0, 1) := dk_42 (dk_at dksX5_errorPosition_0 5 rfl rfl)
theorem dX5_errorPosition_6 : decode cX5_errorPosition 6 = .ok (.getfield 42, 3) := dk_180 0 42 (dk_at dksX5_errorPosition_0 6 rfl rfl)
theorem dX5_errorPosition_9 : decode cX5_errorPosition 9 = .ok (.ifCond .ge 11, 3) := dk_156 0 11 (dk_at dksX5_errorPosition_0 9 rfl rfl)
theorem dX5_errorPosition_12 : decode cX5_errorPosition 12 = .ok (.aload_n 0, 1) := dk_42 (dk_at dksX5_errorPosition_0 12 rfl rfl)
theorem dX5_errorPosition_13 : decode cX5_errorPosition 13 = .ok (.iconst 1, 1) := dk_4 (dk_at dksX5_errorPosition_0 13 rfl rfl)
theorem dX5_errorPosition_14 : decode cX5_errorPosition 14 = .ok (.invokevirtual 149, 3) := dk_182 0 149 (dk_at dksX5_errorPosition_0 14 rfl rfl)
theorem dX5_errorPosition_17 : decode cX5_errorPosition 17 = .ok (.goto 7, 3) := dk_167 0 7 (dk_at dksX5_errorPosition_0 17 rfl rfl)
theorem dX5_errorPosition_20 : decode cX5_errorPosition 20 = .ok (.aload_n 0, 1) := dk_42 (dk_at dksX5_errorPosition_0 20 rfl rfl)
theorem dX5_errorPosition_21 : decode cX5_errorPosition 21 = .ok (.getfield 42, 3) := dk_180 0 42 (dk_at dksX5_errorPosition_0 21 rfl rfl)
theorem dX5_errorPosition_24 : decode cX5_errorPosition 24 = .ok (.ireturn, 1) := dk_172 (dk_at dksX5_errorPosition_1 0 rfl rfl)
abbrev cX5_refusal : ByteArray := prog_25_method_83_code
def dkwX5_refusal_1 : List UInt8 := [180, 0, 59, 167, 0, 7, 42, 180, 0, 56, 172]
abbrev dktX5_refusal_1 : List UInt8 := dkwX5_refusal_1 ++ []
def dkwX5_refusal_0 : List UInt8 := [42, 3, 181, 0, 46, 42, 180, 0, 56, 154, 0, 9, 42, 4, 182, 0, 149, 172, 27, 153, 0, 10, 42]
abbrev dktX5_refusal_0 : List UInt8 := dkwX5_refusal_0 ++ dktX5_refusal_1
theorem dksX5_refusal_0 : cX5_refusal.data.toList.drop 0 = dktX5_refusal_0 := by decide +kernel
theorem dksX5_refusal_1 : cX5_refusal.data.toList.drop 23 = dktX5_refusal_1 := dk_seg dksX5_refusal_0 23 rfl rfl
theorem dX5_refusal_0 : decode cX5_refusal 0 = .ok (.aload_n 0, 1) := dk_42 (dk_at dksX5_refusal_0 0 rfl rfl)
theorem dX5_refusal_1 : decode cX5_refusal 1 = .ok (.iconst 0, 1) := dk_3 (dk_at dksX5_refusal_0 1 rfl rfl)
theorem dX5_refusal_2 : decode cX5_refusal 2 = .ok (.putfield 46, 3) := dk_181 0 46 (dk_at dksX5_refusal_0 2 rfl rfl)
theorem dX5_refusal_5 : decode cX5_refusal 5 = .ok (.aload_n 0, 1) := dk_42 (dk_at dksX5_refusal_0 5 rfl rfl)
theorem dX5_refusal_6 : decode cX5_refusal 6 = .ok (.getfield 56, 3) := dk_180 0 56 (dk_at dksX5_refusal_0 6 rfl rfl)
theorem dX5_refusal_9 : decode cX5_refusal 9 = .ok (.ifCond .ne 9, 3) := dk_154 0 9 (dk_at dksX5_refusal_0 9 rfl rfl)
theorem dX5_refusal_12 : decode cX5_refusal 12 = .ok (.aload_n 0, 1) := dk_42 (dk_at dksX5_refusal_0 12 rfl rfl)
theorem dX5_refusal_13 : decode cX5_refusal 13 = .ok (.iconst 1, 1) := dk_4 (dk_at dksX5_refusal_0 13 rfl rfl)
theorem dX5_refusal_14 : decode cX5_refusal 14 = .ok (.invokevirtual 149, 3) := dk_182 0 149 (dk_at dksX5_refusal_0 14 rfl rfl)
theorem dX5_refusal_17 : decode cX5_refusal 17 = .ok (.ireturn, 1) := dk_172 (dk_at dksX5_refusal_0 17 rfl rfl)
theorem dX5_refusal_18 : decode cX5_refusal 18 = .ok (.iload_n 1, 1) := dk_27 (dk_at dksX5_refusal_0 18 rfl rfl)
theorem dX5_refusal_19 : decode cX5_refusal 19 = .ok (.ifCond .eq 10, 3) := dk_153 0 10 (dk_at dksX5_refusal_0 19 rfl rfl)
theorem dX5_refusal_22 : decode cX5_refusal 22 = .ok (.aload_n 0, 1) := dk_42 (dk_at dksX5_refusal_0 22 rfl rfl)
theorem dX5_refusal_23 : decode cX5_refusal 23 = .ok (.getfield 59, 3) := dk_180 0 59 (dk_at dksX5_refusal_1 0 rfl rfl)
theorem dX5_refusal_26 : decode cX5_refusal 26 = .ok (.goto 7, 3) := dk_167 0 7 (dk_at dksX5_refusal_1 3 rfl rfl)
theorem dX5_refusal_29 : decode cX5_refusal 29 = .ok (.aload_n 0, 1) := dk_42 (dk_at dksX5_refusal_1 6 rfl rfl)
theorem dX5_refusal_30 : decode cX5_refusal 30 = .ok (.getfield 56, 3) := dk_180 0 56 (dk_at dksX5_refusal_1 7 rfl rfl)
theorem dX5_refusal_33 : decode cX5_refusal 33 = .ok (.ireturn, 1) := dk_172 (dk_at dksX5_refusal_1 10 rfl rfl)
theorem q2283 : (Jvm.Cond.instanceMethod ({ cls := "java/lang/String", name := "hashCode", desc := "()I" } : Jvm.MethodName)) ∈ lw_all := lw_g (lw_at lw_m10 16 rfl) rfl
theorem q2284 : (Jvm.Cond.selects "java/lang/String" ({ cls := "java/lang/String", name := "hashCode", desc := "()I" } : Jvm.MethodName) ({ cls := "java/lang/String", name := "hashCode", desc := "()I" } : Jvm.MethodName)) ∈ lw_all := lw_g (lw_at lw_m10 17 rfl) rfl
theorem q2285 : (Jvm.Cond.code ({ cls := "java/lang/String", name := "hashCode", desc := "()I" } : Jvm.MethodName) prog_48_method_78_code (2 : Nat) (Option.some Jvm.ClassFile.FieldType.int)) ∈ lw_all := lw_g (lw_at lw_m10 18 rfl) rfl
theorem q2345 : (Jvm.Cond.instanceMethod ({ cls := "java/lang/String", name := "equals", desc := "(Ljava/lang/Object;)Z" } : Jvm.MethodName)) ∈ lw_all := lw_g (lw_at lw_m10 78 rfl) rfl
theorem q2346 : (Jvm.Cond.selects "java/lang/String" ({ cls := "java/lang/String", name := "equals", desc := "(Ljava/lang/Object;)Z" } : Jvm.MethodName) ({ cls := "java/lang/String", name := "equals", desc := "(Ljava/lang/Object;)Z" } : Jvm.MethodName)) ∈ lw_all := lw_g (lw_at lw_m10 79 rfl) rfl
theorem q2347 : (Jvm.Cond.code ({ cls := "java/lang/String", name := "equals", desc := "(Ljava/lang/Object;)Z" } : Jvm.MethodName) prog_48_method_66_code (3 : Nat) (Option.some Jvm.ClassFile.FieldType.boolean)) ∈ lw_all := lw_g (lw_at lw_m10 80 rfl) rfl
theorem q3039 : (Jvm.Cond.instanceMethod ({ cls := "java/lang/String", name := "charAt", desc := "(I)C" } : Jvm.MethodName)) ∈ lw_all := lw_g (lw_at lw_m13 52 rfl) rfl
theorem q3040 : (Jvm.Cond.selects "java/lang/String" ({ cls := "java/lang/String", name := "charAt", desc := "(I)C" } : Jvm.MethodName) ({ cls := "java/lang/String", name := "charAt", desc := "(I)C" } : Jvm.MethodName)) ∈ lw_all := lw_g (lw_at lw_m13 53 rfl) rfl
theorem q3041 : (Jvm.Cond.code ({ cls := "java/lang/String", name := "charAt", desc := "(I)C" } : Jvm.MethodName) prog_48_method_56_code (2 : Nat) (Option.some Jvm.ClassFile.FieldType.char)) ∈ lw_all := lw_g (lw_at lw_m13 54 rfl) rfl
theorem q3388 : (Jvm.Cond.fieldLink "BanquetVotesModel" (223 : Nat) "BanquetVotesModel" "length" "I") ∈ lw_all := lw_g (lw_at lw_m14 161 rfl) rfl
theorem q3389 : (Jvm.Cond.fieldLink "BanquetVotesModel" (226 : Nat) "BanquetVotesModel" "at" "I") ∈ lw_all := lw_g (lw_at lw_m14 162 rfl) rfl
theorem q3644 : (Jvm.Cond.methodLink "BanquetVotesModel" (202 : Nat) ({ cls := "BanquetVotesModel", name := "learns", desc := "(III)I" } : Jvm.MethodName)) ∈ lw_all := lw_g (lw_at lw_m15 177 rfl) rfl
theorem q3646 : (Jvm.Cond.instanceMethod ({ cls := "BanquetVotesModel", name := "learns", desc := "(III)I" } : Jvm.MethodName)) ∈ lw_all := lw_g (lw_at lw_m15 179 rfl) rfl
theorem q3647 : (Jvm.Cond.code ({ cls := "BanquetVotesModel", name := "learns", desc := "(III)I" } : Jvm.MethodName) prog_25_method_61_code (5 : Nat) (Option.some Jvm.ClassFile.FieldType.int)) ∈ lw_all := lw_g (lw_at lw_m15 180 rfl) rfl
theorem q3648 : (Jvm.Cond.methodLink "BanquetVotesModel" (131 : Nat) ({ cls := "BanquetVotesModel", name := "hears", desc := "(III)V" } : Jvm.MethodName)) ∈ lw_all := lw_g (lw_at lw_m15 181 rfl) rfl
theorem q3650 : (Jvm.Cond.instanceMethod ({ cls := "BanquetVotesModel", name := "hears", desc := "(III)V" } : Jvm.MethodName)) ∈ lw_all := lw_g (lw_at lw_m15 183 rfl) rfl
theorem q3651 : (Jvm.Cond.code ({ cls := "BanquetVotesModel", name := "hears", desc := "(III)V" } : Jvm.MethodName) prog_25_method_36_code (7 : Nat) (Option.none : Option Jvm.ClassFile.FieldType)) ∈ lw_all := lw_g (lw_at lw_m15 184 rfl) rfl
theorem q3652 : (Jvm.Cond.methodLink "BanquetVotesModel" (118 : Nat) ({ cls := "BanquetVotesModel", name := "becomes", desc := "(III)V" } : Jvm.MethodName)) ∈ lw_all := lw_g (lw_at lw_m15 185 rfl) rfl
theorem q3654 : (Jvm.Cond.instanceMethod ({ cls := "BanquetVotesModel", name := "becomes", desc := "(III)V" } : Jvm.MethodName)) ∈ lw_all := lw_g (lw_at lw_m15 187 rfl) rfl
theorem q3655 : (Jvm.Cond.code ({ cls := "BanquetVotesModel", name := "becomes", desc := "(III)V" } : Jvm.MethodName) prog_25_method_31_code (4 : Nat) (Option.none : Option Jvm.ClassFile.FieldType)) ∈ lw_all := lw_g (lw_at lw_m15 188 rfl) rfl
theorem q3660 : (Jvm.Cond.methodLink "BanquetVotesModel" (208 : Nat) ({ cls := "BanquetVotesModel", name := "passes", desc := "(I)I" } : Jvm.MethodName)) ∈ lw_all := lw_g (lw_at lw_m15 193 rfl) rfl
theorem q3662 : (Jvm.Cond.instanceMethod ({ cls := "BanquetVotesModel", name := "passes", desc := "(I)I" } : Jvm.MethodName)) ∈ lw_all := lw_g (lw_at lw_m15 195 rfl) rfl
theorem q3663 : (Jvm.Cond.code ({ cls := "BanquetVotesModel", name := "passes", desc := "(I)I" } : Jvm.MethodName) prog_25_method_63_code (3 : Nat) (Option.some Jvm.ClassFile.FieldType.int)) ∈ lw_all := lw_g (lw_at lw_m15 196 rfl) rfl
theorem q3664 : (Jvm.Cond.methodLink "BanquetVotesModel" (205 : Nat) ({ cls := "BanquetVotesModel", name := "minuteGoes", desc := "()V" } : Jvm.MethodName)) ∈ lw_all := lw_g (lw_at lw_m15 197 rfl) rfl
theorem q3666 : (Jvm.Cond.instanceMethod ({ cls := "BanquetVotesModel", name := "minuteGoes", desc := "()V" } : Jvm.MethodName)) ∈ lw_all := lw_g (lw_at lw_m15 199 rfl) rfl
theorem q3667 : (Jvm.Cond.code ({ cls := "BanquetVotesModel", name := "minuteGoes", desc := "()V" } : Jvm.MethodName) prog_25_method_39_code (5 : Nat) (Option.none : Option Jvm.ClassFile.FieldType)) ∈ lw_all := lw_g (lw_at lw_m15 200 rfl) rfl
theorem q3668 : (Jvm.Cond.methodLink "BanquetVotesModel" (140 : Nat) ({ cls := "BanquetVotesModel", name := "message", desc := "(II)I" } : Jvm.MethodName)) ∈ lw_all := lw_g (lw_at lw_m15 201 rfl) rfl
theorem q3670 : (Jvm.Cond.instanceMethod ({ cls := "BanquetVotesModel", name := "message", desc := "(II)I" } : Jvm.MethodName)) ∈ lw_all := lw_g (lw_at lw_m15 203 rfl) rfl
theorem q3671 : (Jvm.Cond.code ({ cls := "BanquetVotesModel", name := "message", desc := "(II)I" } : Jvm.MethodName) prog_25_method_28_code (3 : Nat) (Option.some Jvm.ClassFile.FieldType.int)) ∈ lw_all := lw_g (lw_at lw_m15 204 rfl) rfl
theorem q3672 : (Jvm.Cond.methodLink "BanquetVotesModel" (143 : Nat) ({ cls := "BanquetVotesModel", name := "arrives", desc := "(III)V" } : Jvm.MethodName)) ∈ lw_all := lw_g (lw_at lw_m15 205 rfl) rfl
theorem q3674 : (Jvm.Cond.instanceMethod ({ cls := "BanquetVotesModel", name := "arrives", desc := "(III)V" } : Jvm.MethodName)) ∈ lw_all := lw_g (lw_at lw_m15 207 rfl) rfl
theorem q3675 : (Jvm.Cond.code ({ cls := "BanquetVotesModel", name := "arrives", desc := "(III)V" } : Jvm.MethodName) prog_25_method_38_code (5 : Nat) (Option.none : Option Jvm.ClassFile.FieldType)) ∈ lw_all := lw_g (lw_at lw_m15 208 rfl) rfl
theorem q3676 : (Jvm.Cond.methodLink "BanquetVotesModel" (128 : Nat) ({ cls := "BanquetVotesModel", name := "votes", desc := "(II)V" } : Jvm.MethodName)) ∈ lw_all := lw_g (lw_at lw_m15 209 rfl) rfl
theorem q3678 : (Jvm.Cond.instanceMethod ({ cls := "BanquetVotesModel", name := "votes", desc := "(II)V" } : Jvm.MethodName)) ∈ lw_all := lw_g (lw_at lw_m15 211 rfl) rfl
theorem q3679 : (Jvm.Cond.code ({ cls := "BanquetVotesModel", name := "votes", desc := "(II)V" } : Jvm.MethodName) prog_25_method_37_code (4 : Nat) (Option.none : Option Jvm.ClassFile.FieldType)) ∈ lw_all := lw_g (lw_at lw_m15 212 rfl) rfl
theorem q3684 : (Jvm.Cond.methodLink "BanquetVotesModel" (211 : Nat) ({ cls := "BanquetVotesModel", name := "thinks", desc := "()V" } : Jvm.MethodName)) ∈ lw_all := lw_g (lw_at lw_m15 217 rfl) rfl
theorem q3686 : (Jvm.Cond.instanceMethod ({ cls := "BanquetVotesModel", name := "thinks", desc := "()V" } : Jvm.MethodName)) ∈ lw_all := lw_g (lw_at lw_m15 219 rfl) rfl
theorem q3687 : (Jvm.Cond.code ({ cls := "BanquetVotesModel", name := "thinks", desc := "()V" } : Jvm.MethodName) prog_25_method_8_code (2 : Nat) (Option.none : Option Jvm.ClassFile.FieldType)) ∈ lw_all := lw_g (lw_at lw_m15 220 rfl) rfl
theorem q3688 : (Jvm.Cond.methodLink "BanquetVotesModel" (214 : Nat) ({ cls := "BanquetVotesModel", name := "thinksNoMore", desc := "()V" } : Jvm.MethodName)) ∈ lw_all := lw_g (lw_at lw_m15 221 rfl) rfl
theorem q3690 : (Jvm.Cond.instanceMethod ({ cls := "BanquetVotesModel", name := "thinksNoMore", desc := "()V" } : Jvm.MethodName)) ∈ lw_all := lw_g (lw_at lw_m15 223 rfl) rfl
theorem q3691 : (Jvm.Cond.code ({ cls := "BanquetVotesModel", name := "thinksNoMore", desc := "()V" } : Jvm.MethodName) prog_25_method_9_code (2 : Nat) (Option.none : Option Jvm.ClassFile.FieldType)) ∈ lw_all := lw_g (lw_at lw_m15 224 rfl) rfl
theorem q3704 : (Jvm.Cond.methodLink "BanquetVotesModel" (217 : Nat) ({ cls := "BanquetVotesModel", name := "turn", desc := "(I)I" } : Jvm.MethodName)) ∈ lw_all := lw_g (lw_at lw_m15 237 rfl) rfl
theorem q3706 : (Jvm.Cond.instanceMethod ({ cls := "BanquetVotesModel", name := "turn", desc := "(I)I" } : Jvm.MethodName)) ∈ lw_all := lw_g (lw_at lw_m15 239 rfl) rfl
theorem q3707 : (Jvm.Cond.code ({ cls := "BanquetVotesModel", name := "turn", desc := "(I)I" } : Jvm.MethodName) prog_25_method_68_code (4 : Nat) (Option.some Jvm.ClassFile.FieldType.int)) ∈ lw_all := lw_g (lw_at lw_m16 0 rfl) rfl
theorem q3716 : (Jvm.Cond.methodLink "BanquetVotesModel" (220 : Nat) ({ cls := "BanquetVotesModel", name := "isAhead", desc := "(II)Z" } : Jvm.MethodName)) ∈ lw_all := lw_g (lw_at lw_m16 9 rfl) rfl
theorem q3718 : (Jvm.Cond.instanceMethod ({ cls := "BanquetVotesModel", name := "isAhead", desc := "(II)Z" } : Jvm.MethodName)) ∈ lw_all := lw_g (lw_at lw_m16 11 rfl) rfl
theorem q3719 : (Jvm.Cond.code ({ cls := "BanquetVotesModel", name := "isAhead", desc := "(II)Z" } : Jvm.MethodName) prog_25_method_71_code (4 : Nat) (Option.some Jvm.ClassFile.FieldType.boolean)) ∈ lw_all := lw_g (lw_at lw_m16 12 rfl) rfl
theorem q3728 : (Jvm.Cond.methodLink "BanquetVotesModel" (288 : Nat) ({ cls := "BanquetVotesModel", name := "isCommand", desc := "()Z" } : Jvm.MethodName)) ∈ lw_all := lw_g (lw_at lw_m16 21 rfl) rfl
theorem q3730 : (Jvm.Cond.instanceMethod ({ cls := "BanquetVotesModel", name := "isCommand", desc := "()Z" } : Jvm.MethodName)) ∈ lw_all := lw_g (lw_at lw_m16 23 rfl) rfl
theorem q3731 : (Jvm.Cond.code ({ cls := "BanquetVotesModel", name := "isCommand", desc := "()Z" } : Jvm.MethodName) prog_25_method_79_code (3 : Nat) (Option.some Jvm.ClassFile.FieldType.boolean)) ∈ lw_all := lw_g (lw_at lw_m16 24 rfl) rfl
theorem q3733 : (Jvm.Cond.methodLink "BanquetVotesModel" (251 : Nat) ({ cls := "BanquetVotesModel", name := "isOneOf", desc := "(Ljava/lang/String;)Z" } : Jvm.MethodName)) ∈ lw_all := lw_g (lw_at lw_m16 26 rfl) rfl
theorem q3735 : (Jvm.Cond.instanceMethod ({ cls := "BanquetVotesModel", name := "isOneOf", desc := "(Ljava/lang/String;)Z" } : Jvm.MethodName)) ∈ lw_all := lw_g (lw_at lw_m16 28 rfl) rfl
theorem q3736 : (Jvm.Cond.code ({ cls := "BanquetVotesModel", name := "isOneOf", desc := "(Ljava/lang/String;)Z" } : Jvm.MethodName) prog_25_method_75_code (6 : Nat) (Option.some Jvm.ClassFile.FieldType.boolean)) ∈ lw_all := lw_g (lw_at lw_m16 29 rfl) rfl
theorem q3737 : (Jvm.Cond.methodLink "BanquetVotesModel" (229 : Nat) ({ cls := "java/lang/String", name := "length", desc := "()I" } : Jvm.MethodName)) ∈ lw_all := lw_g (lw_at lw_m16 30 rfl) rfl
theorem q3738 : (Jvm.Cond.methodLink "BanquetVotesModel" (233 : Nat) ({ cls := "java/lang/String", name := "indexOf", desc := "(II)I" } : Jvm.MethodName)) ∈ lw_all := lw_g (lw_at lw_m16 31 rfl) rfl
theorem q3739 : (Jvm.Cond.instanceMethod ({ cls := "java/lang/String", name := "indexOf", desc := "(II)I" } : Jvm.MethodName)) ∈ lw_all := lw_g (lw_at lw_m16 32 rfl) rfl
theorem q3740 : (Jvm.Cond.selects "java/lang/String" ({ cls := "java/lang/String", name := "indexOf", desc := "(II)I" } : Jvm.MethodName) ({ cls := "java/lang/String", name := "indexOf", desc := "(II)I" } : Jvm.MethodName)) ∈ lw_all := lw_g (lw_at lw_m16 33 rfl) rfl
theorem q3741 : (Jvm.Cond.code ({ cls := "java/lang/String", name := "indexOf", desc := "(II)I" } : Jvm.MethodName) prog_48_method_80_code (3 : Nat) (Option.some Jvm.ClassFile.FieldType.int)) ∈ lw_all := lw_g (lw_at lw_m16 34 rfl) rfl
theorem q3778 : (Jvm.Cond.methodLink "BanquetVotesModel" (236 : Nat) ({ cls := "java/lang/String", name := "charAt", desc := "(I)C" } : Jvm.MethodName)) ∈ lw_all := lw_g (lw_at lw_m16 71 rfl) rfl
theorem q3779 : (Jvm.Cond.methodLink "BanquetVotesModel" (240 : Nat) ({ cls := "java/lang/String", name := "substring", desc := "(II)Ljava/lang/String;" } : Jvm.MethodName)) ∈ lw_all := lw_g (lw_at lw_m16 72 rfl) rfl
theorem q3780 : (Jvm.Cond.instanceMethod ({ cls := "java/lang/String", name := "substring", desc := "(II)Ljava/lang/String;" } : Jvm.MethodName)) ∈ lw_all := lw_g (lw_at lw_m16 73 rfl) rfl
theorem q3781 : (Jvm.Cond.selects "java/lang/String" ({ cls := "java/lang/String", name := "substring", desc := "(II)Ljava/lang/String;" } : Jvm.MethodName) ({ cls := "java/lang/String", name := "substring", desc := "(II)Ljava/lang/String;" } : Jvm.MethodName)) ∈ lw_all := lw_g (lw_at lw_m16 74 rfl) rfl
theorem q3782 : (Jvm.Cond.code ({ cls := "java/lang/String", name := "substring", desc := "(II)Ljava/lang/String;" } : Jvm.MethodName) prog_48_method_92_code (5 : Nat) (Option.some (Jvm.ClassFile.FieldType.object "java/lang/String"))) ∈ lw_all := lw_g (lw_at lw_m16 75 rfl) rfl
theorem q3800 : (Jvm.Cond.methodLink "BanquetVotesModel" (244 : Nat) ({ cls := "java/lang/Math", name := "max", desc := "(II)I" } : Jvm.MethodName)) ∈ lw_all := lw_g (lw_at lw_m16 93 rfl) rfl
theorem q3801 : (Jvm.Cond.methodLink "BanquetVotesModel" (260 : Nat) ({ cls := "java/lang/String", name := "hashCode", desc := "()I" } : Jvm.MethodName)) ∈ lw_all := lw_g (lw_at lw_m16 94 rfl) rfl
theorem q3803 : (Jvm.Cond.methodLink "BanquetVotesModel" (265 : Nat) ({ cls := "java/lang/String", name := "equals", desc := "(Ljava/lang/Object;)Z" } : Jvm.MethodName)) ∈ lw_all := lw_g (lw_at lw_m16 96 rfl) rfl
theorem q3808 : (Jvm.Cond.methodLink "BanquetVotesModel" (255 : Nat) ({ cls := "BanquetVotesModel", name := "digit", desc := "(I)Z" } : Jvm.MethodName)) ∈ lw_all := lw_g (lw_at lw_m16 101 rfl) rfl
theorem q3810 : (Jvm.Cond.instanceMethod ({ cls := "BanquetVotesModel", name := "digit", desc := "(I)Z" } : Jvm.MethodName)) ∈ lw_all := lw_g (lw_at lw_m16 103 rfl) rfl
theorem q3811 : (Jvm.Cond.code ({ cls := "BanquetVotesModel", name := "digit", desc := "(I)Z" } : Jvm.MethodName) prog_25_method_76_code (2 : Nat) (Option.some Jvm.ClassFile.FieldType.boolean)) ∈ lw_all := lw_g (lw_at lw_m16 104 rfl) rfl
theorem q3812 : (Jvm.Cond.methodLink "BanquetVotesModel" (277 : Nat) ({ cls := "BanquetVotesModel", name := "who", desc := "()Z" } : Jvm.MethodName)) ∈ lw_all := lw_g (lw_at lw_m16 105 rfl) rfl
theorem q3814 : (Jvm.Cond.instanceMethod ({ cls := "BanquetVotesModel", name := "who", desc := "()Z" } : Jvm.MethodName)) ∈ lw_all := lw_g (lw_at lw_m16 107 rfl) rfl
theorem q3815 : (Jvm.Cond.code ({ cls := "BanquetVotesModel", name := "who", desc := "()Z" } : Jvm.MethodName) prog_25_method_77_code (3 : Nat) (Option.some Jvm.ClassFile.FieldType.boolean)) ∈ lw_all := lw_g (lw_at lw_m16 108 rfl) rfl
theorem q3817 : (Jvm.Cond.methodLink "BanquetVotesModel" (281 : Nat) ({ cls := "BanquetVotesModel", name := "takes", desc := "(C)Z" } : Jvm.MethodName)) ∈ lw_all := lw_g (lw_at lw_m16 110 rfl) rfl
theorem q3819 : (Jvm.Cond.instanceMethod ({ cls := "BanquetVotesModel", name := "takes", desc := "(C)Z" } : Jvm.MethodName)) ∈ lw_all := lw_g (lw_at lw_m16 112 rfl) rfl
theorem q3820 : (Jvm.Cond.code ({ cls := "BanquetVotesModel", name := "takes", desc := "(C)Z" } : Jvm.MethodName) prog_25_method_74_code (2 : Nat) (Option.some Jvm.ClassFile.FieldType.boolean)) ∈ lw_all := lw_g (lw_at lw_m16 113 rfl) rfl
theorem q3821 : (Jvm.Cond.methodLink "BanquetVotesModel" (285 : Nat) ({ cls := "BanquetVotesModel", name := "minutes", desc := "()Z" } : Jvm.MethodName)) ∈ lw_all := lw_g (lw_at lw_m16 114 rfl) rfl
theorem q3823 : (Jvm.Cond.instanceMethod ({ cls := "BanquetVotesModel", name := "minutes", desc := "()Z" } : Jvm.MethodName)) ∈ lw_all := lw_g (lw_at lw_m16 116 rfl) rfl
theorem q3824 : (Jvm.Cond.code ({ cls := "BanquetVotesModel", name := "minutes", desc := "()Z" } : Jvm.MethodName) prog_25_method_78_code (1 : Nat) (Option.some Jvm.ClassFile.FieldType.boolean)) ∈ lw_all := lw_g (lw_at lw_m16 117 rfl) rfl
theorem q3825 : (Jvm.Cond.methodLink "BanquetVotesModel" (291 : Nat) ({ cls := "BanquetVotesModel", name := "carries", desc := "()I" } : Jvm.MethodName)) ∈ lw_all := lw_g (lw_at lw_m16 118 rfl) rfl
theorem q3827 : (Jvm.Cond.instanceMethod ({ cls := "BanquetVotesModel", name := "carries", desc := "()I" } : Jvm.MethodName)) ∈ lw_all := lw_g (lw_at lw_m16 120 rfl) rfl
theorem q3828 : (Jvm.Cond.code ({ cls := "BanquetVotesModel", name := "carries", desc := "()I" } : Jvm.MethodName) prog_25_method_80_code (3 : Nat) (Option.some Jvm.ClassFile.FieldType.int)) ∈ lw_all := lw_g (lw_at lw_m16 121 rfl) rfl
theorem q3829 : (Jvm.Cond.methodLink "BanquetVotesModel" (294 : Nat) ({ cls := "BanquetVotesModel", name := "comesBack", desc := "()V" } : Jvm.MethodName)) ∈ lw_all := lw_g (lw_at lw_m16 122 rfl) rfl
theorem q3831 : (Jvm.Cond.instanceMethod ({ cls := "BanquetVotesModel", name := "comesBack", desc := "()V" } : Jvm.MethodName)) ∈ lw_all := lw_g (lw_at lw_m16 124 rfl) rfl
theorem q3832 : (Jvm.Cond.code ({ cls := "BanquetVotesModel", name := "comesBack", desc := "()V" } : Jvm.MethodName) prog_25_method_6_code (2 : Nat) (Option.none : Option Jvm.ClassFile.FieldType)) ∈ lw_all := lw_g (lw_at lw_m16 125 rfl) rfl
abbrev ck_X5_hears : CK := ("BanquetVotesModel", prog_25_method_36_code, 7, none, "hears", [], 4)
def f_X5_hears (γ : GP) (x0 : Nat) (x1 : Int32) (x2 : Int32) (x3 : Int32) (g : AH) : Option (AH) := bI ((if hK g x0 = 8 then f_X5_howDish γ x0 x2 x1 g else none)) fun v2 g1 => jn (fun (g3 : AH) => (if x3 = (4 : Int32) then (if (2 : Int32) ≤ v2 then (some g3) else bV ((if hK g3 x0 = 8 then f_X5_becomes γ x0 x2 x1 (4 : Int32) g3 else none)) fun g5 => (some g5)) else (some g3))) (fun (j4 : AH → Option (AH)) => (if x3 = (3 : Int32) then (if v2 = (1 : Int32) then bI ((if hK g1 x0 = 8 then f_X5_dish γ x0 x2 x1 (0 : Int32) g1 else none)) fun v7 g6 => bI ((if hK g6 x0 = 8 then f_X5_dish γ x0 x2 x1 (1 : Int32) g6 else none)) fun v9 g8 => bI ((if hK g8 x0 = 8 then f_X5_cook_2 γ x0 x1 ((3 : Int32) + (v7 - (1 : Int32))) g8 else none)) fun v11 g10 => bV ((if hK g10 x0 = 8 then f_X5_setsCook γ x0 x1 ((3 : Int32) + (v7 - (1 : Int32))) (v11 - v9) g10 else none)) fun g12 => bI ((if hK g12 x0 = 8 then f_X5_cook_2 γ x0 x1 ((11 : Int32) + (v7 - (1 : Int32))) g12 else none)) fun v14 g13 => bV ((if hK g13 x0 = 8 then f_X5_setsCook γ x0 x1 ((11 : Int32) + (v7 - (1 : Int32))) (v14 + v9) g13 else none)) fun g15 => bV ((if hK g15 x0 = 8 then f_X5_becomes γ x0 x2 x1 (3 : Int32) g15 else none)) fun g16 => j4 g16 else j4 g1) else j4 g1))
theorem t_X5_hears (γ : GP) (l : Launch) (hl : l.stackTraces = false) (x0 : Nat) (x1 : Int32) (x2 : Int32) (x3 : Int32) (g : AH) : TrM ρV γ l ⟨"BanquetVotesModel", "hears", "(III)V"⟩ (ws_ ⟨"BanquetVotesModel", "hears", "(III)V"⟩ prog_25_method_36_code 7 none) 4 [.ref x0, .int x1, .int x2, .int x3] g (f_X5_hears γ x0 x1 x2 x3 g) := by
  refine TrM_of (plainFor_of_name (by decide)) (Nat.le_of_ble_eq_true rfl) ?_
  unfold f_X5_hears
  change AW ρV γ l ck_X5_hears g 0 [(0, .ref x0), (1, .int x1), (2, .int x2), (3, .int x3)] [] g _
  refine r_aload_n (pc := 0) dX5_hears_0 rfl 0 rfl ?_
  refine r_iload_n (pc := 1) dX5_hears_1 rfl 2 rfl ?_
  refine r_iload_n (pc := 2) dX5_hears_2 rfl 1 rfl ?_
  refine r_cI (pc := 3) (rest := []) (RunOK_chk (fun h => run_V (n := 2) (c9 := 8) (As := [.int x2, .int x1]) (rest := []) (t_X5_howDish γ l hl x0 x2 x1 g) dX5_hears_3 q3503 q3505 qs62 q121 q3506 (by decide +kernel) rfl h ⟨rfl, by decide, by decide⟩ (Nat.le_of_ble_eq_true rfl) (Nat.le_of_ble_eq_true rfl) rfl (Nat.le_of_ble_eq_true rfl))) (fun v2 g1 => ?_)
  refine r_istore (pc := 6) dX5_hears_6 (Nat.le_of_ble_eq_true rfl) rfl ?_
  refine r_iload_n (pc := 8) dX5_hears_8 rfl 4 rfl ?_
  refine r_iconst (v := (3 : Int32)) (pc := 9) dX5_hears_9 (by decide) ?_
  refine AW_jn (P := fun (j : AH → Option (AH)) => ∀ (g3 : AH), AW ρV γ l ck_X5_hears g 90 [(0, .ref x0), (1, .int x1), (2, .int x2), (3, .int x3), (4, .int v2)] [] g3 (j g3)) (fun g3 => ?_) (fun j4 h_j4 => ?_)
  · skip
    refine r_iload_n (pc := 90) dX5_hears_90 rfl 3 rfl ?_
    refine r_iconst (v := (4 : Int32)) (pc := 91) dX5_hears_91 (by decide) ?_
    refine r_icmp_ne (tgt := 108) (pc := 92) dX5_hears_92 (by decide) ?_ ?_
    · skip
      refine r_iload (pc := 95) dX5_hears_95 4 rfl ?_
      refine r_iconst (v := (2 : Int32)) (pc := 97) dX5_hears_97 (by decide) ?_
      refine r_icmp_ge (tgt := 108) (pc := 98) dX5_hears_98 (by decide) ?_ ?_
      · skip
        exact r_vret (pc := 108) dX5_hears_108 rfl
      · skip
        refine r_aload_n (pc := 101) dX5_hears_101 rfl 0 rfl ?_
        refine r_iload_n (pc := 102) dX5_hears_102 rfl 2 rfl ?_
        refine r_iload_n (pc := 103) dX5_hears_103 rfl 1 rfl ?_
        refine r_iconst (v := (4 : Int32)) (pc := 104) dX5_hears_104 (by decide) ?_
        refine r_cV (pc := 105) (rest := []) (RunOK_chk (fun h => run_V (n := 3) (c9 := 8) (As := [.int x2, .int x1, .int (4 : Int32)]) (rest := []) (t_X5_becomes γ l hl x0 x2 x1 (4 : Int32) g3) dX5_hears_105 q3652 q3654 qs88 q121 q3655 (by decide +kernel) rfl h ⟨rfl, by decide, by decide⟩ (Nat.le_of_ble_eq_true rfl) (Nat.le_of_ble_eq_true rfl) rfl (Nat.le_of_ble_eq_true rfl))) (fun g5 => ?_)
        exact r_vret (pc := 108) dX5_hears_108 rfl
    · skip
      exact r_vret (pc := 108) dX5_hears_108 rfl
  · skip
    refine r_icmp_ne (tgt := 90) (pc := 10) dX5_hears_10 (by decide) ?_ ?_
    · skip
      refine r_iload (pc := 13) dX5_hears_13 0 rfl ?_
      refine r_iconst (v := (1 : Int32)) (pc := 15) dX5_hears_15 (by decide) ?_
      refine r_icmp_ne (tgt := 90) (pc := 16) dX5_hears_16 (by decide) ?_ ?_
      · skip
        refine r_aload_n (pc := 19) dX5_hears_19 rfl 1 rfl ?_
        refine r_iload_n (pc := 20) dX5_hears_20 rfl 3 rfl ?_
        refine r_iload_n (pc := 21) dX5_hears_21 rfl 2 rfl ?_
        refine r_iconst (v := (0 : Int32)) (pc := 22) dX5_hears_22 (by decide) ?_
        refine r_cI (pc := 23) (rest := []) (RunOK_chk (fun h => run_V (n := 3) (c9 := 8) (As := [.int x2, .int x1, .int (0 : Int32)]) (rest := []) (t_X5_dish γ l hl x0 x2 x1 (0 : Int32) g1) dX5_hears_23 q3507 q3509 qs63 q121 q3510 (by decide +kernel) rfl h ⟨rfl, by decide, by decide⟩ (Nat.le_of_ble_eq_true rfl) (Nat.le_of_ble_eq_true rfl) rfl (Nat.le_of_ble_eq_true rfl))) (fun v7 g6 => ?_)
        refine r_iconst (v := (1 : Int32)) (pc := 26) dX5_hears_26 (by decide) ?_
        refine r_isub (pc := 27) dX5_hears_27 ?_
        refine r_istore (pc := 28) dX5_hears_28 (Nat.le_of_ble_eq_true rfl) rfl ?_
        refine r_aload_n (pc := 30) dX5_hears_30 rfl 2 rfl ?_
        refine r_iload_n (pc := 31) dX5_hears_31 rfl 4 rfl ?_
        refine r_iload_n (pc := 32) dX5_hears_32 rfl 3 rfl ?_
        refine r_iconst (v := (1 : Int32)) (pc := 33) dX5_hears_33 (by decide) ?_
        refine r_cI (pc := 34) (rest := []) (RunOK_chk (fun h => run_V (n := 3) (c9 := 8) (As := [.int x2, .int x1, .int (1 : Int32)]) (rest := []) (t_X5_dish γ l hl x0 x2 x1 (1 : Int32) g6) dX5_hears_34 q3507 q3509 qs63 q121 q3510 (by decide +kernel) rfl h ⟨rfl, by decide, by decide⟩ (Nat.le_of_ble_eq_true rfl) (Nat.le_of_ble_eq_true rfl) rfl (Nat.le_of_ble_eq_true rfl))) (fun v9 g8 => ?_)
        refine r_istore (pc := 37) dX5_hears_37 (Nat.le_of_ble_eq_true rfl) rfl ?_
        refine r_aload_n (pc := 39) dX5_hears_39 rfl 3 rfl ?_
        refine r_iload_n (pc := 40) dX5_hears_40 rfl 4 rfl ?_
        refine r_iconst (v := (3 : Int32)) (pc := 41) dX5_hears_41 (by decide) ?_
        refine r_iload (pc := 42) dX5_hears_42 1 rfl ?_
        refine r_iadd (pc := 44) dX5_hears_44 ?_
        refine r_aload_n (pc := 45) dX5_hears_45 rfl 3 rfl ?_
        refine r_iload_n (pc := 46) dX5_hears_46 rfl 4 rfl ?_
        refine r_iconst (v := (3 : Int32)) (pc := 47) dX5_hears_47 (by decide) ?_
        refine r_iload (pc := 48) dX5_hears_48 1 rfl ?_
        refine r_iadd (pc := 50) dX5_hears_50 ?_
        refine r_cI (pc := 51) (rest := [.int ((3 : Int32) + (v7 - (1 : Int32))), .int x1, .ref x0]) (RunOK_chk (fun h => run_V (n := 2) (c9 := 8) (As := [.int x1, .int ((3 : Int32) + (v7 - (1 : Int32)))]) (rest := [.int ((3 : Int32) + (v7 - (1 : Int32))), .int x1, .ref x0]) (t_X5_cook_2 γ l hl x0 x1 ((3 : Int32) + (v7 - (1 : Int32))) g8) dX5_hears_51 q3483 q3485 qs58 q121 q3486 (by decide +kernel) rfl h ⟨rfl, by decide, by decide⟩ (Nat.le_of_ble_eq_true rfl) (Nat.le_of_ble_eq_true rfl) rfl (Nat.le_of_ble_eq_true rfl))) (fun v11 g10 => ?_)
        refine r_iload (pc := 54) dX5_hears_54 0 rfl ?_
        refine r_isub (pc := 56) dX5_hears_56 ?_
        refine r_cV (pc := 57) (rest := []) (RunOK_chk (fun h => run_V (n := 3) (c9 := 8) (As := [.int x1, .int ((3 : Int32) + (v7 - (1 : Int32))), .int (v11 - v9)]) (rest := []) (t_X5_setsCook γ l hl x0 x1 ((3 : Int32) + (v7 - (1 : Int32))) (v11 - v9) g10) dX5_hears_57 q3466 q3468 qs55 q121 q3469 (by decide +kernel) rfl h ⟨rfl, by decide, by decide⟩ (Nat.le_of_ble_eq_true rfl) (Nat.le_of_ble_eq_true rfl) rfl (Nat.le_of_ble_eq_true rfl))) (fun g12 => ?_)
        refine r_aload_n (pc := 60) dX5_hears_60 rfl 3 rfl ?_
        refine r_iload_n (pc := 61) dX5_hears_61 rfl 4 rfl ?_
        refine r_bipush (v := (11 : Int32)) (pc := 62) dX5_hears_62 (by decide) ?_
        refine r_iload (pc := 64) dX5_hears_64 1 rfl ?_
        refine r_iadd (pc := 66) dX5_hears_66 ?_
        refine r_aload_n (pc := 67) dX5_hears_67 rfl 3 rfl ?_
        refine r_iload_n (pc := 68) dX5_hears_68 rfl 4 rfl ?_
        refine r_bipush (v := (11 : Int32)) (pc := 69) dX5_hears_69 (by decide) ?_
        refine r_iload (pc := 71) dX5_hears_71 1 rfl ?_
        refine r_iadd (pc := 73) dX5_hears_73 ?_
        refine r_cI (pc := 74) (rest := [.int ((11 : Int32) + (v7 - (1 : Int32))), .int x1, .ref x0]) (RunOK_chk (fun h => run_V (n := 2) (c9 := 8) (As := [.int x1, .int ((11 : Int32) + (v7 - (1 : Int32)))]) (rest := [.int ((11 : Int32) + (v7 - (1 : Int32))), .int x1, .ref x0]) (t_X5_cook_2 γ l hl x0 x1 ((11 : Int32) + (v7 - (1 : Int32))) g12) dX5_hears_74 q3483 q3485 qs58 q121 q3486 (by decide +kernel) rfl h ⟨rfl, by decide, by decide⟩ (Nat.le_of_ble_eq_true rfl) (Nat.le_of_ble_eq_true rfl) rfl (Nat.le_of_ble_eq_true rfl))) (fun v14 g13 => ?_)
        refine r_iload (pc := 77) dX5_hears_77 0 rfl ?_
        refine r_iadd (pc := 79) dX5_hears_79 ?_
        refine r_cV (pc := 80) (rest := []) (RunOK_chk (fun h => run_V (n := 3) (c9 := 8) (As := [.int x1, .int ((11 : Int32) + (v7 - (1 : Int32))), .int (v14 + v9)]) (rest := []) (t_X5_setsCook γ l hl x0 x1 ((11 : Int32) + (v7 - (1 : Int32))) (v14 + v9) g13) dX5_hears_80 q3466 q3468 qs55 q121 q3469 (by decide +kernel) rfl h ⟨rfl, by decide, by decide⟩ (Nat.le_of_ble_eq_true rfl) (Nat.le_of_ble_eq_true rfl) rfl (Nat.le_of_ble_eq_true rfl))) (fun g15 => ?_)
        refine r_aload_n (pc := 83) dX5_hears_83 rfl 3 rfl ?_
        refine r_iload_n (pc := 84) dX5_hears_84 rfl 5 rfl ?_
        refine r_iload_n (pc := 85) dX5_hears_85 rfl 4 rfl ?_
        refine r_iconst (v := (3 : Int32)) (pc := 86) dX5_hears_86 (by decide) ?_
        refine r_cV (pc := 87) (rest := []) (RunOK_chk (fun h => run_V (n := 3) (c9 := 8) (As := [.int x2, .int x1, .int (3 : Int32)]) (rest := []) (t_X5_becomes γ l hl x0 x2 x1 (3 : Int32) g15) dX5_hears_87 q3652 q3654 qs88 q121 q3655 (by decide +kernel) rfl h ⟨rfl, by decide, by decide⟩ (Nat.le_of_ble_eq_true rfl) (Nat.le_of_ble_eq_true rfl) rfl (Nat.le_of_ble_eq_true rfl))) (fun g16 => ?_)
        refine AW_sub [3, 4, 5, 6, 2] rfl ?_
        exact h_j4 g16
      · skip
        refine AW_sub [1, 2, 3, 4, 0] rfl ?_
        exact h_j4 g1
    · skip
      refine AW_sub [1, 2, 3, 4, 0] rfl ?_
      exact h_j4 g1
abbrev ck_X5_learns : CK := ("BanquetVotesModel", prog_25_method_61_code, 5, (some .int), "learns", [], 5)
def f_X5_learns (γ : GP) (x0 : Nat) (x1 : Int32) (x2 : Int32) (x3 : Int32) (g : AH) : Option (Int32 × AH) := bI ((if hK g x0 = 8 then f_X5_isCourse γ x0 x3 g else none)) fun v2 g1 => (if v2 = 0 then (some ((1 : Int32), g1)) else bI ((if hK g1 x0 = 8 then f_X5_isCook γ x0 x1 g1 else none)) fun v4 g3 => (if v4 = 0 then (some ((1 : Int32), g3)) else bI ((if hK g3 x0 = 8 then f_X5_isCook γ x0 x2 g3 else none)) fun v6 g5 => (if v6 = 0 then (some ((1 : Int32), g5)) else (if x1 = x2 then (some ((2 : Int32), g5)) else bI ((if hK g5 x0 = 8 then f_X5_isDish γ x0 x3 x1 g5 else none)) fun v8 g7 => (if v8 = 0 then bI ((if hK g7 x0 = 8 then f_X5_refuses γ x0 (9 : Int32) x1 g7 else none)) fun v10 g9 => (some (v10, g9)) else bI ((if hK g7 x0 = 8 then f_X5_isDish γ x0 x3 x2 g7 else none)) fun v12 g11 => (if v12 = 0 then bI ((if hK g11 x0 = 8 then f_X5_refuses γ x0 (9 : Int32) x2 g11 else none)) fun v14 g13 => (some (v14, g13)) else bI ((if hK g11 x0 = 8 then f_X5_howDish γ x0 x3 x1 g11 else none)) fun v16 g15 => (if v16 = (1 : Int32) then bI ((if hK g15 x0 = 8 then f_X5_isOut γ x0 x1 g15 else none)) fun v18 g17 => (if v18 = 0 then bI ((if hK g17 x0 = 8 then f_X5_isOut γ x0 x2 g17 else none)) fun v20 g19 => (if v20 = 0 then bI ((if hK g19 x0 = 8 then f_X5_howDish γ x0 x3 x2 g19 else none)) fun v22 g21 => (if (2 : Int32) ≤ v22 then jn (fun (z23 : Int32) (z24 : Int32) (z25 : Int32) (z26 : Nat) (g27 : AH) => bV ((if hK g27 z26 = 8 then f_X5_hears γ z26 z25 z24 z23 g27 else none)) fun g29 => bI ((if hK g29 x0 = 8 then f_X5_howDish γ x0 x3 x1 g29 else none)) fun v31 g30 => bI ((if hK g30 x0 = 8 then f_X5_does γ x0 v31 g30 else none)) fun v33 g32 => (some (v33, g32))) (fun (j28 : Int32 → Int32 → Int32 → Nat → AH → Option (Int32 × AH)) => (if v22 = (3 : Int32) then j28 (3 : Int32) x3 x1 x0 g21 else j28 (4 : Int32) x3 x1 x0 g21)) else bI ((if hK g21 x0 = 8 then f_X5_refuses γ x0 (12 : Int32) v22 g21 else none)) fun v35 g34 => (some (v35, g34))) else bI ((if hK g19 x0 = 8 then f_X5_refuses γ x0 (11 : Int32) x2 g19 else none)) fun v37 g36 => (some (v37, g36))) else bI ((if hK g17 x0 = 8 then f_X5_refuses γ x0 (11 : Int32) x1 g17 else none)) fun v39 g38 => (some (v39, g38))) else bI ((if hK g15 x0 = 8 then f_X5_howDish γ x0 x3 x1 g15 else none)) fun v41 g40 => bI ((if hK g40 x0 = 8 then f_X5_refuses γ x0 (10 : Int32) v41 g40 else none)) fun v43 g42 => (some (v43, g42)))))))))
theorem t_X5_learns (γ : GP) (l : Launch) (hl : l.stackTraces = false) (x0 : Nat) (x1 : Int32) (x2 : Int32) (x3 : Int32) (g : AH) : TrM ρI γ l ⟨"BanquetVotesModel", "learns", "(III)I"⟩ (ws_ ⟨"BanquetVotesModel", "learns", "(III)I"⟩ prog_25_method_61_code 5 (some .int)) 5 [.ref x0, .int x1, .int x2, .int x3] g (f_X5_learns γ x0 x1 x2 x3 g) := by
  refine TrM_of (plainFor_of_name (by decide)) (Nat.le_of_ble_eq_true rfl) ?_
  unfold f_X5_learns
  change AW ρI γ l ck_X5_learns g 0 [(0, .ref x0), (1, .int x1), (2, .int x2), (3, .int x3)] [] g _
  refine r_aload_n (pc := 0) dX5_learns_0 rfl 0 rfl ?_
  refine r_iload_n (pc := 1) dX5_learns_1 rfl 3 rfl ?_
  refine r_cI (pc := 2) (rest := []) (RunOK_chk (fun h => run_V (n := 1) (c9 := 8) (As := [.int x3]) (rest := []) (t_X5_isCourse γ l hl x0 x3 g) dX5_learns_2 q3527 q3529 qs66 q121 q3530 (by decide +kernel) rfl h ⟨rfl, by decide, by decide⟩ (Nat.le_of_ble_eq_true rfl) (Nat.le_of_ble_eq_true rfl) rfl (Nat.le_of_ble_eq_true rfl))) (fun v2 g1 => ?_)
  refine r_if_eq (tgt := 24) (pc := 5) dX5_learns_5 (by decide) ?_ ?_
  · skip
    refine r_iconst (v := (1 : Int32)) (pc := 24) dX5_learns_24 (by decide) ?_
    exact r_iret (pc := 25) dX5_learns_25 rfl
  · skip
    refine r_aload_n (pc := 8) dX5_learns_8 rfl 0 rfl ?_
    refine r_iload_n (pc := 9) dX5_learns_9 rfl 1 rfl ?_
    refine r_cI (pc := 10) (rest := []) (RunOK_chk (fun h => run_V (n := 1) (c9 := 8) (As := [.int x1]) (rest := []) (t_X5_isCook γ l hl x0 x1 g1) dX5_learns_10 q3479 q3481 qs57 q121 q3482 (by decide +kernel) rfl h ⟨rfl, by decide, by decide⟩ (Nat.le_of_ble_eq_true rfl) (Nat.le_of_ble_eq_true rfl) rfl (Nat.le_of_ble_eq_true rfl))) (fun v4 g3 => ?_)
    refine r_if_eq (tgt := 24) (pc := 13) dX5_learns_13 (by decide) ?_ ?_
    · skip
      refine r_iconst (v := (1 : Int32)) (pc := 24) dX5_learns_24 (by decide) ?_
      exact r_iret (pc := 25) dX5_learns_25 rfl
    · skip
      refine r_aload_n (pc := 16) dX5_learns_16 rfl 0 rfl ?_
      refine r_iload_n (pc := 17) dX5_learns_17 rfl 2 rfl ?_
      refine r_cI (pc := 18) (rest := []) (RunOK_chk (fun h => run_V (n := 1) (c9 := 8) (As := [.int x2]) (rest := []) (t_X5_isCook γ l hl x0 x2 g3) dX5_learns_18 q3479 q3481 qs57 q121 q3482 (by decide +kernel) rfl h ⟨rfl, by decide, by decide⟩ (Nat.le_of_ble_eq_true rfl) (Nat.le_of_ble_eq_true rfl) rfl (Nat.le_of_ble_eq_true rfl))) (fun v6 g5 => ?_)
      refine r_if_ne (tgt := 26) (pc := 21) dX5_learns_21 (by decide) ?_ ?_
      · skip
        refine r_iconst (v := (1 : Int32)) (pc := 24) dX5_learns_24 (by decide) ?_
        exact r_iret (pc := 25) dX5_learns_25 rfl
      · skip
        refine r_iload_n (pc := 26) dX5_learns_26 rfl 1 rfl ?_
        refine r_iload_n (pc := 27) dX5_learns_27 rfl 2 rfl ?_
        refine r_icmp_ne (tgt := 33) (pc := 28) dX5_learns_28 (by decide) ?_ ?_
        · skip
          refine r_iconst (v := (2 : Int32)) (pc := 31) dX5_learns_31 (by decide) ?_
          exact r_iret (pc := 32) dX5_learns_32 rfl
        · skip
          refine r_aload_n (pc := 33) dX5_learns_33 rfl 0 rfl ?_
          refine r_iload_n (pc := 34) dX5_learns_34 rfl 3 rfl ?_
          refine r_iload_n (pc := 35) dX5_learns_35 rfl 1 rfl ?_
          refine r_cI (pc := 36) (rest := []) (RunOK_chk (fun h => run_V (n := 2) (c9 := 8) (As := [.int x3, .int x1]) (rest := []) (t_X5_isDish γ l hl x0 x3 x1 g5) dX5_learns_36 q3495 q3497 qs60 q121 q3498 (by decide +kernel) rfl h ⟨rfl, by decide, by decide⟩ (Nat.le_of_ble_eq_true rfl) (Nat.le_of_ble_eq_true rfl) rfl (Nat.le_of_ble_eq_true rfl))) (fun v8 g7 => ?_)
          refine r_if_ne (tgt := 50) (pc := 39) dX5_learns_39 (by decide) ?_ ?_
          · skip
            refine r_aload_n (pc := 42) dX5_learns_42 rfl 0 rfl ?_
            refine r_bipush (v := (9 : Int32)) (pc := 43) dX5_learns_43 (by decide) ?_
            refine r_iload_n (pc := 45) dX5_learns_45 rfl 1 rfl ?_
            refine r_cI (pc := 46) (rest := []) (RunOK_chk (fun h => run_V (n := 2) (c9 := 8) (As := [.int (9 : Int32), .int x1]) (rest := []) (t_X5_refuses γ l hl x0 (9 : Int32) x1 g7) dX5_learns_46 q3462 q3464 qs54 q121 q3465 (by decide +kernel) rfl h ⟨rfl, by decide, by decide⟩ (Nat.le_of_ble_eq_true rfl) (Nat.le_of_ble_eq_true rfl) rfl (Nat.le_of_ble_eq_true rfl))) (fun v10 g9 => ?_)
            exact r_iret (pc := 49) dX5_learns_49 rfl
          · skip
            refine r_aload_n (pc := 50) dX5_learns_50 rfl 0 rfl ?_
            refine r_iload_n (pc := 51) dX5_learns_51 rfl 3 rfl ?_
            refine r_iload_n (pc := 52) dX5_learns_52 rfl 2 rfl ?_
            refine r_cI (pc := 53) (rest := []) (RunOK_chk (fun h => run_V (n := 2) (c9 := 8) (As := [.int x3, .int x2]) (rest := []) (t_X5_isDish γ l hl x0 x3 x2 g7) dX5_learns_53 q3495 q3497 qs60 q121 q3498 (by decide +kernel) rfl h ⟨rfl, by decide, by decide⟩ (Nat.le_of_ble_eq_true rfl) (Nat.le_of_ble_eq_true rfl) rfl (Nat.le_of_ble_eq_true rfl))) (fun v12 g11 => ?_)
            refine r_if_ne (tgt := 67) (pc := 56) dX5_learns_56 (by decide) ?_ ?_
            · skip
              refine r_aload_n (pc := 59) dX5_learns_59 rfl 0 rfl ?_
              refine r_bipush (v := (9 : Int32)) (pc := 60) dX5_learns_60 (by decide) ?_
              refine r_iload_n (pc := 62) dX5_learns_62 rfl 2 rfl ?_
              refine r_cI (pc := 63) (rest := []) (RunOK_chk (fun h => run_V (n := 2) (c9 := 8) (As := [.int (9 : Int32), .int x2]) (rest := []) (t_X5_refuses γ l hl x0 (9 : Int32) x2 g11) dX5_learns_63 q3462 q3464 qs54 q121 q3465 (by decide +kernel) rfl h ⟨rfl, by decide, by decide⟩ (Nat.le_of_ble_eq_true rfl) (Nat.le_of_ble_eq_true rfl) rfl (Nat.le_of_ble_eq_true rfl))) (fun v14 g13 => ?_)
              exact r_iret (pc := 66) dX5_learns_66 rfl
            · skip
              refine r_aload_n (pc := 67) dX5_learns_67 rfl 0 rfl ?_
              refine r_iload_n (pc := 68) dX5_learns_68 rfl 3 rfl ?_
              refine r_iload_n (pc := 69) dX5_learns_69 rfl 1 rfl ?_
              refine r_cI (pc := 70) (rest := []) (RunOK_chk (fun h => run_V (n := 2) (c9 := 8) (As := [.int x3, .int x1]) (rest := []) (t_X5_howDish γ l hl x0 x3 x1 g11) dX5_learns_70 q3503 q3505 qs62 q121 q3506 (by decide +kernel) rfl h ⟨rfl, by decide, by decide⟩ (Nat.le_of_ble_eq_true rfl) (Nat.le_of_ble_eq_true rfl) rfl (Nat.le_of_ble_eq_true rfl))) (fun v16 g15 => ?_)
              refine r_iconst (v := (1 : Int32)) (pc := 73) dX5_learns_73 (by decide) ?_
              refine r_icmp_eq (tgt := 90) (pc := 74) dX5_learns_74 (by decide) ?_ ?_
              · skip
                refine r_aload_n (pc := 90) dX5_learns_90 rfl 0 rfl ?_
                refine r_iload_n (pc := 91) dX5_learns_91 rfl 1 rfl ?_
                refine r_cI (pc := 92) (rest := []) (RunOK_chk (fun h => run_V (n := 1) (c9 := 8) (As := [.int x1]) (rest := []) (t_X5_isOut γ l hl x0 x1 g15) dX5_learns_92 q3572 q3574 qs72 q121 q3575 (by decide +kernel) rfl h ⟨rfl, by decide, by decide⟩ (Nat.le_of_ble_eq_true rfl) (Nat.le_of_ble_eq_true rfl) rfl (Nat.le_of_ble_eq_true rfl))) (fun v18 g17 => ?_)
                refine r_if_eq (tgt := 106) (pc := 95) dX5_learns_95 (by decide) ?_ ?_
                · skip
                  refine r_aload_n (pc := 106) dX5_learns_106 rfl 0 rfl ?_
                  refine r_iload_n (pc := 107) dX5_learns_107 rfl 2 rfl ?_
                  refine r_cI (pc := 108) (rest := []) (RunOK_chk (fun h => run_V (n := 1) (c9 := 8) (As := [.int x2]) (rest := []) (t_X5_isOut γ l hl x0 x2 g17) dX5_learns_108 q3572 q3574 qs72 q121 q3575 (by decide +kernel) rfl h ⟨rfl, by decide, by decide⟩ (Nat.le_of_ble_eq_true rfl) (Nat.le_of_ble_eq_true rfl) rfl (Nat.le_of_ble_eq_true rfl))) (fun v20 g19 => ?_)
                  refine r_if_eq (tgt := 122) (pc := 111) dX5_learns_111 (by decide) ?_ ?_
                  · skip
                    refine r_aload_n (pc := 122) dX5_learns_122 rfl 0 rfl ?_
                    refine r_iload_n (pc := 123) dX5_learns_123 rfl 3 rfl ?_
                    refine r_iload_n (pc := 124) dX5_learns_124 rfl 2 rfl ?_
                    refine r_cI (pc := 125) (rest := []) (RunOK_chk (fun h => run_V (n := 2) (c9 := 8) (As := [.int x3, .int x2]) (rest := []) (t_X5_howDish γ l hl x0 x3 x2 g19) dX5_learns_125 q3503 q3505 qs62 q121 q3506 (by decide +kernel) rfl h ⟨rfl, by decide, by decide⟩ (Nat.le_of_ble_eq_true rfl) (Nat.le_of_ble_eq_true rfl) rfl (Nat.le_of_ble_eq_true rfl))) (fun v22 g21 => ?_)
                    refine r_istore (pc := 128) dX5_learns_128 (Nat.le_of_ble_eq_true rfl) rfl ?_
                    refine r_iload (pc := 130) dX5_learns_130 0 rfl ?_
                    refine r_iconst (v := (2 : Int32)) (pc := 132) dX5_learns_132 (by decide) ?_
                    refine r_icmp_ge (tgt := 145) (pc := 133) dX5_learns_133 (by decide) ?_ ?_
                    · skip
                      refine r_aload_n (pc := 145) dX5_learns_145 rfl 1 rfl ?_
                      refine r_iload_n (pc := 146) dX5_learns_146 rfl 2 rfl ?_
                      refine r_iload_n (pc := 147) dX5_learns_147 rfl 4 rfl ?_
                      refine r_iload (pc := 148) dX5_learns_148 0 rfl ?_
                      refine r_iconst (v := (3 : Int32)) (pc := 150) dX5_learns_150 (by decide) ?_
                      refine AW_jn (P := fun (j : Int32 → Int32 → Int32 → Nat → AH → Option (Int32 × AH)) => ∀ (z23 : Int32) (z24 : Int32) (z25 : Int32) (z26 : Nat) (g27 : AH), AW ρI γ l ck_X5_learns g 159 [(0, .ref x0), (1, .int x1), (3, .int x3)] [.int z23, .int z24, .int z25, .ref z26] g27 (j z23 z24 z25 z26 g27)) (fun z23 z24 z25 z26 g27 => ?_) (fun j28 h_j28 => ?_)
                      · skip
                        refine r_cV (pc := 159) (rest := []) (RunOK_chk (fun h => run_V (n := 3) (c9 := 8) (As := [.int z25, .int z24, .int z23]) (rest := []) (t_X5_hears γ l hl z26 z25 z24 z23 g27) dX5_learns_159 q3648 q3650 qs87 q121 q3651 (by decide +kernel) rfl h ⟨rfl, by decide, by decide⟩ (Nat.le_of_ble_eq_true rfl) (Nat.le_of_ble_eq_true rfl) rfl (Nat.le_of_ble_eq_true rfl))) (fun g29 => ?_)
                        refine r_aload_n (pc := 162) dX5_learns_162 rfl 0 rfl ?_
                        refine r_aload_n (pc := 163) dX5_learns_163 rfl 0 rfl ?_
                        refine r_iload_n (pc := 164) dX5_learns_164 rfl 2 rfl ?_
                        refine r_iload_n (pc := 165) dX5_learns_165 rfl 1 rfl ?_
                        refine r_cI (pc := 166) (rest := [.ref x0]) (RunOK_chk (fun h => run_V (n := 2) (c9 := 8) (As := [.int x3, .int x1]) (rest := [.ref x0]) (t_X5_howDish γ l hl x0 x3 x1 g29) dX5_learns_166 q3503 q3505 qs62 q121 q3506 (by decide +kernel) rfl h ⟨rfl, by decide, by decide⟩ (Nat.le_of_ble_eq_true rfl) (Nat.le_of_ble_eq_true rfl) rfl (Nat.le_of_ble_eq_true rfl))) (fun v31 g30 => ?_)
                        refine r_cI (pc := 169) (rest := []) (RunOK_chk (fun h => run_V (n := 1) (c9 := 8) (As := [.int v31]) (rest := []) (t_X5_does γ l hl x0 v31 g30) dX5_learns_169 q3588 q3590 qs76 q121 q3591 (by decide +kernel) rfl h ⟨rfl, by decide, by decide⟩ (Nat.le_of_ble_eq_true rfl) (Nat.le_of_ble_eq_true rfl) rfl (Nat.le_of_ble_eq_true rfl))) (fun v33 g32 => ?_)
                        exact r_iret (pc := 172) dX5_learns_172 rfl
                      · skip
                        refine r_icmp_ne (tgt := 158) (pc := 151) dX5_learns_151 (by decide) ?_ ?_
                        · skip
                          refine r_iconst (v := (3 : Int32)) (pc := 154) dX5_learns_154 (by decide) ?_
                          refine r_goto (tgt := 159) (pc := 155) dX5_learns_155 (by decide) ?_
                          refine AW_sub [1, 2, 4] rfl ?_
                          exact h_j28 (3 : Int32) x3 x1 x0 g21
                        · skip
                          refine r_iconst (v := (4 : Int32)) (pc := 158) dX5_learns_158 (by decide) ?_
                          refine AW_sub [1, 2, 4] rfl ?_
                          exact h_j28 (4 : Int32) x3 x1 x0 g21
                    · skip
                      refine r_aload_n (pc := 136) dX5_learns_136 rfl 1 rfl ?_
                      refine r_bipush (v := (12 : Int32)) (pc := 137) dX5_learns_137 (by decide) ?_
                      refine r_iload (pc := 139) dX5_learns_139 0 rfl ?_
                      refine r_cI (pc := 141) (rest := []) (RunOK_chk (fun h => run_V (n := 2) (c9 := 8) (As := [.int (12 : Int32), .int v22]) (rest := []) (t_X5_refuses γ l hl x0 (12 : Int32) v22 g21) dX5_learns_141 q3462 q3464 qs54 q121 q3465 (by decide +kernel) rfl h ⟨rfl, by decide, by decide⟩ (Nat.le_of_ble_eq_true rfl) (Nat.le_of_ble_eq_true rfl) rfl (Nat.le_of_ble_eq_true rfl))) (fun v35 g34 => ?_)
                      exact r_iret (pc := 144) dX5_learns_144 rfl
                  · skip
                    refine r_aload_n (pc := 114) dX5_learns_114 rfl 0 rfl ?_
                    refine r_bipush (v := (11 : Int32)) (pc := 115) dX5_learns_115 (by decide) ?_
                    refine r_iload_n (pc := 117) dX5_learns_117 rfl 2 rfl ?_
                    refine r_cI (pc := 118) (rest := []) (RunOK_chk (fun h => run_V (n := 2) (c9 := 8) (As := [.int (11 : Int32), .int x2]) (rest := []) (t_X5_refuses γ l hl x0 (11 : Int32) x2 g19) dX5_learns_118 q3462 q3464 qs54 q121 q3465 (by decide +kernel) rfl h ⟨rfl, by decide, by decide⟩ (Nat.le_of_ble_eq_true rfl) (Nat.le_of_ble_eq_true rfl) rfl (Nat.le_of_ble_eq_true rfl))) (fun v37 g36 => ?_)
                    exact r_iret (pc := 121) dX5_learns_121 rfl
                · skip
                  refine r_aload_n (pc := 98) dX5_learns_98 rfl 0 rfl ?_
                  refine r_bipush (v := (11 : Int32)) (pc := 99) dX5_learns_99 (by decide) ?_
                  refine r_iload_n (pc := 101) dX5_learns_101 rfl 1 rfl ?_
                  refine r_cI (pc := 102) (rest := []) (RunOK_chk (fun h => run_V (n := 2) (c9 := 8) (As := [.int (11 : Int32), .int x1]) (rest := []) (t_X5_refuses γ l hl x0 (11 : Int32) x1 g17) dX5_learns_102 q3462 q3464 qs54 q121 q3465 (by decide +kernel) rfl h ⟨rfl, by decide, by decide⟩ (Nat.le_of_ble_eq_true rfl) (Nat.le_of_ble_eq_true rfl) rfl (Nat.le_of_ble_eq_true rfl))) (fun v39 g38 => ?_)
                  exact r_iret (pc := 105) dX5_learns_105 rfl
              · skip
                refine r_aload_n (pc := 77) dX5_learns_77 rfl 0 rfl ?_
                refine r_bipush (v := (10 : Int32)) (pc := 78) dX5_learns_78 (by decide) ?_
                refine r_aload_n (pc := 80) dX5_learns_80 rfl 0 rfl ?_
                refine r_iload_n (pc := 81) dX5_learns_81 rfl 3 rfl ?_
                refine r_iload_n (pc := 82) dX5_learns_82 rfl 1 rfl ?_
                refine r_cI (pc := 83) (rest := [.int (10 : Int32), .ref x0]) (RunOK_chk (fun h => run_V (n := 2) (c9 := 8) (As := [.int x3, .int x1]) (rest := [.int (10 : Int32), .ref x0]) (t_X5_howDish γ l hl x0 x3 x1 g15) dX5_learns_83 q3503 q3505 qs62 q121 q3506 (by decide +kernel) rfl h ⟨rfl, by decide, by decide⟩ (Nat.le_of_ble_eq_true rfl) (Nat.le_of_ble_eq_true rfl) rfl (Nat.le_of_ble_eq_true rfl))) (fun v41 g40 => ?_)
                refine r_cI (pc := 86) (rest := []) (RunOK_chk (fun h => run_V (n := 2) (c9 := 8) (As := [.int (10 : Int32), .int v41]) (rest := []) (t_X5_refuses γ l hl x0 (10 : Int32) v41 g40) dX5_learns_86 q3462 q3464 qs54 q121 q3465 (by decide +kernel) rfl h ⟨rfl, by decide, by decide⟩ (Nat.le_of_ble_eq_true rfl) (Nat.le_of_ble_eq_true rfl) rfl (Nat.le_of_ble_eq_true rfl))) (fun v43 g42 => ?_)
                exact r_iret (pc := 89) dX5_learns_89 rfl
abbrev ck_X5_learn : CK := ("BanquetVotesModel", prog_25_method_62_code, 5, (some .int), "learn", [], 6)
def f_X5_learn (γ : GP) (x0 : Nat) (x1 : Int32) (x2 : Int32) (x3 : Int32) (g : AH) : Option (Int32 × AH) := bV ((if hK g x0 = 8 then f_X5_tries γ x0 g else none)) fun g1 => bI ((if hK g1 x0 = 8 then f_X5_learns γ x0 x1 x2 x3 g1 else none)) fun v3 g2 => (if v3 = 0 then gI g2 x0 47 fun v4 => bI ((if hK g2 x0 = 8 then f_X5_keeps γ x0 v4 g2 else none)) fun v6 g5 => (some (v6, g5)) else bI ((if hK g2 x0 = 8 then f_X5_raises γ x0 v3 g2 else none)) fun v8 g7 => (some (v8, g7)))
theorem t_X5_learn (γ : GP) (l : Launch) (hl : l.stackTraces = false) (x0 : Nat) (x1 : Int32) (x2 : Int32) (x3 : Int32) (g : AH) : TrM ρI γ l ⟨"BanquetVotesModel", "learn", "(III)I"⟩ (ws_ ⟨"BanquetVotesModel", "learn", "(III)I"⟩ prog_25_method_62_code 5 (some .int)) 6 [.ref x0, .int x1, .int x2, .int x3] g (f_X5_learn γ x0 x1 x2 x3 g) := by
  refine TrM_of (plainFor_of_name (by decide)) (Nat.le_of_ble_eq_true rfl) ?_
  unfold f_X5_learn
  change AW ρI γ l ck_X5_learn g 0 [(0, .ref x0), (1, .int x1), (2, .int x2), (3, .int x3)] [] g _
  refine r_aload_n (pc := 0) dX5_learn_0 rfl 0 rfl ?_
  refine r_cV (pc := 1) (rest := []) (RunOK_chk (fun h => run_V (n := 0) (c9 := 8) (As := []) (rest := []) (t_X5_tries γ l hl x0 g) dX5_learn_1 q3451 q3453 qs52 q121 q3454 (by decide +kernel) rfl h ⟨rfl, by decide, by decide⟩ (Nat.le_of_ble_eq_true rfl) (Nat.le_of_ble_eq_true rfl) rfl (Nat.le_of_ble_eq_true rfl))) (fun g1 => ?_)
  refine r_aload_n (pc := 4) dX5_learn_4 rfl 0 rfl ?_
  refine r_iload_n (pc := 5) dX5_learn_5 rfl 1 rfl ?_
  refine r_iload_n (pc := 6) dX5_learn_6 rfl 2 rfl ?_
  refine r_iload_n (pc := 7) dX5_learn_7 rfl 3 rfl ?_
  refine r_cI (pc := 8) (rest := []) (RunOK_chk (fun h => run_V (n := 3) (c9 := 8) (As := [.int x1, .int x2, .int x3]) (rest := []) (t_X5_learns γ l hl x0 x1 x2 x3 g1) dX5_learn_8 q3644 q3646 qs86 q121 q3647 (by decide +kernel) rfl h ⟨rfl, by decide, by decide⟩ (Nat.le_of_ble_eq_true rfl) (Nat.le_of_ble_eq_true rfl) rfl (Nat.le_of_ble_eq_true rfl))) (fun v3 g2 => ?_)
  refine r_istore (pc := 11) dX5_learn_11 (Nat.le_of_ble_eq_true rfl) rfl ?_
  refine r_iload (pc := 13) dX5_learn_13 0 rfl ?_
  refine r_if_ne (tgt := 29) (pc := 15) dX5_learn_15 (by decide) ?_ ?_
  · skip
    refine r_aload_n (pc := 18) dX5_learn_18 rfl 1 rfl ?_
    refine r_aload_n (pc := 19) dX5_learn_19 rfl 1 rfl ?_
    refine r_getI (f := 47) (pc := 20) dX5_learn_20 q3395 (Or.inl rfl) rfl (fun v4 => ?_)
    refine r_cI (pc := 23) (rest := []) (RunOK_chk (fun h => run_V (n := 1) (c9 := 8) (As := [.int v4]) (rest := []) (t_X5_keeps γ l hl x0 v4 g2) dX5_learn_23 q3470 q3472 qs56 q121 q3473 (by decide +kernel) rfl h ⟨rfl, by decide, by decide⟩ (Nat.le_of_ble_eq_true rfl) (Nat.le_of_ble_eq_true rfl) rfl (Nat.le_of_ble_eq_true rfl))) (fun v6 g5 => ?_)
    refine r_goto (tgt := 35) (pc := 26) dX5_learn_26 (by decide) ?_
    exact r_iret (pc := 35) dX5_learn_35 rfl
  · skip
    refine r_aload_n (pc := 29) dX5_learn_29 rfl 1 rfl ?_
    refine r_iload (pc := 30) dX5_learn_30 0 rfl ?_
    refine r_cI (pc := 32) (rest := []) (RunOK_chk (fun h => run_V (n := 1) (c9 := 8) (As := [.int v3]) (rest := []) (t_X5_raises γ l hl x0 v3 g2) dX5_learn_32 q3458 q3460 qs53 q121 q3461 (by decide +kernel) rfl h ⟨rfl, by decide, by decide⟩ (Nat.le_of_ble_eq_true rfl) (Nat.le_of_ble_eq_true rfl) rfl (Nat.le_of_ble_eq_true rfl))) (fun v8 g7 => ?_)
    exact r_iret (pc := 35) dX5_learn_35 rfl
abbrev ck_X5_message : CK := ("BanquetVotesModel", prog_25_method_28_code, 3, (some .int), "message", [], 1)
def f_X5_message (γ : GP) (x0 : Nat) (x1 : Int32) (x2 : Int32) (g : AH) : Option (Int32 × AH) := gR g x0 30 fun v1 => gA g 101 v1 (((657 : Int32) + ((4 : Int32) * x1)) + x2) fun v2 => (some (v2, g))
theorem t_X5_message (γ : GP) (l : Launch) (hl : l.stackTraces = false) (x0 : Nat) (x1 : Int32) (x2 : Int32) (g : AH) : TrM ρI γ l ⟨"BanquetVotesModel", "message", "(II)I"⟩ (ws_ ⟨"BanquetVotesModel", "message", "(II)I"⟩ prog_25_method_28_code 3 (some .int)) 1 [.ref x0, .int x1, .int x2] g (f_X5_message γ x0 x1 x2 g) := by
  refine TrM_of (plainFor_of_name (by decide)) (Nat.le_of_ble_eq_true rfl) ?_
  unfold f_X5_message
  change AW ρI γ l ck_X5_message g 0 [(0, .ref x0), (1, .int x1), (2, .int x2)] [] g _
  refine r_aload_n (pc := 0) dX5_message_0 rfl 0 rfl ?_
  refine r_getR (f := 30) (pc := 1) dX5_message_1 q3378 (Or.inl rfl) rfl (fun v1 => ?_)
  refine r_sipush (v := (657 : Int32)) (pc := 4) dX5_message_4 (by decide) ?_
  refine r_iconst (v := (4 : Int32)) (pc := 7) dX5_message_7 (by decide) ?_
  refine r_iload_n (pc := 8) dX5_message_8 rfl 1 rfl ?_
  refine r_imul (pc := 9) dX5_message_9 ?_
  refine r_iadd (pc := 10) dX5_message_10 ?_
  refine r_iload_n (pc := 11) dX5_message_11 rfl 2 rfl ?_
  refine r_iadd (pc := 12) dX5_message_12 ?_
  refine r_iald (pc := 13) dX5_message_13 (fun v2 => ?_)
  exact r_iret (pc := 14) dX5_message_14 rfl
abbrev ck_X5_votes : CK := ("BanquetVotesModel", prog_25_method_37_code, 4, none, "votes", [], 5)
def f_X5_votes (γ : GP) (x0 : Nat) (x1 : Int32) (x2 : Int32) (g : AH) : Option (AH) := bI ((if hK g x0 = 8 then f_X5_howDish γ x0 x2 x1 g else none)) fun v2 g1 => (if v2 = 0 then bI ((if hK g1 x0 = 8 then f_X5_dish γ x0 x2 x1 (0 : Int32) g1 else none)) fun v4 g3 => bI ((if hK g3 x0 = 8 then f_X5_free γ x0 x1 (v4 - (1 : Int32)) g3 else none)) fun v6 g5 => bI ((if hK g5 x0 = 8 then f_X5_dish γ x0 x2 x1 (1 : Int32) g5 else none)) fun v8 g7 => jn (fun (z9 : Int32) (g10 : AH) => jn (fun (z12 : Int32) (z13 : Int32) (z14 : Int32) (z15 : Nat) (g16 : AH) => bV ((if hK g16 z15 = 8 then f_X5_becomes γ z15 z14 z13 z12 g16 else none)) fun g18 => jn (fun (z19 : Int32) (z20 : Nat) (g21 : AH) => bV ((if hK g21 z20 = 8 then f_X5_sends γ z20 z19 x1 x2 g21 else none)) fun g23 => (some g23)) (fun (j22 : Int32 → Nat → AH → Option (AH)) => (if z9 = 0 then j22 (2 : Int32) x0 g18 else j22 (1 : Int32) x0 g18))) (fun (j17 : Int32 → Int32 → Int32 → Nat → AH → Option (AH)) => (if z9 = 0 then j17 (2 : Int32) x1 x2 x0 g10 else j17 (1 : Int32) x1 x2 x0 g10))) (fun (j11 : Int32 → AH → Option (AH)) => (if v6 < v8 then j11 (0 : Int32) g7 else j11 (1 : Int32) g7)) else (some g1))
theorem t_X5_votes (γ : GP) (l : Launch) (hl : l.stackTraces = false) (x0 : Nat) (x1 : Int32) (x2 : Int32) (g : AH) : TrM ρV γ l ⟨"BanquetVotesModel", "votes", "(II)V"⟩ (ws_ ⟨"BanquetVotesModel", "votes", "(II)V"⟩ prog_25_method_37_code 4 none) 5 [.ref x0, .int x1, .int x2] g (f_X5_votes γ x0 x1 x2 g) := by
  refine TrM_of (plainFor_of_name (by decide)) (Nat.le_of_ble_eq_true rfl) ?_
  unfold f_X5_votes
  change AW ρV γ l ck_X5_votes g 0 [(0, .ref x0), (1, .int x1), (2, .int x2)] [] g _
  refine r_aload_n (pc := 0) dX5_votes_0 rfl 0 rfl ?_
  refine r_iload_n (pc := 1) dX5_votes_1 rfl 2 rfl ?_
  refine r_iload_n (pc := 2) dX5_votes_2 rfl 1 rfl ?_
  refine r_cI (pc := 3) (rest := []) (RunOK_chk (fun h => run_V (n := 2) (c9 := 8) (As := [.int x2, .int x1]) (rest := []) (t_X5_howDish γ l hl x0 x2 x1 g) dX5_votes_3 q3503 q3505 qs62 q121 q3506 (by decide +kernel) rfl h ⟨rfl, by decide, by decide⟩ (Nat.le_of_ble_eq_true rfl) (Nat.le_of_ble_eq_true rfl) rfl (Nat.le_of_ble_eq_true rfl))) (fun v2 g1 => ?_)
  refine r_if_eq (tgt := 10) (pc := 6) dX5_votes_6 (by decide) ?_ ?_
  · skip
    refine r_aload_n (pc := 10) dX5_votes_10 rfl 0 rfl ?_
    refine r_iload_n (pc := 11) dX5_votes_11 rfl 1 rfl ?_
    refine r_aload_n (pc := 12) dX5_votes_12 rfl 0 rfl ?_
    refine r_iload_n (pc := 13) dX5_votes_13 rfl 2 rfl ?_
    refine r_iload_n (pc := 14) dX5_votes_14 rfl 1 rfl ?_
    refine r_iconst (v := (0 : Int32)) (pc := 15) dX5_votes_15 (by decide) ?_
    refine r_cI (pc := 16) (rest := [.int x1, .ref x0]) (RunOK_chk (fun h => run_V (n := 3) (c9 := 8) (As := [.int x2, .int x1, .int (0 : Int32)]) (rest := [.int x1, .ref x0]) (t_X5_dish γ l hl x0 x2 x1 (0 : Int32) g1) dX5_votes_16 q3507 q3509 qs63 q121 q3510 (by decide +kernel) rfl h ⟨rfl, by decide, by decide⟩ (Nat.le_of_ble_eq_true rfl) (Nat.le_of_ble_eq_true rfl) rfl (Nat.le_of_ble_eq_true rfl))) (fun v4 g3 => ?_)
    refine r_iconst (v := (1 : Int32)) (pc := 19) dX5_votes_19 (by decide) ?_
    refine r_isub (pc := 20) dX5_votes_20 ?_
    refine r_cI (pc := 21) (rest := []) (RunOK_chk (fun h => run_V (n := 2) (c9 := 8) (As := [.int x1, .int (v4 - (1 : Int32))]) (rest := []) (t_X5_free γ l hl x0 x1 (v4 - (1 : Int32)) g3) dX5_votes_21 q3555 q3557 qs70 q121 q3558 (by decide +kernel) rfl h ⟨rfl, by decide, by decide⟩ (Nat.le_of_ble_eq_true rfl) (Nat.le_of_ble_eq_true rfl) rfl (Nat.le_of_ble_eq_true rfl))) (fun v6 g5 => ?_)
    refine r_aload_n (pc := 24) dX5_votes_24 rfl 0 rfl ?_
    refine r_iload_n (pc := 25) dX5_votes_25 rfl 2 rfl ?_
    refine r_iload_n (pc := 26) dX5_votes_26 rfl 1 rfl ?_
    refine r_iconst (v := (1 : Int32)) (pc := 27) dX5_votes_27 (by decide) ?_
    refine r_cI (pc := 28) (rest := [.int v6]) (RunOK_chk (fun h => run_V (n := 3) (c9 := 8) (As := [.int x2, .int x1, .int (1 : Int32)]) (rest := [.int v6]) (t_X5_dish γ l hl x0 x2 x1 (1 : Int32) g5) dX5_votes_28 q3507 q3509 qs63 q121 q3510 (by decide +kernel) rfl h ⟨rfl, by decide, by decide⟩ (Nat.le_of_ble_eq_true rfl) (Nat.le_of_ble_eq_true rfl) rfl (Nat.le_of_ble_eq_true rfl))) (fun v8 g7 => ?_)
    refine AW_jn (P := fun (j : Int32 → AH → Option (AH)) => ∀ (z9 : Int32) (g10 : AH), AW ρV γ l ck_X5_votes g 39 [(0, .ref x0), (1, .int x1), (2, .int x2)] [.int z9] g10 (j z9 g10)) (fun z9 g10 => ?_) (fun j11 h_j11 => ?_)
    · skip
      refine r_istore_n (pc := 39) dX5_votes_39 rfl (Nat.le_of_ble_eq_true rfl) rfl ?_
      refine r_aload_n (pc := 40) dX5_votes_40 rfl 1 rfl ?_
      refine r_iload_n (pc := 41) dX5_votes_41 rfl 3 rfl ?_
      refine r_iload_n (pc := 42) dX5_votes_42 rfl 2 rfl ?_
      refine r_iload_n (pc := 43) dX5_votes_43 rfl 0 rfl ?_
      refine AW_jn (P := fun (j : Int32 → Int32 → Int32 → Nat → AH → Option (AH)) => ∀ (z12 : Int32) (z13 : Int32) (z14 : Int32) (z15 : Nat) (g16 : AH), AW ρV γ l ck_X5_votes g 52 [(0, .ref x0), (1, .int x1), (2, .int x2), (3, .int z9)] [.int z12, .int z13, .int z14, .ref z15] g16 (j z12 z13 z14 z15 g16)) (fun z12 z13 z14 z15 g16 => ?_) (fun j17 h_j17 => ?_)
      · skip
        refine r_cV (pc := 52) (rest := []) (RunOK_chk (fun h => run_V (n := 3) (c9 := 8) (As := [.int z14, .int z13, .int z12]) (rest := []) (t_X5_becomes γ l hl z15 z14 z13 z12 g16) dX5_votes_52 q3652 q3654 qs88 q121 q3655 (by decide +kernel) rfl h ⟨rfl, by decide, by decide⟩ (Nat.le_of_ble_eq_true rfl) (Nat.le_of_ble_eq_true rfl) rfl (Nat.le_of_ble_eq_true rfl))) (fun g18 => ?_)
        refine r_aload_n (pc := 55) dX5_votes_55 rfl 0 rfl ?_
        refine r_iload_n (pc := 56) dX5_votes_56 rfl 3 rfl ?_
        refine AW_jn (P := fun (j : Int32 → Nat → AH → Option (AH)) => ∀ (z19 : Int32) (z20 : Nat) (g21 : AH), AW ρV γ l ck_X5_votes g 65 [(1, .int x1), (2, .int x2)] [.int z19, .ref z20] g21 (j z19 z20 g21)) (fun z19 z20 g21 => ?_) (fun j22 h_j22 => ?_)
        · skip
          refine r_iload_n (pc := 65) dX5_votes_65 rfl 0 rfl ?_
          refine r_iload_n (pc := 66) dX5_votes_66 rfl 1 rfl ?_
          refine r_cV (pc := 67) (rest := []) (RunOK_chk (fun h => run_V (n := 3) (c9 := 8) (As := [.int z19, .int x1, .int x2]) (rest := []) (t_X5_sends γ l hl z20 z19 x1 x2 g21) dX5_votes_67 q3584 q3586 qs75 q121 q3587 (by decide +kernel) rfl h ⟨rfl, by decide, by decide⟩ (Nat.le_of_ble_eq_true rfl) (Nat.le_of_ble_eq_true rfl) rfl (Nat.le_of_ble_eq_true rfl))) (fun g23 => ?_)
          exact r_vret (pc := 70) dX5_votes_70 rfl
        · skip
          refine r_if_eq (tgt := 64) (pc := 57) dX5_votes_57 (by decide) ?_ ?_
          · skip
            refine r_iconst (v := (2 : Int32)) (pc := 64) dX5_votes_64 (by decide) ?_
            refine AW_sub [1, 2] rfl ?_
            exact h_j22 (2 : Int32) x0 g18
          · skip
            refine r_iconst (v := (1 : Int32)) (pc := 60) dX5_votes_60 (by decide) ?_
            refine r_goto (tgt := 65) (pc := 61) dX5_votes_61 (by decide) ?_
            refine AW_sub [1, 2] rfl ?_
            exact h_j22 (1 : Int32) x0 g18
      · skip
        refine r_if_eq (tgt := 51) (pc := 44) dX5_votes_44 (by decide) ?_ ?_
        · skip
          refine r_iconst (v := (2 : Int32)) (pc := 51) dX5_votes_51 (by decide) ?_
          refine AW_sub [1, 2, 3, 0] rfl ?_
          exact h_j17 (2 : Int32) x1 x2 x0 g10
        · skip
          refine r_iconst (v := (1 : Int32)) (pc := 47) dX5_votes_47 (by decide) ?_
          refine r_goto (tgt := 52) (pc := 48) dX5_votes_48 (by decide) ?_
          refine AW_sub [1, 2, 3, 0] rfl ?_
          exact h_j17 (1 : Int32) x1 x2 x0 g10
    · skip
      refine r_icmp_lt (tgt := 38) (pc := 31) dX5_votes_31 (by decide) ?_ ?_
      · skip
        refine r_iconst (v := (0 : Int32)) (pc := 38) dX5_votes_38 (by decide) ?_
        exact h_j11 (0 : Int32) g7
      · skip
        refine r_iconst (v := (1 : Int32)) (pc := 34) dX5_votes_34 (by decide) ?_
        refine r_goto (tgt := 39) (pc := 35) dX5_votes_35 (by decide) ?_
        exact h_j11 (1 : Int32) g7
  · skip
    exact r_vret (pc := 9) dX5_votes_9 rfl
abbrev ck_X5_arrives : CK := ("BanquetVotesModel", prog_25_method_38_code, 5, none, "arrives", [], 6)
def f_X5_arrives (γ : GP) (x0 : Nat) (x1 : Int32) (x2 : Int32) (x3 : Int32) (g : AH) : Option (AH) := jn (fun (g1 : AH) => jn (fun (z3 : Int32) (z4 : Nat) (g5 : AH) => bI ((if hK g5 z4 = 8 then f_X5_isOut γ z4 z3 g5 else none)) fun v8 g7 => (if v8 = 0 then (if x1 = 0 then bV ((if hK g7 x0 = 8 then f_X5_votes γ x0 x2 x3 g7 else none)) fun g9 => (some g9) else (if (1 : Int32) = 0 then (if x1 = (5 : Int32) then bI ((if hK g7 x0 = 8 then f_X5_how γ x0 x3 g7 else none)) fun v11 g10 => (if v11 ≤ (1 : Int32) then (some g10) else bI ((if hK g10 x0 = 8 then f_X5_decision γ x0 x3 g10 else none)) fun v13 g12 => bV ((if hK g12 x0 = 8 then f_X5_sends γ x0 v13 x2 x3 g12 else none)) fun g14 => (some g14)) else bI ((if hK g7 x0 = 8 then f_X5_how γ x0 x3 g7 else none)) fun v16 g15 => (if v16 = (1 : Int32) then jn (fun (g17 : AH) => (if x1 = (2 : Int32) then bV ((if hK g17 x0 = 8 then f_X5_decidesAndSends γ x0 x3 (0 : Int32) g17 else none)) fun g19 => (some g19) else bI ((if hK g17 x0 = 8 then f_X5_course γ x0 x3 (3 : Int32) g17 else none)) fun v21 g20 => bI ((if hK g20 x0 = 8 then f_X5_dishes γ x0 x3 g20 else none)) fun v23 g22 => (if v21 = v23 then bV ((if hK g22 x0 = 8 then f_X5_decidesAndSends γ x0 x3 (1 : Int32) g22 else none)) fun g24 => (some g24) else (some g22)))) (fun (j18 : AH → Option (AH)) => (if x1 = (1 : Int32) then bI ((if hK g15 x0 = 8 then f_X5_course γ x0 x3 (3 : Int32) g15 else none)) fun v26 g25 => bV ((if hK g25 x0 = 8 then f_X5_setsCourse γ x0 x3 (3 : Int32) (v26 + (1 : Int32)) g25 else none)) fun g27 => j18 g27 else j18 g15)) else (some g15))) else bV ((if hK g7 x0 = 8 then f_X5_hears γ x0 x2 x3 x1 g7 else none)) fun g28 => (some g28))) else gR g7 x0 30 fun v29 => gA g7 101 v29 (4 : Int32) fun v30 => pA γ g7 101 v29 (4 : Int32) (v30 + (1 : Int32)) fun g31 => (some g31))) (fun (j6 : Int32 → Nat → AH → Option (AH)) => (if (1 : Int32) = 0 then j6 (-1 : Int32) x0 g1 else j6 x2 x0 g1))) (fun (j2 : AH → Option (AH)) => (if x1 = 0 then j2 g else (if x1 = (3 : Int32) then j2 g else (if x1 = (4 : Int32) then j2 g else jn (fun (z32 : Int32) (z33 : Nat) (g34 : AH) => bI ((if hK g34 z33 = 8 then f_X5_isOut γ z33 z32 g34 else none)) fun v37 g36 => (if v37 = 0 then (if x1 = 0 then bV ((if hK g36 x0 = 8 then f_X5_votes γ x0 x2 x3 g36 else none)) fun g38 => (some g38) else (if (0 : Int32) = 0 then (if x1 = (5 : Int32) then bI ((if hK g36 x0 = 8 then f_X5_how γ x0 x3 g36 else none)) fun v40 g39 => (if v40 ≤ (1 : Int32) then (some g39) else bI ((if hK g39 x0 = 8 then f_X5_decision γ x0 x3 g39 else none)) fun v42 g41 => bV ((if hK g41 x0 = 8 then f_X5_sends γ x0 v42 x2 x3 g41 else none)) fun g43 => (some g43)) else bI ((if hK g36 x0 = 8 then f_X5_how γ x0 x3 g36 else none)) fun v45 g44 => (if v45 = (1 : Int32) then jn (fun (g46 : AH) => (if x1 = (2 : Int32) then bV ((if hK g46 x0 = 8 then f_X5_decidesAndSends γ x0 x3 (0 : Int32) g46 else none)) fun g48 => (some g48) else bI ((if hK g46 x0 = 8 then f_X5_course γ x0 x3 (3 : Int32) g46 else none)) fun v50 g49 => bI ((if hK g49 x0 = 8 then f_X5_dishes γ x0 x3 g49 else none)) fun v52 g51 => (if v50 = v52 then bV ((if hK g51 x0 = 8 then f_X5_decidesAndSends γ x0 x3 (1 : Int32) g51 else none)) fun g53 => (some g53) else (some g51)))) (fun (j47 : AH → Option (AH)) => (if x1 = (1 : Int32) then bI ((if hK g44 x0 = 8 then f_X5_course γ x0 x3 (3 : Int32) g44 else none)) fun v55 g54 => bV ((if hK g54 x0 = 8 then f_X5_setsCourse γ x0 x3 (3 : Int32) (v55 + (1 : Int32)) g54 else none)) fun g56 => j47 g56 else j47 g44)) else (some g44))) else bV ((if hK g36 x0 = 8 then f_X5_hears γ x0 x2 x3 x1 g36 else none)) fun g57 => (some g57))) else gR g36 x0 30 fun v58 => gA g36 101 v58 (4 : Int32) fun v59 => pA γ g36 101 v58 (4 : Int32) (v59 + (1 : Int32)) fun g60 => (some g60))) (fun (j35 : Int32 → Nat → AH → Option (AH)) => (if (0 : Int32) = 0 then j35 (-1 : Int32) x0 g else j35 x2 x0 g))))))
theorem t_X5_arrives (γ : GP) (l : Launch) (hl : l.stackTraces = false) (x0 : Nat) (x1 : Int32) (x2 : Int32) (x3 : Int32) (g : AH) : TrM ρV γ l ⟨"BanquetVotesModel", "arrives", "(III)V"⟩ (ws_ ⟨"BanquetVotesModel", "arrives", "(III)V"⟩ prog_25_method_38_code 5 none) 6 [.ref x0, .int x1, .int x2, .int x3] g (f_X5_arrives γ x0 x1 x2 x3 g) := by
  refine TrM_of (plainFor_of_name (by decide)) (Nat.le_of_ble_eq_true rfl) ?_
  unfold f_X5_arrives
  change AW ρV γ l ck_X5_arrives g 0 [(0, .ref x0), (1, .int x1), (2, .int x2), (3, .int x3)] [] g _
  refine r_iload_n (pc := 0) dX5_arrives_0 rfl 1 rfl ?_
  refine AW_jn (P := fun (j : AH → Option (AH)) => ∀ (g1 : AH), AW ρV γ l ck_X5_arrives g 14 [(0, .ref x0), (1, .int x1), (2, .int x2), (3, .int x3)] [] g1 (j g1)) (fun g1 => ?_) (fun j2 h_j2 => ?_)
  · skip
    refine r_iconst (v := (1 : Int32)) (pc := 14) dX5_arrives_14 (by decide) ?_
    refine r_goto (tgt := 19) (pc := 15) dX5_arrives_15 (by decide) ?_
    refine r_istore (pc := 19) dX5_arrives_19 (Nat.le_of_ble_eq_true rfl) rfl ?_
    refine r_aload_n (pc := 21) dX5_arrives_21 rfl 1 rfl ?_
    refine r_iload (pc := 22) dX5_arrives_22 0 rfl ?_
    refine AW_jn (P := fun (j : Int32 → Nat → AH → Option (AH)) => ∀ (z3 : Int32) (z4 : Nat) (g5 : AH), AW ρV γ l ck_X5_arrives g 32 [(0, .ref x0), (1, .int x1), (2, .int x2), (3, .int x3), (4, .int (1 : Int32))] [.int z3, .ref z4] g5 (j z3 z4 g5)) (fun z3 z4 g5 => ?_) (fun j6 h_j6 => ?_)
    · skip
      refine r_cI (pc := 32) (rest := []) (RunOK_chk (fun h => run_V (n := 1) (c9 := 8) (As := [.int z3]) (rest := []) (t_X5_isOut γ l hl z4 z3 g5) dX5_arrives_32 q3572 q3574 qs72 q121 q3575 (by decide +kernel) rfl h ⟨rfl, by decide, by decide⟩ (Nat.le_of_ble_eq_true rfl) (Nat.le_of_ble_eq_true rfl) rfl (Nat.le_of_ble_eq_true rfl))) (fun v8 g7 => ?_)
      refine r_if_eq (tgt := 49) (pc := 35) dX5_arrives_35 (by decide) ?_ ?_
      · skip
        refine r_iload_n (pc := 49) dX5_arrives_49 rfl 1 rfl ?_
        refine r_if_ne (tgt := 62) (pc := 50) dX5_arrives_50 (by decide) ?_ ?_
        · skip
          refine r_aload_n (pc := 53) dX5_arrives_53 rfl 0 rfl ?_
          refine r_iload_n (pc := 54) dX5_arrives_54 rfl 2 rfl ?_
          refine r_iload_n (pc := 55) dX5_arrives_55 rfl 3 rfl ?_
          refine r_cV (pc := 56) (rest := []) (RunOK_chk (fun h => run_V (n := 2) (c9 := 8) (As := [.int x2, .int x3]) (rest := []) (t_X5_votes γ l hl x0 x2 x3 g7) dX5_arrives_56 q3676 q3678 qs93 q121 q3679 (by decide +kernel) rfl h ⟨rfl, by decide, by decide⟩ (Nat.le_of_ble_eq_true rfl) (Nat.le_of_ble_eq_true rfl) rfl (Nat.le_of_ble_eq_true rfl))) (fun g9 => ?_)
          refine r_goto (tgt := 167) (pc := 59) dX5_arrives_59 (by decide) ?_
          exact r_vret (pc := 167) dX5_arrives_167 rfl
        · skip
          refine r_iload (pc := 62) dX5_arrives_62 4 rfl ?_
          refine r_if_eq (tgt := 77) (pc := 64) dX5_arrives_64 (by decide) ?_ ?_
          · skip
            refine r_iload_n (pc := 77) dX5_arrives_77 rfl 1 rfl ?_
            refine r_iconst (v := (5 : Int32)) (pc := 78) dX5_arrives_78 (by decide) ?_
            refine r_icmp_ne (tgt := 105) (pc := 79) dX5_arrives_79 (by decide) ?_ ?_
            · skip
              refine r_aload_n (pc := 82) dX5_arrives_82 rfl 0 rfl ?_
              refine r_iload_n (pc := 83) dX5_arrives_83 rfl 3 rfl ?_
              refine r_cI (pc := 84) (rest := []) (RunOK_chk (fun h => run_V (n := 1) (c9 := 8) (As := [.int x3]) (rest := []) (t_X5_how γ l hl x0 x3 g7) dX5_arrives_84 q3531 q3533 qs67 q121 q3534 (by decide +kernel) rfl h ⟨rfl, by decide, by decide⟩ (Nat.le_of_ble_eq_true rfl) (Nat.le_of_ble_eq_true rfl) rfl (Nat.le_of_ble_eq_true rfl))) (fun v11 g10 => ?_)
              refine r_iconst (v := (1 : Int32)) (pc := 87) dX5_arrives_87 (by decide) ?_
              refine r_icmp_le (tgt := 167) (pc := 88) dX5_arrives_88 (by decide) ?_ ?_
              · skip
                exact r_vret (pc := 167) dX5_arrives_167 rfl
              · skip
                refine r_aload_n (pc := 91) dX5_arrives_91 rfl 0 rfl ?_
                refine r_aload_n (pc := 92) dX5_arrives_92 rfl 0 rfl ?_
                refine r_iload_n (pc := 93) dX5_arrives_93 rfl 3 rfl ?_
                refine r_cI (pc := 94) (rest := [.ref x0]) (RunOK_chk (fun h => run_V (n := 1) (c9 := 8) (As := [.int x3]) (rest := [.ref x0]) (t_X5_decision γ l hl x0 x3 g10) dX5_arrives_94 q3612 q3614 qs81 q121 q3615 (by decide +kernel) rfl h ⟨rfl, by decide, by decide⟩ (Nat.le_of_ble_eq_true rfl) (Nat.le_of_ble_eq_true rfl) rfl (Nat.le_of_ble_eq_true rfl))) (fun v13 g12 => ?_)
                refine r_iload_n (pc := 97) dX5_arrives_97 rfl 2 rfl ?_
                refine r_iload_n (pc := 98) dX5_arrives_98 rfl 3 rfl ?_
                refine r_cV (pc := 99) (rest := []) (RunOK_chk (fun h => run_V (n := 3) (c9 := 8) (As := [.int v13, .int x2, .int x3]) (rest := []) (t_X5_sends γ l hl x0 v13 x2 x3 g12) dX5_arrives_99 q3584 q3586 qs75 q121 q3587 (by decide +kernel) rfl h ⟨rfl, by decide, by decide⟩ (Nat.le_of_ble_eq_true rfl) (Nat.le_of_ble_eq_true rfl) rfl (Nat.le_of_ble_eq_true rfl))) (fun g14 => ?_)
                refine r_goto (tgt := 167) (pc := 102) dX5_arrives_102 (by decide) ?_
                exact r_vret (pc := 167) dX5_arrives_167 rfl
            · skip
              refine r_aload_n (pc := 105) dX5_arrives_105 rfl 0 rfl ?_
              refine r_iload_n (pc := 106) dX5_arrives_106 rfl 3 rfl ?_
              refine r_cI (pc := 107) (rest := []) (RunOK_chk (fun h => run_V (n := 1) (c9 := 8) (As := [.int x3]) (rest := []) (t_X5_how γ l hl x0 x3 g7) dX5_arrives_107 q3531 q3533 qs67 q121 q3534 (by decide +kernel) rfl h ⟨rfl, by decide, by decide⟩ (Nat.le_of_ble_eq_true rfl) (Nat.le_of_ble_eq_true rfl) rfl (Nat.le_of_ble_eq_true rfl))) (fun v16 g15 => ?_)
              refine r_iconst (v := (1 : Int32)) (pc := 110) dX5_arrives_110 (by decide) ?_
              refine r_icmp_ne (tgt := 167) (pc := 111) dX5_arrives_111 (by decide) ?_ ?_
              · skip
                refine r_iload_n (pc := 114) dX5_arrives_114 rfl 1 rfl ?_
                refine r_iconst (v := (1 : Int32)) (pc := 115) dX5_arrives_115 (by decide) ?_
                refine AW_jn (P := fun (j : AH → Option (AH)) => ∀ (g17 : AH), AW ρV γ l ck_X5_arrives g 133 [(0, .ref x0), (1, .int x1), (3, .int x3)] [] g17 (j g17)) (fun g17 => ?_) (fun j18 h_j18 => ?_)
                · skip
                  refine r_iload_n (pc := 133) dX5_arrives_133 rfl 1 rfl ?_
                  refine r_iconst (v := (2 : Int32)) (pc := 134) dX5_arrives_134 (by decide) ?_
                  refine r_icmp_ne (tgt := 147) (pc := 135) dX5_arrives_135 (by decide) ?_ ?_
                  · skip
                    refine r_aload_n (pc := 138) dX5_arrives_138 rfl 0 rfl ?_
                    refine r_iload_n (pc := 139) dX5_arrives_139 rfl 2 rfl ?_
                    refine r_iconst (v := (0 : Int32)) (pc := 140) dX5_arrives_140 (by decide) ?_
                    refine r_cV (pc := 141) (rest := []) (RunOK_chk (fun h => run_V (n := 2) (c9 := 8) (As := [.int x3, .int (0 : Int32)]) (rest := []) (t_X5_decidesAndSends γ l hl x0 x3 (0 : Int32) g17) dX5_arrives_141 q3604 q3606 qs79 q121 q3607 (by decide +kernel) rfl h ⟨rfl, by decide, by decide⟩ (Nat.le_of_ble_eq_true rfl) (Nat.le_of_ble_eq_true rfl) rfl (Nat.le_of_ble_eq_true rfl))) (fun g19 => ?_)
                    refine r_goto (tgt := 167) (pc := 144) dX5_arrives_144 (by decide) ?_
                    exact r_vret (pc := 167) dX5_arrives_167 rfl
                  · skip
                    refine r_aload_n (pc := 147) dX5_arrives_147 rfl 0 rfl ?_
                    refine r_iload_n (pc := 148) dX5_arrives_148 rfl 2 rfl ?_
                    refine r_iconst (v := (3 : Int32)) (pc := 149) dX5_arrives_149 (by decide) ?_
                    refine r_cI (pc := 150) (rest := []) (RunOK_chk (fun h => run_V (n := 2) (c9 := 8) (As := [.int x3, .int (3 : Int32)]) (rest := []) (t_X5_course γ l hl x0 x3 (3 : Int32) g17) dX5_arrives_150 q3499 q3501 qs61 q121 q3502 (by decide +kernel) rfl h ⟨rfl, by decide, by decide⟩ (Nat.le_of_ble_eq_true rfl) (Nat.le_of_ble_eq_true rfl) rfl (Nat.le_of_ble_eq_true rfl))) (fun v21 g20 => ?_)
                    refine r_aload_n (pc := 153) dX5_arrives_153 rfl 0 rfl ?_
                    refine r_iload_n (pc := 154) dX5_arrives_154 rfl 2 rfl ?_
                    refine r_cI (pc := 155) (rest := [.int v21]) (RunOK_chk (fun h => run_V (n := 1) (c9 := 8) (As := [.int x3]) (rest := [.int v21]) (t_X5_dishes γ l hl x0 x3 g20) dX5_arrives_155 q3535 q3537 qs68 q121 q3538 (by decide +kernel) rfl h ⟨rfl, by decide, by decide⟩ (Nat.le_of_ble_eq_true rfl) (Nat.le_of_ble_eq_true rfl) rfl (Nat.le_of_ble_eq_true rfl))) (fun v23 g22 => ?_)
                    refine r_icmp_ne (tgt := 167) (pc := 158) dX5_arrives_158 (by decide) ?_ ?_
                    · skip
                      refine r_aload_n (pc := 161) dX5_arrives_161 rfl 0 rfl ?_
                      refine r_iload_n (pc := 162) dX5_arrives_162 rfl 2 rfl ?_
                      refine r_iconst (v := (1 : Int32)) (pc := 163) dX5_arrives_163 (by decide) ?_
                      refine r_cV (pc := 164) (rest := []) (RunOK_chk (fun h => run_V (n := 2) (c9 := 8) (As := [.int x3, .int (1 : Int32)]) (rest := []) (t_X5_decidesAndSends γ l hl x0 x3 (1 : Int32) g22) dX5_arrives_164 q3604 q3606 qs79 q121 q3607 (by decide +kernel) rfl h ⟨rfl, by decide, by decide⟩ (Nat.le_of_ble_eq_true rfl) (Nat.le_of_ble_eq_true rfl) rfl (Nat.le_of_ble_eq_true rfl))) (fun g24 => ?_)
                      exact r_vret (pc := 167) dX5_arrives_167 rfl
                    · skip
                      exact r_vret (pc := 167) dX5_arrives_167 rfl
                · skip
                  refine r_icmp_ne (tgt := 133) (pc := 116) dX5_arrives_116 (by decide) ?_ ?_
                  · skip
                    refine r_aload_n (pc := 119) dX5_arrives_119 rfl 0 rfl ?_
                    refine r_iload_n (pc := 120) dX5_arrives_120 rfl 3 rfl ?_
                    refine r_iconst (v := (3 : Int32)) (pc := 121) dX5_arrives_121 (by decide) ?_
                    refine r_aload_n (pc := 122) dX5_arrives_122 rfl 0 rfl ?_
                    refine r_iload_n (pc := 123) dX5_arrives_123 rfl 3 rfl ?_
                    refine r_iconst (v := (3 : Int32)) (pc := 124) dX5_arrives_124 (by decide) ?_
                    refine r_cI (pc := 125) (rest := [.int (3 : Int32), .int x3, .ref x0]) (RunOK_chk (fun h => run_V (n := 2) (c9 := 8) (As := [.int x3, .int (3 : Int32)]) (rest := [.int (3 : Int32), .int x3, .ref x0]) (t_X5_course γ l hl x0 x3 (3 : Int32) g15) dX5_arrives_125 q3499 q3501 qs61 q121 q3502 (by decide +kernel) rfl h ⟨rfl, by decide, by decide⟩ (Nat.le_of_ble_eq_true rfl) (Nat.le_of_ble_eq_true rfl) rfl (Nat.le_of_ble_eq_true rfl))) (fun v26 g25 => ?_)
                    refine r_iconst (v := (1 : Int32)) (pc := 128) dX5_arrives_128 (by decide) ?_
                    refine r_iadd (pc := 129) dX5_arrives_129 ?_
                    refine r_cV (pc := 130) (rest := []) (RunOK_chk (fun h => run_V (n := 3) (c9 := 8) (As := [.int x3, .int (3 : Int32), .int (v26 + (1 : Int32))]) (rest := []) (t_X5_setsCourse γ l hl x0 x3 (3 : Int32) (v26 + (1 : Int32)) g25) dX5_arrives_130 q3519 q3521 qs65 q121 q3522 (by decide +kernel) rfl h ⟨rfl, by decide, by decide⟩ (Nat.le_of_ble_eq_true rfl) (Nat.le_of_ble_eq_true rfl) rfl (Nat.le_of_ble_eq_true rfl))) (fun g27 => ?_)
                    refine AW_sub [0, 1, 3] rfl ?_
                    exact h_j18 g27
                  · skip
                    refine AW_sub [0, 1, 3] rfl ?_
                    exact h_j18 g15
              · skip
                exact r_vret (pc := 167) dX5_arrives_167 rfl
          · skip
            refine r_aload_n (pc := 67) dX5_arrives_67 rfl 0 rfl ?_
            refine r_iload_n (pc := 68) dX5_arrives_68 rfl 2 rfl ?_
            refine r_iload_n (pc := 69) dX5_arrives_69 rfl 3 rfl ?_
            refine r_iload_n (pc := 70) dX5_arrives_70 rfl 1 rfl ?_
            refine r_cV (pc := 71) (rest := []) (RunOK_chk (fun h => run_V (n := 3) (c9 := 8) (As := [.int x2, .int x3, .int x1]) (rest := []) (t_X5_hears γ l hl x0 x2 x3 x1 g7) dX5_arrives_71 q3648 q3650 qs87 q121 q3651 (by decide +kernel) rfl h ⟨rfl, by decide, by decide⟩ (Nat.le_of_ble_eq_true rfl) (Nat.le_of_ble_eq_true rfl) rfl (Nat.le_of_ble_eq_true rfl))) (fun g28 => ?_)
            refine r_goto (tgt := 167) (pc := 74) dX5_arrives_74 (by decide) ?_
            exact r_vret (pc := 167) dX5_arrives_167 rfl
      · skip
        refine r_aload_n (pc := 38) dX5_arrives_38 rfl 0 rfl ?_
        refine r_getR (f := 30) (pc := 39) dX5_arrives_39 q3378 (Or.inl rfl) rfl (fun v29 => ?_)
        refine r_iconst (v := (4 : Int32)) (pc := 42) dX5_arrives_42 (by decide) ?_
        refine r_dup2 (pc := 43) dX5_arrives_43 rfl rfl ?_
        refine r_iald (pc := 44) dX5_arrives_44 (fun v30 => ?_)
        refine r_iconst (v := (1 : Int32)) (pc := 45) dX5_arrives_45 (by decide) ?_
        refine r_iadd (pc := 46) dX5_arrives_46 ?_
        refine r_iast (pc := 47) dX5_arrives_47 (fun g31 => ?_)
        exact r_vret (pc := 48) dX5_arrives_48 rfl
    · skip
      refine r_if_eq (tgt := 31) (pc := 24) dX5_arrives_24 (by decide) ?_ ?_
      · skip
        refine r_iconst (v := (-1 : Int32)) (pc := 31) dX5_arrives_31 (by decide) ?_
        refine AW_sub [1, 2, 3, 4, 0] rfl ?_
        exact h_j6 (-1 : Int32) x0 g1
      · skip
        refine r_iload_n (pc := 27) dX5_arrives_27 rfl 3 rfl ?_
        refine r_goto (tgt := 32) (pc := 28) dX5_arrives_28 (by decide) ?_
        refine AW_sub [1, 2, 3, 4, 0] rfl ?_
        exact h_j6 x2 x0 g1
  · skip
    refine r_if_eq (tgt := 14) (pc := 1) dX5_arrives_1 (by decide) ?_ ?_
    · skip
      exact h_j2 g
    · skip
      refine r_iload_n (pc := 4) dX5_arrives_4 rfl 1 rfl ?_
      refine r_iconst (v := (3 : Int32)) (pc := 5) dX5_arrives_5 (by decide) ?_
      refine r_icmp_eq (tgt := 14) (pc := 6) dX5_arrives_6 (by decide) ?_ ?_
      · skip
        exact h_j2 g
      · skip
        refine r_iload_n (pc := 9) dX5_arrives_9 rfl 1 rfl ?_
        refine r_iconst (v := (4 : Int32)) (pc := 10) dX5_arrives_10 (by decide) ?_
        refine r_icmp_ne (tgt := 18) (pc := 11) dX5_arrives_11 (by decide) ?_ ?_
        · skip
          exact h_j2 g
        · skip
          refine r_iconst (v := (0 : Int32)) (pc := 18) dX5_arrives_18 (by decide) ?_
          refine r_istore (pc := 19) dX5_arrives_19 (Nat.le_of_ble_eq_true rfl) rfl ?_
          refine r_aload_n (pc := 21) dX5_arrives_21 rfl 1 rfl ?_
          refine r_iload (pc := 22) dX5_arrives_22 0 rfl ?_
          refine AW_jn (P := fun (j : Int32 → Nat → AH → Option (AH)) => ∀ (z32 : Int32) (z33 : Nat) (g34 : AH), AW ρV γ l ck_X5_arrives g 32 [(0, .ref x0), (1, .int x1), (2, .int x2), (3, .int x3), (4, .int (0 : Int32))] [.int z32, .ref z33] g34 (j z32 z33 g34)) (fun z32 z33 g34 => ?_) (fun j35 h_j35 => ?_)
          · skip
            refine r_cI (pc := 32) (rest := []) (RunOK_chk (fun h => run_V (n := 1) (c9 := 8) (As := [.int z32]) (rest := []) (t_X5_isOut γ l hl z33 z32 g34) dX5_arrives_32 q3572 q3574 qs72 q121 q3575 (by decide +kernel) rfl h ⟨rfl, by decide, by decide⟩ (Nat.le_of_ble_eq_true rfl) (Nat.le_of_ble_eq_true rfl) rfl (Nat.le_of_ble_eq_true rfl))) (fun v37 g36 => ?_)
            refine r_if_eq (tgt := 49) (pc := 35) dX5_arrives_35 (by decide) ?_ ?_
            · skip
              refine r_iload_n (pc := 49) dX5_arrives_49 rfl 1 rfl ?_
              refine r_if_ne (tgt := 62) (pc := 50) dX5_arrives_50 (by decide) ?_ ?_
              · skip
                refine r_aload_n (pc := 53) dX5_arrives_53 rfl 0 rfl ?_
                refine r_iload_n (pc := 54) dX5_arrives_54 rfl 2 rfl ?_
                refine r_iload_n (pc := 55) dX5_arrives_55 rfl 3 rfl ?_
                refine r_cV (pc := 56) (rest := []) (RunOK_chk (fun h => run_V (n := 2) (c9 := 8) (As := [.int x2, .int x3]) (rest := []) (t_X5_votes γ l hl x0 x2 x3 g36) dX5_arrives_56 q3676 q3678 qs93 q121 q3679 (by decide +kernel) rfl h ⟨rfl, by decide, by decide⟩ (Nat.le_of_ble_eq_true rfl) (Nat.le_of_ble_eq_true rfl) rfl (Nat.le_of_ble_eq_true rfl))) (fun g38 => ?_)
                refine r_goto (tgt := 167) (pc := 59) dX5_arrives_59 (by decide) ?_
                exact r_vret (pc := 167) dX5_arrives_167 rfl
              · skip
                refine r_iload (pc := 62) dX5_arrives_62 4 rfl ?_
                refine r_if_eq (tgt := 77) (pc := 64) dX5_arrives_64 (by decide) ?_ ?_
                · skip
                  refine r_iload_n (pc := 77) dX5_arrives_77 rfl 1 rfl ?_
                  refine r_iconst (v := (5 : Int32)) (pc := 78) dX5_arrives_78 (by decide) ?_
                  refine r_icmp_ne (tgt := 105) (pc := 79) dX5_arrives_79 (by decide) ?_ ?_
                  · skip
                    refine r_aload_n (pc := 82) dX5_arrives_82 rfl 0 rfl ?_
                    refine r_iload_n (pc := 83) dX5_arrives_83 rfl 3 rfl ?_
                    refine r_cI (pc := 84) (rest := []) (RunOK_chk (fun h => run_V (n := 1) (c9 := 8) (As := [.int x3]) (rest := []) (t_X5_how γ l hl x0 x3 g36) dX5_arrives_84 q3531 q3533 qs67 q121 q3534 (by decide +kernel) rfl h ⟨rfl, by decide, by decide⟩ (Nat.le_of_ble_eq_true rfl) (Nat.le_of_ble_eq_true rfl) rfl (Nat.le_of_ble_eq_true rfl))) (fun v40 g39 => ?_)
                    refine r_iconst (v := (1 : Int32)) (pc := 87) dX5_arrives_87 (by decide) ?_
                    refine r_icmp_le (tgt := 167) (pc := 88) dX5_arrives_88 (by decide) ?_ ?_
                    · skip
                      exact r_vret (pc := 167) dX5_arrives_167 rfl
                    · skip
                      refine r_aload_n (pc := 91) dX5_arrives_91 rfl 0 rfl ?_
                      refine r_aload_n (pc := 92) dX5_arrives_92 rfl 0 rfl ?_
                      refine r_iload_n (pc := 93) dX5_arrives_93 rfl 3 rfl ?_
                      refine r_cI (pc := 94) (rest := [.ref x0]) (RunOK_chk (fun h => run_V (n := 1) (c9 := 8) (As := [.int x3]) (rest := [.ref x0]) (t_X5_decision γ l hl x0 x3 g39) dX5_arrives_94 q3612 q3614 qs81 q121 q3615 (by decide +kernel) rfl h ⟨rfl, by decide, by decide⟩ (Nat.le_of_ble_eq_true rfl) (Nat.le_of_ble_eq_true rfl) rfl (Nat.le_of_ble_eq_true rfl))) (fun v42 g41 => ?_)
                      refine r_iload_n (pc := 97) dX5_arrives_97 rfl 2 rfl ?_
                      refine r_iload_n (pc := 98) dX5_arrives_98 rfl 3 rfl ?_
                      refine r_cV (pc := 99) (rest := []) (RunOK_chk (fun h => run_V (n := 3) (c9 := 8) (As := [.int v42, .int x2, .int x3]) (rest := []) (t_X5_sends γ l hl x0 v42 x2 x3 g41) dX5_arrives_99 q3584 q3586 qs75 q121 q3587 (by decide +kernel) rfl h ⟨rfl, by decide, by decide⟩ (Nat.le_of_ble_eq_true rfl) (Nat.le_of_ble_eq_true rfl) rfl (Nat.le_of_ble_eq_true rfl))) (fun g43 => ?_)
                      refine r_goto (tgt := 167) (pc := 102) dX5_arrives_102 (by decide) ?_
                      exact r_vret (pc := 167) dX5_arrives_167 rfl
                  · skip
                    refine r_aload_n (pc := 105) dX5_arrives_105 rfl 0 rfl ?_
                    refine r_iload_n (pc := 106) dX5_arrives_106 rfl 3 rfl ?_
                    refine r_cI (pc := 107) (rest := []) (RunOK_chk (fun h => run_V (n := 1) (c9 := 8) (As := [.int x3]) (rest := []) (t_X5_how γ l hl x0 x3 g36) dX5_arrives_107 q3531 q3533 qs67 q121 q3534 (by decide +kernel) rfl h ⟨rfl, by decide, by decide⟩ (Nat.le_of_ble_eq_true rfl) (Nat.le_of_ble_eq_true rfl) rfl (Nat.le_of_ble_eq_true rfl))) (fun v45 g44 => ?_)
                    refine r_iconst (v := (1 : Int32)) (pc := 110) dX5_arrives_110 (by decide) ?_
                    refine r_icmp_ne (tgt := 167) (pc := 111) dX5_arrives_111 (by decide) ?_ ?_
                    · skip
                      refine r_iload_n (pc := 114) dX5_arrives_114 rfl 1 rfl ?_
                      refine r_iconst (v := (1 : Int32)) (pc := 115) dX5_arrives_115 (by decide) ?_
                      refine AW_jn (P := fun (j : AH → Option (AH)) => ∀ (g46 : AH), AW ρV γ l ck_X5_arrives g 133 [(0, .ref x0), (1, .int x1), (3, .int x3)] [] g46 (j g46)) (fun g46 => ?_) (fun j47 h_j47 => ?_)
                      · skip
                        refine r_iload_n (pc := 133) dX5_arrives_133 rfl 1 rfl ?_
                        refine r_iconst (v := (2 : Int32)) (pc := 134) dX5_arrives_134 (by decide) ?_
                        refine r_icmp_ne (tgt := 147) (pc := 135) dX5_arrives_135 (by decide) ?_ ?_
                        · skip
                          refine r_aload_n (pc := 138) dX5_arrives_138 rfl 0 rfl ?_
                          refine r_iload_n (pc := 139) dX5_arrives_139 rfl 2 rfl ?_
                          refine r_iconst (v := (0 : Int32)) (pc := 140) dX5_arrives_140 (by decide) ?_
                          refine r_cV (pc := 141) (rest := []) (RunOK_chk (fun h => run_V (n := 2) (c9 := 8) (As := [.int x3, .int (0 : Int32)]) (rest := []) (t_X5_decidesAndSends γ l hl x0 x3 (0 : Int32) g46) dX5_arrives_141 q3604 q3606 qs79 q121 q3607 (by decide +kernel) rfl h ⟨rfl, by decide, by decide⟩ (Nat.le_of_ble_eq_true rfl) (Nat.le_of_ble_eq_true rfl) rfl (Nat.le_of_ble_eq_true rfl))) (fun g48 => ?_)
                          refine r_goto (tgt := 167) (pc := 144) dX5_arrives_144 (by decide) ?_
                          exact r_vret (pc := 167) dX5_arrives_167 rfl
                        · skip
                          refine r_aload_n (pc := 147) dX5_arrives_147 rfl 0 rfl ?_
                          refine r_iload_n (pc := 148) dX5_arrives_148 rfl 2 rfl ?_
                          refine r_iconst (v := (3 : Int32)) (pc := 149) dX5_arrives_149 (by decide) ?_
                          refine r_cI (pc := 150) (rest := []) (RunOK_chk (fun h => run_V (n := 2) (c9 := 8) (As := [.int x3, .int (3 : Int32)]) (rest := []) (t_X5_course γ l hl x0 x3 (3 : Int32) g46) dX5_arrives_150 q3499 q3501 qs61 q121 q3502 (by decide +kernel) rfl h ⟨rfl, by decide, by decide⟩ (Nat.le_of_ble_eq_true rfl) (Nat.le_of_ble_eq_true rfl) rfl (Nat.le_of_ble_eq_true rfl))) (fun v50 g49 => ?_)
                          refine r_aload_n (pc := 153) dX5_arrives_153 rfl 0 rfl ?_
                          refine r_iload_n (pc := 154) dX5_arrives_154 rfl 2 rfl ?_
                          refine r_cI (pc := 155) (rest := [.int v50]) (RunOK_chk (fun h => run_V (n := 1) (c9 := 8) (As := [.int x3]) (rest := [.int v50]) (t_X5_dishes γ l hl x0 x3 g49) dX5_arrives_155 q3535 q3537 qs68 q121 q3538 (by decide +kernel) rfl h ⟨rfl, by decide, by decide⟩ (Nat.le_of_ble_eq_true rfl) (Nat.le_of_ble_eq_true rfl) rfl (Nat.le_of_ble_eq_true rfl))) (fun v52 g51 => ?_)
                          refine r_icmp_ne (tgt := 167) (pc := 158) dX5_arrives_158 (by decide) ?_ ?_
                          · skip
                            refine r_aload_n (pc := 161) dX5_arrives_161 rfl 0 rfl ?_
                            refine r_iload_n (pc := 162) dX5_arrives_162 rfl 2 rfl ?_
                            refine r_iconst (v := (1 : Int32)) (pc := 163) dX5_arrives_163 (by decide) ?_
                            refine r_cV (pc := 164) (rest := []) (RunOK_chk (fun h => run_V (n := 2) (c9 := 8) (As := [.int x3, .int (1 : Int32)]) (rest := []) (t_X5_decidesAndSends γ l hl x0 x3 (1 : Int32) g51) dX5_arrives_164 q3604 q3606 qs79 q121 q3607 (by decide +kernel) rfl h ⟨rfl, by decide, by decide⟩ (Nat.le_of_ble_eq_true rfl) (Nat.le_of_ble_eq_true rfl) rfl (Nat.le_of_ble_eq_true rfl))) (fun g53 => ?_)
                            exact r_vret (pc := 167) dX5_arrives_167 rfl
                          · skip
                            exact r_vret (pc := 167) dX5_arrives_167 rfl
                      · skip
                        refine r_icmp_ne (tgt := 133) (pc := 116) dX5_arrives_116 (by decide) ?_ ?_
                        · skip
                          refine r_aload_n (pc := 119) dX5_arrives_119 rfl 0 rfl ?_
                          refine r_iload_n (pc := 120) dX5_arrives_120 rfl 3 rfl ?_
                          refine r_iconst (v := (3 : Int32)) (pc := 121) dX5_arrives_121 (by decide) ?_
                          refine r_aload_n (pc := 122) dX5_arrives_122 rfl 0 rfl ?_
                          refine r_iload_n (pc := 123) dX5_arrives_123 rfl 3 rfl ?_
                          refine r_iconst (v := (3 : Int32)) (pc := 124) dX5_arrives_124 (by decide) ?_
                          refine r_cI (pc := 125) (rest := [.int (3 : Int32), .int x3, .ref x0]) (RunOK_chk (fun h => run_V (n := 2) (c9 := 8) (As := [.int x3, .int (3 : Int32)]) (rest := [.int (3 : Int32), .int x3, .ref x0]) (t_X5_course γ l hl x0 x3 (3 : Int32) g44) dX5_arrives_125 q3499 q3501 qs61 q121 q3502 (by decide +kernel) rfl h ⟨rfl, by decide, by decide⟩ (Nat.le_of_ble_eq_true rfl) (Nat.le_of_ble_eq_true rfl) rfl (Nat.le_of_ble_eq_true rfl))) (fun v55 g54 => ?_)
                          refine r_iconst (v := (1 : Int32)) (pc := 128) dX5_arrives_128 (by decide) ?_
                          refine r_iadd (pc := 129) dX5_arrives_129 ?_
                          refine r_cV (pc := 130) (rest := []) (RunOK_chk (fun h => run_V (n := 3) (c9 := 8) (As := [.int x3, .int (3 : Int32), .int (v55 + (1 : Int32))]) (rest := []) (t_X5_setsCourse γ l hl x0 x3 (3 : Int32) (v55 + (1 : Int32)) g54) dX5_arrives_130 q3519 q3521 qs65 q121 q3522 (by decide +kernel) rfl h ⟨rfl, by decide, by decide⟩ (Nat.le_of_ble_eq_true rfl) (Nat.le_of_ble_eq_true rfl) rfl (Nat.le_of_ble_eq_true rfl))) (fun g56 => ?_)
                          refine AW_sub [0, 1, 3] rfl ?_
                          exact h_j47 g56
                        · skip
                          refine AW_sub [0, 1, 3] rfl ?_
                          exact h_j47 g44
                    · skip
                      exact r_vret (pc := 167) dX5_arrives_167 rfl
                · skip
                  refine r_aload_n (pc := 67) dX5_arrives_67 rfl 0 rfl ?_
                  refine r_iload_n (pc := 68) dX5_arrives_68 rfl 2 rfl ?_
                  refine r_iload_n (pc := 69) dX5_arrives_69 rfl 3 rfl ?_
                  refine r_iload_n (pc := 70) dX5_arrives_70 rfl 1 rfl ?_
                  refine r_cV (pc := 71) (rest := []) (RunOK_chk (fun h => run_V (n := 3) (c9 := 8) (As := [.int x2, .int x3, .int x1]) (rest := []) (t_X5_hears γ l hl x0 x2 x3 x1 g36) dX5_arrives_71 q3648 q3650 qs87 q121 q3651 (by decide +kernel) rfl h ⟨rfl, by decide, by decide⟩ (Nat.le_of_ble_eq_true rfl) (Nat.le_of_ble_eq_true rfl) rfl (Nat.le_of_ble_eq_true rfl))) (fun g57 => ?_)
                  refine r_goto (tgt := 167) (pc := 74) dX5_arrives_74 (by decide) ?_
                  exact r_vret (pc := 167) dX5_arrives_167 rfl
            · skip
              refine r_aload_n (pc := 38) dX5_arrives_38 rfl 0 rfl ?_
              refine r_getR (f := 30) (pc := 39) dX5_arrives_39 q3378 (Or.inl rfl) rfl (fun v58 => ?_)
              refine r_iconst (v := (4 : Int32)) (pc := 42) dX5_arrives_42 (by decide) ?_
              refine r_dup2 (pc := 43) dX5_arrives_43 rfl rfl ?_
              refine r_iald (pc := 44) dX5_arrives_44 (fun v59 => ?_)
              refine r_iconst (v := (1 : Int32)) (pc := 45) dX5_arrives_45 (by decide) ?_
              refine r_iadd (pc := 46) dX5_arrives_46 ?_
              refine r_iast (pc := 47) dX5_arrives_47 (fun g60 => ?_)
              exact r_vret (pc := 48) dX5_arrives_48 rfl
          · skip
            refine r_if_eq (tgt := 31) (pc := 24) dX5_arrives_24 (by decide) ?_ ?_
            · skip
              refine r_iconst (v := (-1 : Int32)) (pc := 31) dX5_arrives_31 (by decide) ?_
              refine AW_sub [1, 2, 3, 4, 0] rfl ?_
              exact h_j35 (-1 : Int32) x0 g
            · skip
              refine r_iload_n (pc := 27) dX5_arrives_27 rfl 3 rfl ?_
              refine r_goto (tgt := 32) (pc := 28) dX5_arrives_28 (by decide) ?_
              refine AW_sub [1, 2, 3, 4, 0] rfl ?_
              exact h_j35 x2 x0 g
abbrev ck_X5_minuteGoes : CK := ("BanquetVotesModel", prog_25_method_39_code, 5, none, "minuteGoes", [], 7)
def f_X5_minuteGoes_L186 (γ : GP) (x0 : Nat) (x2 : Int32) (K268 : AH → Option (AH)) : Nat → Int32 → AH → Option (AH)
  | 0, _, _ => none
  | n + 1, x3, g => gR g x0 30 fun v12 => gA g 101 v12 (2 : Int32) fun v13 => (if v13 ≤ x3 then K268 g else bI ((if hK g x0 = 8 then f_X5_isOut γ x0 x2 g else none)) fun v15 g14 => (if v15 = 0 then bI ((if hK g14 x0 = 8 then f_X5_isDish γ x0 x3 x2 g14 else none)) fun v17 g16 => (if v17 = 0 then f_X5_minuteGoes_L186 γ x0 x2 K268 n (x3 + (1 : Int32)) g16 else bI ((if hK g16 x0 = 8 then f_X5_howDish γ x0 x3 x2 g16 else none)) fun v19 g18 => (if v19 = (1 : Int32) then gR g18 x0 30 fun v20 => gA g18 101 v20 (0 : Int32) fun v21 => bI ((if hK g18 x0 = 8 then f_X5_dish γ x0 x3 x2 (3 : Int32) g18 else none)) fun v23 g22 => (if (v21 - v23) ≤ 0 then f_X5_minuteGoes_L186 γ x0 x2 K268 n (x3 + (1 : Int32)) g22 else (if ¬ (8 : Int32) = 0 then (if ((v21 - v23) - (v21 - v23) / (8 : Int32) * (8 : Int32)) = 0 then bV ((if hK g22 x0 = 8 then f_X5_sends γ x0 (5 : Int32) x2 x3 g22 else none)) fun g24 => f_X5_minuteGoes_L186 γ x0 x2 K268 n (x3 + (1 : Int32)) g24 else f_X5_minuteGoes_L186 γ x0 x2 K268 n (x3 + (1 : Int32)) g22) else none)) else f_X5_minuteGoes_L186 γ x0 x2 K268 n (x3 + (1 : Int32)) g18)) else f_X5_minuteGoes_L186 γ x0 x2 K268 n (x3 + (1 : Int32)) g14))
def f_X5_minuteGoes_L174 (γ : GP) (x0 : Nat) : Nat → Int32 → AH → Option (AH)
  | 0, _, _ => none
  | n + 1, x2, g => gR g x0 30 fun v10 => gA g 101 v10 (1 : Int32) fun v11 => (if v11 ≤ x2 then (some g) else f_X5_minuteGoes_L186 γ x0 x2 (fun (g25 : AH) => f_X5_minuteGoes_L174 γ x0 n (x2 + (1 : Int32)) g25) FU (0 : Int32) g)
def f_X5_minuteGoes_L115 (γ : GP) (x0 : Nat) : Nat → Int32 → AH → Option (AH)
  | 0, _, _ => none
  | n + 1, x2, g => gR g x0 30 fun v8 => gA g 101 v8 (2 : Int32) fun v9 => (if v9 ≤ x2 then f_X5_minuteGoes_L174 γ x0 FU (0 : Int32) g else bI ((if hK g x0 = 8 then f_X5_isOut γ x0 (-1 : Int32) g else none)) fun v27 g26 => (if v27 = 0 then bI ((if hK g26 x0 = 8 then f_X5_how γ x0 x2 g26 else none)) fun v29 g28 => (if v29 = (1 : Int32) then gR g28 x0 30 fun v30 => gA g28 101 v30 (0 : Int32) fun v31 => bI ((if hK g28 x0 = 8 then f_X5_course γ x0 x2 (1 : Int32) g28 else none)) fun v33 g32 => (if (v31 - v33) < (12 : Int32) then f_X5_minuteGoes_L115 γ x0 n (x2 + (1 : Int32)) g32 else bV ((if hK g32 x0 = 8 then f_X5_decidesAndSends γ x0 x2 (0 : Int32) g32 else none)) fun g34 => f_X5_minuteGoes_L115 γ x0 n (x2 + (1 : Int32)) g34) else f_X5_minuteGoes_L115 γ x0 n (x2 + (1 : Int32)) g28) else f_X5_minuteGoes_L174 γ x0 FU (0 : Int32) g26))
def f_X5_minuteGoes_L66 (γ : GP) (x0 : Nat) (x1 : Int32) (x2 : Int32) (K97 : AH → Option (AH)) : Nat → Int32 → AH → Option (AH)
  | 0, _, _ => none
  | n + 1, x3, g => (if (4 : Int32) ≤ x3 then K97 g else gR g x0 30 fun v46 => bI ((if hK g x0 = 8 then f_X5_message γ x0 x2 x3 g else none)) fun v48 g47 => pA γ g47 101 v46 (((657 : Int32) + ((4 : Int32) * x1)) + x3) v48 fun g49 => f_X5_minuteGoes_L66 γ x0 x1 x2 K97 n (x3 + (1 : Int32)) g49)
def f_X5_minuteGoes_L14 (γ : GP) (x0 : Nat) : Nat → Int32 → Int32 → AH → Option (AH)
  | 0, _, _, _ => none
  | n + 1, x1, x2, g => gR g x0 30 fun v4 => gA g 101 v4 (5 : Int32) fun v5 => (if v5 ≤ x2 then gR g x0 30 fun v6 => pA γ g 101 v6 (5 : Int32) x1 fun g7 => f_X5_minuteGoes_L115 γ x0 FU (0 : Int32) g7 else bI ((if hK g x0 = 8 then f_X5_message γ x0 x2 (3 : Int32) g else none)) fun v36 g35 => gR g35 x0 30 fun v37 => gA g35 101 v37 (0 : Int32) fun v38 => (if v36 = v38 then bI ((if hK g35 x0 = 8 then f_X5_message γ x0 x2 (0 : Int32) g35 else none)) fun v40 g39 => bI ((if hK g39 x0 = 8 then f_X5_message γ x0 x2 (1 : Int32) g39 else none)) fun v42 g41 => bI ((if hK g41 x0 = 8 then f_X5_message γ x0 x2 (2 : Int32) g41 else none)) fun v44 g43 => bV ((if hK g43 x0 = 8 then f_X5_arrives γ x0 v40 v42 v44 g43 else none)) fun g45 => f_X5_minuteGoes_L14 γ x0 n x1 (x2 + (1 : Int32)) g45 else f_X5_minuteGoes_L66 γ x0 x1 x2 (fun (g50 : AH) => f_X5_minuteGoes_L14 γ x0 n (x1 + (1 : Int32)) (x2 + (1 : Int32)) g50) FU (0 : Int32) g35))
def f_X5_minuteGoes (γ : GP) (x0 : Nat) (g : AH) : Option (AH) := gR g x0 30 fun v1 => gA g 101 v1 (0 : Int32) fun v2 => pA γ g 101 v1 (0 : Int32) (v2 + (1 : Int32)) fun g3 => f_X5_minuteGoes_L14 γ x0 FU (0 : Int32) (0 : Int32) g3
theorem f_X5_minuteGoes_L186_w (γ : GP) (l : Launch) (hl : l.stackTraces = false) (G0 : AH) (x0 : Nat) (x2 : Int32) (K268 : AH → Option (AH)) (h_K268 : ∀ (g : AH), AW ρV γ l ck_X5_minuteGoes G0 268 [(0, .ref x0), (2, .int x2)] [] g (K268 g)) : ∀ (n : Nat) (x3 : Int32) (g : AH), AW ρV γ l ck_X5_minuteGoes G0 186 [(0, .ref x0), (2, .int x2), (3, .int x3)] [] g (f_X5_minuteGoes_L186 γ x0 x2 K268 n x3 g) := by
  intro n
  induction n with
  | zero => intro x3 g; exact AW_none
  | succ n ih =>
    intro x3 g
    unfold f_X5_minuteGoes_L186
    refine r_iload_n (pc := 186) dX5_minuteGoes_186 rfl 2 rfl ?_
    refine r_aload_n (pc := 187) dX5_minuteGoes_187 rfl 0 rfl ?_
    refine r_getR (f := 30) (pc := 188) dX5_minuteGoes_188 q3378 (Or.inl rfl) rfl (fun v12 => ?_)
    refine r_iconst (v := (2 : Int32)) (pc := 191) dX5_minuteGoes_191 (by decide) ?_
    refine r_iald (pc := 192) dX5_minuteGoes_192 (fun v13 => ?_)
    refine r_icmp_ge (tgt := 268) (pc := 193) dX5_minuteGoes_193 (by decide) ?_ ?_
    · skip
      refine AW_sub [0, 1] rfl ?_
      exact h_K268 g
    · skip
      refine r_aload_n (pc := 196) dX5_minuteGoes_196 rfl 0 rfl ?_
      refine r_iload_n (pc := 197) dX5_minuteGoes_197 rfl 1 rfl ?_
      refine r_cI (pc := 198) (rest := []) (RunOK_chk (fun h => run_V (n := 1) (c9 := 8) (As := [.int x2]) (rest := []) (t_X5_isOut γ l hl x0 x2 g) dX5_minuteGoes_198 q3572 q3574 qs72 q121 q3575 (by decide +kernel) rfl h ⟨rfl, by decide, by decide⟩ (Nat.le_of_ble_eq_true rfl) (Nat.le_of_ble_eq_true rfl) rfl (Nat.le_of_ble_eq_true rfl))) (fun v15 g14 => ?_)
      refine r_if_ne (tgt := 262) (pc := 201) dX5_minuteGoes_201 (by decide) ?_ ?_
      · skip
        refine r_aload_n (pc := 204) dX5_minuteGoes_204 rfl 0 rfl ?_
        refine r_iload_n (pc := 205) dX5_minuteGoes_205 rfl 2 rfl ?_
        refine r_iload_n (pc := 206) dX5_minuteGoes_206 rfl 1 rfl ?_
        refine r_cI (pc := 207) (rest := []) (RunOK_chk (fun h => run_V (n := 2) (c9 := 8) (As := [.int x3, .int x2]) (rest := []) (t_X5_isDish γ l hl x0 x3 x2 g14) dX5_minuteGoes_207 q3495 q3497 qs60 q121 q3498 (by decide +kernel) rfl h ⟨rfl, by decide, by decide⟩ (Nat.le_of_ble_eq_true rfl) (Nat.le_of_ble_eq_true rfl) rfl (Nat.le_of_ble_eq_true rfl))) (fun v17 g16 => ?_)
        refine r_if_eq (tgt := 262) (pc := 210) dX5_minuteGoes_210 (by decide) ?_ ?_
        · skip
          refine r_iinc (j := 2) (v := (x3 + (1 : Int32))) (pc := 262) dX5_minuteGoes_262 rfl rfl (Nat.le_of_ble_eq_true rfl) rfl ?_
          refine r_goto (tgt := 186) (pc := 265) dX5_minuteGoes_265 (by decide) ?_
          refine AW_sub [1, 2, 0] rfl ?_
          exact ih (x3 + (1 : Int32)) g16
        · skip
          refine r_aload_n (pc := 213) dX5_minuteGoes_213 rfl 0 rfl ?_
          refine r_iload_n (pc := 214) dX5_minuteGoes_214 rfl 2 rfl ?_
          refine r_iload_n (pc := 215) dX5_minuteGoes_215 rfl 1 rfl ?_
          refine r_cI (pc := 216) (rest := []) (RunOK_chk (fun h => run_V (n := 2) (c9 := 8) (As := [.int x3, .int x2]) (rest := []) (t_X5_howDish γ l hl x0 x3 x2 g16) dX5_minuteGoes_216 q3503 q3505 qs62 q121 q3506 (by decide +kernel) rfl h ⟨rfl, by decide, by decide⟩ (Nat.le_of_ble_eq_true rfl) (Nat.le_of_ble_eq_true rfl) rfl (Nat.le_of_ble_eq_true rfl))) (fun v19 g18 => ?_)
          refine r_iconst (v := (1 : Int32)) (pc := 219) dX5_minuteGoes_219 (by decide) ?_
          refine r_icmp_eq (tgt := 226) (pc := 220) dX5_minuteGoes_220 (by decide) ?_ ?_
          · skip
            refine r_aload_n (pc := 226) dX5_minuteGoes_226 rfl 0 rfl ?_
            refine r_getR (f := 30) (pc := 227) dX5_minuteGoes_227 q3378 (Or.inl rfl) rfl (fun v20 => ?_)
            refine r_iconst (v := (0 : Int32)) (pc := 230) dX5_minuteGoes_230 (by decide) ?_
            refine r_iald (pc := 231) dX5_minuteGoes_231 (fun v21 => ?_)
            refine r_aload_n (pc := 232) dX5_minuteGoes_232 rfl 0 rfl ?_
            refine r_iload_n (pc := 233) dX5_minuteGoes_233 rfl 2 rfl ?_
            refine r_iload_n (pc := 234) dX5_minuteGoes_234 rfl 1 rfl ?_
            refine r_iconst (v := (3 : Int32)) (pc := 235) dX5_minuteGoes_235 (by decide) ?_
            refine r_cI (pc := 236) (rest := [.int v21]) (RunOK_chk (fun h => run_V (n := 3) (c9 := 8) (As := [.int x3, .int x2, .int (3 : Int32)]) (rest := [.int v21]) (t_X5_dish γ l hl x0 x3 x2 (3 : Int32) g18) dX5_minuteGoes_236 q3507 q3509 qs63 q121 q3510 (by decide +kernel) rfl h ⟨rfl, by decide, by decide⟩ (Nat.le_of_ble_eq_true rfl) (Nat.le_of_ble_eq_true rfl) rfl (Nat.le_of_ble_eq_true rfl))) (fun v23 g22 => ?_)
            refine r_isub (pc := 239) dX5_minuteGoes_239 ?_
            refine r_istore (pc := 240) dX5_minuteGoes_240 (Nat.le_of_ble_eq_true rfl) rfl ?_
            refine r_iload (pc := 242) dX5_minuteGoes_242 0 rfl ?_
            refine r_if_le (tgt := 262) (pc := 244) dX5_minuteGoes_244 (by decide) ?_ ?_
            · skip
              refine r_iinc (j := 3) (v := (x3 + (1 : Int32))) (pc := 262) dX5_minuteGoes_262 rfl rfl (Nat.le_of_ble_eq_true rfl) rfl ?_
              refine r_goto (tgt := 186) (pc := 265) dX5_minuteGoes_265 (by decide) ?_
              refine AW_sub [2, 3, 0] rfl ?_
              exact ih (x3 + (1 : Int32)) g22
            · skip
              refine r_iload (pc := 247) dX5_minuteGoes_247 0 rfl ?_
              refine r_bipush (v := (8 : Int32)) (pc := 249) dX5_minuteGoes_249 (by decide) ?_
              refine r_irem (pc := 251) dX5_minuteGoes_251 ?_
              refine r_if_ne (tgt := 262) (pc := 252) dX5_minuteGoes_252 (by decide) ?_ ?_
              · skip
                refine r_aload_n (pc := 255) dX5_minuteGoes_255 rfl 1 rfl ?_
                refine r_iconst (v := (5 : Int32)) (pc := 256) dX5_minuteGoes_256 (by decide) ?_
                refine r_iload_n (pc := 257) dX5_minuteGoes_257 rfl 2 rfl ?_
                refine r_iload_n (pc := 258) dX5_minuteGoes_258 rfl 3 rfl ?_
                refine r_cV (pc := 259) (rest := []) (RunOK_chk (fun h => run_V (n := 3) (c9 := 8) (As := [.int (5 : Int32), .int x2, .int x3]) (rest := []) (t_X5_sends γ l hl x0 (5 : Int32) x2 x3 g22) dX5_minuteGoes_259 q3584 q3586 qs75 q121 q3587 (by decide +kernel) rfl h ⟨rfl, by decide, by decide⟩ (Nat.le_of_ble_eq_true rfl) (Nat.le_of_ble_eq_true rfl) rfl (Nat.le_of_ble_eq_true rfl))) (fun g24 => ?_)
                refine r_iinc (j := 3) (v := (x3 + (1 : Int32))) (pc := 262) dX5_minuteGoes_262 rfl rfl (Nat.le_of_ble_eq_true rfl) rfl ?_
                refine r_goto (tgt := 186) (pc := 265) dX5_minuteGoes_265 (by decide) ?_
                refine AW_sub [2, 3, 0] rfl ?_
                exact ih (x3 + (1 : Int32)) g24
              · skip
                refine r_iinc (j := 3) (v := (x3 + (1 : Int32))) (pc := 262) dX5_minuteGoes_262 rfl rfl (Nat.le_of_ble_eq_true rfl) rfl ?_
                refine r_goto (tgt := 186) (pc := 265) dX5_minuteGoes_265 (by decide) ?_
                refine AW_sub [2, 3, 0] rfl ?_
                exact ih (x3 + (1 : Int32)) g22
          · skip
            refine r_goto (tgt := 262) (pc := 223) dX5_minuteGoes_223 (by decide) ?_
            refine r_iinc (j := 2) (v := (x3 + (1 : Int32))) (pc := 262) dX5_minuteGoes_262 rfl rfl (Nat.le_of_ble_eq_true rfl) rfl ?_
            refine r_goto (tgt := 186) (pc := 265) dX5_minuteGoes_265 (by decide) ?_
            refine AW_sub [1, 2, 0] rfl ?_
            exact ih (x3 + (1 : Int32)) g18
      · skip
        refine r_iinc (j := 2) (v := (x3 + (1 : Int32))) (pc := 262) dX5_minuteGoes_262 rfl rfl (Nat.le_of_ble_eq_true rfl) rfl ?_
        refine r_goto (tgt := 186) (pc := 265) dX5_minuteGoes_265 (by decide) ?_
        refine AW_sub [1, 2, 0] rfl ?_
        exact ih (x3 + (1 : Int32)) g14
theorem f_X5_minuteGoes_L174_w (γ : GP) (l : Launch) (hl : l.stackTraces = false) (G0 : AH) (x0 : Nat) : ∀ (n : Nat) (x2 : Int32) (g : AH), AW ρV γ l ck_X5_minuteGoes G0 174 [(0, .ref x0), (2, .int x2)] [] g (f_X5_minuteGoes_L174 γ x0 n x2 g) := by
  intro n
  induction n with
  | zero => intro x2 g; exact AW_none
  | succ n ih =>
    intro x2 g
    unfold f_X5_minuteGoes_L174
    refine r_iload_n (pc := 174) dX5_minuteGoes_174 rfl 1 rfl ?_
    refine r_aload_n (pc := 175) dX5_minuteGoes_175 rfl 0 rfl ?_
    refine r_getR (f := 30) (pc := 176) dX5_minuteGoes_176 q3378 (Or.inl rfl) rfl (fun v10 => ?_)
    refine r_iconst (v := (1 : Int32)) (pc := 179) dX5_minuteGoes_179 (by decide) ?_
    refine r_iald (pc := 180) dX5_minuteGoes_180 (fun v11 => ?_)
    refine r_icmp_ge (tgt := 274) (pc := 181) dX5_minuteGoes_181 (by decide) ?_ ?_
    · skip
      exact r_vret (pc := 274) dX5_minuteGoes_274 rfl
    · skip
      refine r_iconst (v := (0 : Int32)) (pc := 184) dX5_minuteGoes_184 (by decide) ?_
      refine r_istore_n (pc := 185) dX5_minuteGoes_185 rfl (Nat.le_of_ble_eq_true rfl) rfl ?_
      refine AW_sub [1, 2, 0] rfl ?_
      refine f_X5_minuteGoes_L186_w γ l hl _ x0 x2 _ ?_ FU (0 : Int32) g
      · intro g25
        refine r_iinc (j := 1) (v := (x2 + (1 : Int32))) (pc := 268) dX5_minuteGoes_268 rfl rfl (Nat.le_of_ble_eq_true rfl) rfl ?_
        refine r_goto (tgt := 174) (pc := 271) dX5_minuteGoes_271 (by decide) ?_
        refine AW_sub [1, 0] rfl ?_
        exact ih (x2 + (1 : Int32)) g25
theorem f_X5_minuteGoes_L115_w (γ : GP) (l : Launch) (hl : l.stackTraces = false) (G0 : AH) (x0 : Nat) : ∀ (n : Nat) (x2 : Int32) (g : AH), AW ρV γ l ck_X5_minuteGoes G0 115 [(0, .ref x0), (2, .int x2)] [] g (f_X5_minuteGoes_L115 γ x0 n x2 g) := by
  intro n
  induction n with
  | zero => intro x2 g; exact AW_none
  | succ n ih =>
    intro x2 g
    unfold f_X5_minuteGoes_L115
    refine r_iload_n (pc := 115) dX5_minuteGoes_115 rfl 1 rfl ?_
    refine r_aload_n (pc := 116) dX5_minuteGoes_116 rfl 0 rfl ?_
    refine r_getR (f := 30) (pc := 117) dX5_minuteGoes_117 q3378 (Or.inl rfl) rfl (fun v8 => ?_)
    refine r_iconst (v := (2 : Int32)) (pc := 120) dX5_minuteGoes_120 (by decide) ?_
    refine r_iald (pc := 121) dX5_minuteGoes_121 (fun v9 => ?_)
    refine r_icmp_ge (tgt := 172) (pc := 122) dX5_minuteGoes_122 (by decide) ?_ ?_
    · skip
      refine r_iconst (v := (0 : Int32)) (pc := 172) dX5_minuteGoes_172 (by decide) ?_
      refine r_istore_n (pc := 173) dX5_minuteGoes_173 rfl (Nat.le_of_ble_eq_true rfl) rfl ?_
      refine AW_sub [1, 0] rfl ?_
      refine f_X5_minuteGoes_L174_w γ l hl _ x0 FU (0 : Int32) g
    · skip
      refine r_aload_n (pc := 125) dX5_minuteGoes_125 rfl 0 rfl ?_
      refine r_iconst (v := (-1 : Int32)) (pc := 126) dX5_minuteGoes_126 (by decide) ?_
      refine r_cI (pc := 127) (rest := []) (RunOK_chk (fun h => run_V (n := 1) (c9 := 8) (As := [.int (-1 : Int32)]) (rest := []) (t_X5_isOut γ l hl x0 (-1 : Int32) g) dX5_minuteGoes_127 q3572 q3574 qs72 q121 q3575 (by decide +kernel) rfl h ⟨rfl, by decide, by decide⟩ (Nat.le_of_ble_eq_true rfl) (Nat.le_of_ble_eq_true rfl) rfl (Nat.le_of_ble_eq_true rfl))) (fun v27 g26 => ?_)
      refine r_if_ne (tgt := 172) (pc := 130) dX5_minuteGoes_130 (by decide) ?_ ?_
      · skip
        refine r_aload_n (pc := 133) dX5_minuteGoes_133 rfl 0 rfl ?_
        refine r_iload_n (pc := 134) dX5_minuteGoes_134 rfl 1 rfl ?_
        refine r_cI (pc := 135) (rest := []) (RunOK_chk (fun h => run_V (n := 1) (c9 := 8) (As := [.int x2]) (rest := []) (t_X5_how γ l hl x0 x2 g26) dX5_minuteGoes_135 q3531 q3533 qs67 q121 q3534 (by decide +kernel) rfl h ⟨rfl, by decide, by decide⟩ (Nat.le_of_ble_eq_true rfl) (Nat.le_of_ble_eq_true rfl) rfl (Nat.le_of_ble_eq_true rfl))) (fun v29 g28 => ?_)
        refine r_iconst (v := (1 : Int32)) (pc := 138) dX5_minuteGoes_138 (by decide) ?_
        refine r_icmp_ne (tgt := 166) (pc := 139) dX5_minuteGoes_139 (by decide) ?_ ?_
        · skip
          refine r_aload_n (pc := 142) dX5_minuteGoes_142 rfl 0 rfl ?_
          refine r_getR (f := 30) (pc := 143) dX5_minuteGoes_143 q3378 (Or.inl rfl) rfl (fun v30 => ?_)
          refine r_iconst (v := (0 : Int32)) (pc := 146) dX5_minuteGoes_146 (by decide) ?_
          refine r_iald (pc := 147) dX5_minuteGoes_147 (fun v31 => ?_)
          refine r_aload_n (pc := 148) dX5_minuteGoes_148 rfl 0 rfl ?_
          refine r_iload_n (pc := 149) dX5_minuteGoes_149 rfl 1 rfl ?_
          refine r_iconst (v := (1 : Int32)) (pc := 150) dX5_minuteGoes_150 (by decide) ?_
          refine r_cI (pc := 151) (rest := [.int v31]) (RunOK_chk (fun h => run_V (n := 2) (c9 := 8) (As := [.int x2, .int (1 : Int32)]) (rest := [.int v31]) (t_X5_course γ l hl x0 x2 (1 : Int32) g28) dX5_minuteGoes_151 q3499 q3501 qs61 q121 q3502 (by decide +kernel) rfl h ⟨rfl, by decide, by decide⟩ (Nat.le_of_ble_eq_true rfl) (Nat.le_of_ble_eq_true rfl) rfl (Nat.le_of_ble_eq_true rfl))) (fun v33 g32 => ?_)
          refine r_isub (pc := 154) dX5_minuteGoes_154 ?_
          refine r_bipush (v := (12 : Int32)) (pc := 155) dX5_minuteGoes_155 (by decide) ?_
          refine r_icmp_lt (tgt := 166) (pc := 157) dX5_minuteGoes_157 (by decide) ?_ ?_
          · skip
            refine r_iinc (j := 1) (v := (x2 + (1 : Int32))) (pc := 166) dX5_minuteGoes_166 rfl rfl (Nat.le_of_ble_eq_true rfl) rfl ?_
            refine r_goto (tgt := 115) (pc := 169) dX5_minuteGoes_169 (by decide) ?_
            refine AW_sub [1, 0] rfl ?_
            exact ih (x2 + (1 : Int32)) g32
          · skip
            refine r_aload_n (pc := 160) dX5_minuteGoes_160 rfl 0 rfl ?_
            refine r_iload_n (pc := 161) dX5_minuteGoes_161 rfl 1 rfl ?_
            refine r_iconst (v := (0 : Int32)) (pc := 162) dX5_minuteGoes_162 (by decide) ?_
            refine r_cV (pc := 163) (rest := []) (RunOK_chk (fun h => run_V (n := 2) (c9 := 8) (As := [.int x2, .int (0 : Int32)]) (rest := []) (t_X5_decidesAndSends γ l hl x0 x2 (0 : Int32) g32) dX5_minuteGoes_163 q3604 q3606 qs79 q121 q3607 (by decide +kernel) rfl h ⟨rfl, by decide, by decide⟩ (Nat.le_of_ble_eq_true rfl) (Nat.le_of_ble_eq_true rfl) rfl (Nat.le_of_ble_eq_true rfl))) (fun g34 => ?_)
            refine r_iinc (j := 1) (v := (x2 + (1 : Int32))) (pc := 166) dX5_minuteGoes_166 rfl rfl (Nat.le_of_ble_eq_true rfl) rfl ?_
            refine r_goto (tgt := 115) (pc := 169) dX5_minuteGoes_169 (by decide) ?_
            refine AW_sub [1, 0] rfl ?_
            exact ih (x2 + (1 : Int32)) g34
        · skip
          refine r_iinc (j := 1) (v := (x2 + (1 : Int32))) (pc := 166) dX5_minuteGoes_166 rfl rfl (Nat.le_of_ble_eq_true rfl) rfl ?_
          refine r_goto (tgt := 115) (pc := 169) dX5_minuteGoes_169 (by decide) ?_
          refine AW_sub [1, 0] rfl ?_
          exact ih (x2 + (1 : Int32)) g28
      · skip
        refine r_iconst (v := (0 : Int32)) (pc := 172) dX5_minuteGoes_172 (by decide) ?_
        refine r_istore_n (pc := 173) dX5_minuteGoes_173 rfl (Nat.le_of_ble_eq_true rfl) rfl ?_
        refine AW_sub [1, 0] rfl ?_
        refine f_X5_minuteGoes_L174_w γ l hl _ x0 FU (0 : Int32) g26
theorem f_X5_minuteGoes_L66_w (γ : GP) (l : Launch) (hl : l.stackTraces = false) (G0 : AH) (x0 : Nat) (x1 : Int32) (x2 : Int32) (K97 : AH → Option (AH)) (h_K97 : ∀ (g : AH), AW ρV γ l ck_X5_minuteGoes G0 97 [(0, .ref x0), (1, .int x1), (2, .int x2)] [] g (K97 g)) : ∀ (n : Nat) (x3 : Int32) (g : AH), AW ρV γ l ck_X5_minuteGoes G0 66 [(0, .ref x0), (1, .int x1), (2, .int x2), (3, .int x3)] [] g (f_X5_minuteGoes_L66 γ x0 x1 x2 K97 n x3 g) := by
  intro n
  induction n with
  | zero => intro x3 g; exact AW_none
  | succ n ih =>
    intro x3 g
    unfold f_X5_minuteGoes_L66
    refine r_iload_n (pc := 66) dX5_minuteGoes_66 rfl 3 rfl ?_
    refine r_iconst (v := (4 : Int32)) (pc := 67) dX5_minuteGoes_67 (by decide) ?_
    refine r_icmp_ge (tgt := 97) (pc := 68) dX5_minuteGoes_68 (by decide) ?_ ?_
    · skip
      refine AW_sub [0, 1, 2] rfl ?_
      exact h_K97 g
    · skip
      refine r_aload_n (pc := 71) dX5_minuteGoes_71 rfl 0 rfl ?_
      refine r_getR (f := 30) (pc := 72) dX5_minuteGoes_72 q3378 (Or.inl rfl) rfl (fun v46 => ?_)
      refine r_sipush (v := (657 : Int32)) (pc := 75) dX5_minuteGoes_75 (by decide) ?_
      refine r_iconst (v := (4 : Int32)) (pc := 78) dX5_minuteGoes_78 (by decide) ?_
      refine r_iload_n (pc := 79) dX5_minuteGoes_79 rfl 1 rfl ?_
      refine r_imul (pc := 80) dX5_minuteGoes_80 ?_
      refine r_iadd (pc := 81) dX5_minuteGoes_81 ?_
      refine r_iload_n (pc := 82) dX5_minuteGoes_82 rfl 3 rfl ?_
      refine r_iadd (pc := 83) dX5_minuteGoes_83 ?_
      refine r_aload_n (pc := 84) dX5_minuteGoes_84 rfl 0 rfl ?_
      refine r_iload_n (pc := 85) dX5_minuteGoes_85 rfl 2 rfl ?_
      refine r_iload_n (pc := 86) dX5_minuteGoes_86 rfl 3 rfl ?_
      refine r_cI (pc := 87) (rest := [.int (((657 : Int32) + ((4 : Int32) * x1)) + x3), .ref v46]) (RunOK_chk (fun h => run_V (n := 2) (c9 := 8) (As := [.int x2, .int x3]) (rest := [.int (((657 : Int32) + ((4 : Int32) * x1)) + x3), .ref v46]) (t_X5_message γ l hl x0 x2 x3 g) dX5_minuteGoes_87 q3668 q3670 qs91 q121 q3671 (by decide +kernel) rfl h ⟨rfl, by decide, by decide⟩ (Nat.le_of_ble_eq_true rfl) (Nat.le_of_ble_eq_true rfl) rfl (Nat.le_of_ble_eq_true rfl))) (fun v48 g47 => ?_)
      refine r_iast (pc := 90) dX5_minuteGoes_90 (fun g49 => ?_)
      refine r_iinc (j := 3) (v := (x3 + (1 : Int32))) (pc := 91) dX5_minuteGoes_91 rfl rfl (Nat.le_of_ble_eq_true rfl) rfl ?_
      refine r_goto (tgt := 66) (pc := 94) dX5_minuteGoes_94 (by decide) ?_
      refine AW_sub [1, 2, 3, 0] rfl ?_
      exact ih (x3 + (1 : Int32)) g49
theorem f_X5_minuteGoes_L14_w (γ : GP) (l : Launch) (hl : l.stackTraces = false) (G0 : AH) (x0 : Nat) : ∀ (n : Nat) (x1 : Int32) (x2 : Int32) (g : AH), AW ρV γ l ck_X5_minuteGoes G0 14 [(0, .ref x0), (1, .int x1), (2, .int x2)] [] g (f_X5_minuteGoes_L14 γ x0 n x1 x2 g) := by
  intro n
  induction n with
  | zero => intro x1 x2 g; exact AW_none
  | succ n ih =>
    intro x1 x2 g
    unfold f_X5_minuteGoes_L14
    refine r_iload_n (pc := 14) dX5_minuteGoes_14 rfl 2 rfl ?_
    refine r_aload_n (pc := 15) dX5_minuteGoes_15 rfl 0 rfl ?_
    refine r_getR (f := 30) (pc := 16) dX5_minuteGoes_16 q3378 (Or.inl rfl) rfl (fun v4 => ?_)
    refine r_iconst (v := (5 : Int32)) (pc := 19) dX5_minuteGoes_19 (by decide) ?_
    refine r_iald (pc := 20) dX5_minuteGoes_20 (fun v5 => ?_)
    refine r_icmp_ge (tgt := 106) (pc := 21) dX5_minuteGoes_21 (by decide) ?_ ?_
    · skip
      refine r_aload_n (pc := 106) dX5_minuteGoes_106 rfl 0 rfl ?_
      refine r_getR (f := 30) (pc := 107) dX5_minuteGoes_107 q3378 (Or.inl rfl) rfl (fun v6 => ?_)
      refine r_iconst (v := (5 : Int32)) (pc := 110) dX5_minuteGoes_110 (by decide) ?_
      refine r_iload_n (pc := 111) dX5_minuteGoes_111 rfl 1 rfl ?_
      refine r_iast (pc := 112) dX5_minuteGoes_112 (fun g7 => ?_)
      refine r_iconst (v := (0 : Int32)) (pc := 113) dX5_minuteGoes_113 (by decide) ?_
      refine r_istore_n (pc := 114) dX5_minuteGoes_114 rfl (Nat.le_of_ble_eq_true rfl) rfl ?_
      refine AW_sub [1, 0] rfl ?_
      refine f_X5_minuteGoes_L115_w γ l hl _ x0 FU (0 : Int32) g7
    · skip
      refine r_aload_n (pc := 24) dX5_minuteGoes_24 rfl 0 rfl ?_
      refine r_iload_n (pc := 25) dX5_minuteGoes_25 rfl 2 rfl ?_
      refine r_iconst (v := (3 : Int32)) (pc := 26) dX5_minuteGoes_26 (by decide) ?_
      refine r_cI (pc := 27) (rest := []) (RunOK_chk (fun h => run_V (n := 2) (c9 := 8) (As := [.int x2, .int (3 : Int32)]) (rest := []) (t_X5_message γ l hl x0 x2 (3 : Int32) g) dX5_minuteGoes_27 q3668 q3670 qs91 q121 q3671 (by decide +kernel) rfl h ⟨rfl, by decide, by decide⟩ (Nat.le_of_ble_eq_true rfl) (Nat.le_of_ble_eq_true rfl) rfl (Nat.le_of_ble_eq_true rfl))) (fun v36 g35 => ?_)
      refine r_aload_n (pc := 30) dX5_minuteGoes_30 rfl 0 rfl ?_
      refine r_getR (f := 30) (pc := 31) dX5_minuteGoes_31 q3378 (Or.inl rfl) rfl (fun v37 => ?_)
      refine r_iconst (v := (0 : Int32)) (pc := 34) dX5_minuteGoes_34 (by decide) ?_
      refine r_iald (pc := 35) dX5_minuteGoes_35 (fun v38 => ?_)
      refine r_icmp_ne (tgt := 64) (pc := 36) dX5_minuteGoes_36 (by decide) ?_ ?_
      · skip
        refine r_aload_n (pc := 39) dX5_minuteGoes_39 rfl 0 rfl ?_
        refine r_aload_n (pc := 40) dX5_minuteGoes_40 rfl 0 rfl ?_
        refine r_iload_n (pc := 41) dX5_minuteGoes_41 rfl 2 rfl ?_
        refine r_iconst (v := (0 : Int32)) (pc := 42) dX5_minuteGoes_42 (by decide) ?_
        refine r_cI (pc := 43) (rest := [.ref x0]) (RunOK_chk (fun h => run_V (n := 2) (c9 := 8) (As := [.int x2, .int (0 : Int32)]) (rest := [.ref x0]) (t_X5_message γ l hl x0 x2 (0 : Int32) g35) dX5_minuteGoes_43 q3668 q3670 qs91 q121 q3671 (by decide +kernel) rfl h ⟨rfl, by decide, by decide⟩ (Nat.le_of_ble_eq_true rfl) (Nat.le_of_ble_eq_true rfl) rfl (Nat.le_of_ble_eq_true rfl))) (fun v40 g39 => ?_)
        refine r_aload_n (pc := 46) dX5_minuteGoes_46 rfl 0 rfl ?_
        refine r_iload_n (pc := 47) dX5_minuteGoes_47 rfl 2 rfl ?_
        refine r_iconst (v := (1 : Int32)) (pc := 48) dX5_minuteGoes_48 (by decide) ?_
        refine r_cI (pc := 49) (rest := [.int v40, .ref x0]) (RunOK_chk (fun h => run_V (n := 2) (c9 := 8) (As := [.int x2, .int (1 : Int32)]) (rest := [.int v40, .ref x0]) (t_X5_message γ l hl x0 x2 (1 : Int32) g39) dX5_minuteGoes_49 q3668 q3670 qs91 q121 q3671 (by decide +kernel) rfl h ⟨rfl, by decide, by decide⟩ (Nat.le_of_ble_eq_true rfl) (Nat.le_of_ble_eq_true rfl) rfl (Nat.le_of_ble_eq_true rfl))) (fun v42 g41 => ?_)
        refine r_aload_n (pc := 52) dX5_minuteGoes_52 rfl 0 rfl ?_
        refine r_iload_n (pc := 53) dX5_minuteGoes_53 rfl 2 rfl ?_
        refine r_iconst (v := (2 : Int32)) (pc := 54) dX5_minuteGoes_54 (by decide) ?_
        refine r_cI (pc := 55) (rest := [.int v42, .int v40, .ref x0]) (RunOK_chk (fun h => run_V (n := 2) (c9 := 8) (As := [.int x2, .int (2 : Int32)]) (rest := [.int v42, .int v40, .ref x0]) (t_X5_message γ l hl x0 x2 (2 : Int32) g41) dX5_minuteGoes_55 q3668 q3670 qs91 q121 q3671 (by decide +kernel) rfl h ⟨rfl, by decide, by decide⟩ (Nat.le_of_ble_eq_true rfl) (Nat.le_of_ble_eq_true rfl) rfl (Nat.le_of_ble_eq_true rfl))) (fun v44 g43 => ?_)
        refine r_cV (pc := 58) (rest := []) (RunOK_chk (fun h => run_V (n := 3) (c9 := 8) (As := [.int v40, .int v42, .int v44]) (rest := []) (t_X5_arrives γ l hl x0 v40 v42 v44 g43) dX5_minuteGoes_58 q3672 q3674 qs92 q121 q3675 (by decide +kernel) rfl h ⟨rfl, by decide, by decide⟩ (Nat.le_of_ble_eq_true rfl) (Nat.le_of_ble_eq_true rfl) rfl (Nat.le_of_ble_eq_true rfl))) (fun g45 => ?_)
        refine r_goto (tgt := 100) (pc := 61) dX5_minuteGoes_61 (by decide) ?_
        refine r_iinc (j := 2) (v := (x2 + (1 : Int32))) (pc := 100) dX5_minuteGoes_100 rfl rfl (Nat.le_of_ble_eq_true rfl) rfl ?_
        refine r_goto (tgt := 14) (pc := 103) dX5_minuteGoes_103 (by decide) ?_
        refine AW_sub [1, 2, 0] rfl ?_
        exact ih x1 (x2 + (1 : Int32)) g45
      · skip
        refine r_iconst (v := (0 : Int32)) (pc := 64) dX5_minuteGoes_64 (by decide) ?_
        refine r_istore_n (pc := 65) dX5_minuteGoes_65 rfl (Nat.le_of_ble_eq_true rfl) rfl ?_
        refine AW_sub [1, 2, 3, 0] rfl ?_
        refine f_X5_minuteGoes_L66_w γ l hl _ x0 x1 x2 _ ?_ FU (0 : Int32) g35
        · intro g50
          refine r_iinc (j := 1) (v := (x1 + (1 : Int32))) (pc := 97) dX5_minuteGoes_97 rfl rfl (Nat.le_of_ble_eq_true rfl) rfl ?_
          refine r_iinc (j := 2) (v := (x2 + (1 : Int32))) (pc := 100) dX5_minuteGoes_100 rfl rfl (Nat.le_of_ble_eq_true rfl) rfl ?_
          refine r_goto (tgt := 14) (pc := 103) dX5_minuteGoes_103 (by decide) ?_
          refine AW_sub [2, 1, 0] rfl ?_
          exact ih (x1 + (1 : Int32)) (x2 + (1 : Int32)) g50
theorem t_X5_minuteGoes (γ : GP) (l : Launch) (hl : l.stackTraces = false) (x0 : Nat) (g : AH) : TrM ρV γ l ⟨"BanquetVotesModel", "minuteGoes", "()V"⟩ (ws_ ⟨"BanquetVotesModel", "minuteGoes", "()V"⟩ prog_25_method_39_code 5 none) 7 [.ref x0] g (f_X5_minuteGoes γ x0 g) := by
  refine TrM_of (plainFor_of_name (by decide)) (Nat.le_of_ble_eq_true rfl) ?_
  unfold f_X5_minuteGoes
  change AW ρV γ l ck_X5_minuteGoes g 0 [(0, .ref x0)] [] g _
  refine r_aload_n (pc := 0) dX5_minuteGoes_0 rfl 0 rfl ?_
  refine r_getR (f := 30) (pc := 1) dX5_minuteGoes_1 q3378 (Or.inl rfl) rfl (fun v1 => ?_)
  refine r_iconst (v := (0 : Int32)) (pc := 4) dX5_minuteGoes_4 (by decide) ?_
  refine r_dup2 (pc := 5) dX5_minuteGoes_5 rfl rfl ?_
  refine r_iald (pc := 6) dX5_minuteGoes_6 (fun v2 => ?_)
  refine r_iconst (v := (1 : Int32)) (pc := 7) dX5_minuteGoes_7 (by decide) ?_
  refine r_iadd (pc := 8) dX5_minuteGoes_8 ?_
  refine r_iast (pc := 9) dX5_minuteGoes_9 (fun g3 => ?_)
  refine r_iconst (v := (0 : Int32)) (pc := 10) dX5_minuteGoes_10 (by decide) ?_
  refine r_istore_n (pc := 11) dX5_minuteGoes_11 rfl (Nat.le_of_ble_eq_true rfl) rfl ?_
  refine r_iconst (v := (0 : Int32)) (pc := 12) dX5_minuteGoes_12 (by decide) ?_
  refine r_istore_n (pc := 13) dX5_minuteGoes_13 rfl (Nat.le_of_ble_eq_true rfl) rfl ?_
  refine AW_sub [2, 1, 0] rfl ?_
  refine f_X5_minuteGoes_L14_w γ l hl _ x0 FU (0 : Int32) (0 : Int32) g3
abbrev ck_X5_passes : CK := ("BanquetVotesModel", prog_25_method_63_code, 3, (some .int), "passes", [], 8)
def f_X5_passes_L19 (γ : GP) (x0 : Nat) (x1 : Int32) (K34 : AH → Option (Int32 × AH)) : Nat → Int32 → AH → Option (Int32 × AH)
  | 0, _, _ => none
  | n + 1, x2, g => (if x1 ≤ x2 then K34 g else bV ((if hK g x0 = 8 then f_X5_minuteGoes γ x0 g else none)) fun g4 => f_X5_passes_L19 γ x0 x1 K34 n (x2 + (1 : Int32)) g4)
def f_X5_passes (γ : GP) (x0 : Nat) (x1 : Int32) (g : AH) : Option (Int32 × AH) := bI (f_X5_in γ x1 (1 : Int32) (60 : Int32) g) fun v2 g1 => (if v2 = 0 then (some ((2 : Int32), g1)) else pI γ g1 x0 48 (0 : Int32) fun g3 => f_X5_passes_L19 γ x0 x1 (fun (g5 : AH) => gI g5 x0 48 fun v6 => bI ((if hK g5 x0 = 8 then f_X5_does γ x0 v6 g5 else none)) fun v8 g7 => (some (v8, g7))) FU (0 : Int32) g3)
theorem f_X5_passes_L19_w (γ : GP) (l : Launch) (hl : l.stackTraces = false) (G0 : AH) (x0 : Nat) (x1 : Int32) (K34 : AH → Option (Int32 × AH)) (h_K34 : ∀ (g : AH), AW ρI γ l ck_X5_passes G0 34 [(0, .ref x0)] [] g (K34 g)) : ∀ (n : Nat) (x2 : Int32) (g : AH), AW ρI γ l ck_X5_passes G0 19 [(0, .ref x0), (1, .int x1), (2, .int x2)] [] g (f_X5_passes_L19 γ x0 x1 K34 n x2 g) := by
  intro n
  induction n with
  | zero => intro x2 g; exact AW_none
  | succ n ih =>
    intro x2 g
    unfold f_X5_passes_L19
    refine r_iload_n (pc := 19) dX5_passes_19 rfl 2 rfl ?_
    refine r_iload_n (pc := 20) dX5_passes_20 rfl 1 rfl ?_
    refine r_icmp_ge (tgt := 34) (pc := 21) dX5_passes_21 (by decide) ?_ ?_
    · skip
      refine AW_sub [0] rfl ?_
      exact h_K34 g
    · skip
      refine r_aload_n (pc := 24) dX5_passes_24 rfl 0 rfl ?_
      refine r_cV (pc := 25) (rest := []) (RunOK_chk (fun h => run_V (n := 0) (c9 := 8) (As := []) (rest := []) (t_X5_minuteGoes γ l hl x0 g) dX5_passes_25 q3664 q3666 qs90 q121 q3667 (by decide +kernel) rfl h ⟨rfl, by decide, by decide⟩ (Nat.le_of_ble_eq_true rfl) (Nat.le_of_ble_eq_true rfl) rfl (Nat.le_of_ble_eq_true rfl))) (fun g4 => ?_)
      refine r_iinc (j := 2) (v := (x2 + (1 : Int32))) (pc := 28) dX5_passes_28 rfl rfl (Nat.le_of_ble_eq_true rfl) rfl ?_
      refine r_goto (tgt := 19) (pc := 31) dX5_passes_31 (by decide) ?_
      refine AW_sub [1, 2, 0] rfl ?_
      exact ih (x2 + (1 : Int32)) g4
theorem t_X5_passes (γ : GP) (l : Launch) (hl : l.stackTraces = false) (x0 : Nat) (x1 : Int32) (g : AH) : TrM ρI γ l ⟨"BanquetVotesModel", "passes", "(I)I"⟩ (ws_ ⟨"BanquetVotesModel", "passes", "(I)I"⟩ prog_25_method_63_code 3 (some .int)) 8 [.ref x0, .int x1] g (f_X5_passes γ x0 x1 g) := by
  refine TrM_of (plainFor_of_name (by decide)) (Nat.le_of_ble_eq_true rfl) ?_
  unfold f_X5_passes
  change AW ρI γ l ck_X5_passes g 0 [(0, .ref x0), (1, .int x1)] [] g _
  refine r_iload_n (pc := 0) dX5_passes_0 rfl 1 rfl ?_
  refine r_iconst (v := (1 : Int32)) (pc := 1) dX5_passes_1 (by decide) ?_
  refine r_bipush (v := (60 : Int32)) (pc := 2) dX5_passes_2 (by decide) ?_
  refine r_cI (pc := 4) (rest := []) (run_S (n := 3) (As := [.int x1, .int (1 : Int32), .int (60 : Int32)]) (rest := []) (t_X5_in γ l hl x1 (1 : Int32) (60 : Int32) g) dX5_passes_4 q3455 q3456 q121 q3457 (by decide +kernel) rfl (Nat.le_of_ble_eq_true rfl) (Nat.le_of_ble_eq_true rfl) rfl (Nat.le_of_ble_eq_true rfl)) (fun v2 g1 => ?_)
  refine r_if_ne (tgt := 12) (pc := 7) dX5_passes_7 (by decide) ?_ ?_
  · skip
    refine r_iconst (v := (2 : Int32)) (pc := 10) dX5_passes_10 (by decide) ?_
    exact r_iret (pc := 11) dX5_passes_11 rfl
  · skip
    refine r_aload_n (pc := 12) dX5_passes_12 rfl 0 rfl ?_
    refine r_iconst (v := (0 : Int32)) (pc := 13) dX5_passes_13 (by decide) ?_
    refine r_putI (f := 48) (pc := 14) dX5_passes_14 q3396 (Or.inl rfl) (Or.inl rfl) rfl (fun g3 => ?_)
    refine r_iconst (v := (0 : Int32)) (pc := 17) dX5_passes_17 (by decide) ?_
    refine r_istore_n (pc := 18) dX5_passes_18 rfl (Nat.le_of_ble_eq_true rfl) rfl ?_
    refine AW_sub [1, 2, 0] rfl ?_
    refine f_X5_passes_L19_w γ l hl _ x0 x1 _ ?_ FU (0 : Int32) g3
    · intro g5
      refine r_aload_n (pc := 34) dX5_passes_34 rfl 0 rfl ?_
      refine r_aload_n (pc := 35) dX5_passes_35 rfl 0 rfl ?_
      refine r_getI (f := 48) (pc := 36) dX5_passes_36 q3396 (Or.inl rfl) rfl (fun v6 => ?_)
      refine r_cI (pc := 39) (rest := []) (RunOK_chk (fun h => run_V (n := 1) (c9 := 8) (As := [.int v6]) (rest := []) (t_X5_does γ l hl x0 v6 g5) dX5_passes_39 q3588 q3590 qs76 q121 q3591 (by decide +kernel) rfl h ⟨rfl, by decide, by decide⟩ (Nat.le_of_ble_eq_true rfl) (Nat.le_of_ble_eq_true rfl) rfl (Nat.le_of_ble_eq_true rfl))) (fun v8 g7 => ?_)
      exact r_iret (pc := 42) dX5_passes_42 rfl
abbrev ck_X5_pass : CK := ("BanquetVotesModel", prog_25_method_64_code, 2, (some .int), "pass", [], 9)
def f_X5_pass (γ : GP) (x0 : Nat) (x1 : Int32) (g : AH) : Option (Int32 × AH) := bV ((if hK g x0 = 8 then f_X5_tries γ x0 g else none)) fun g1 => bI ((if hK g1 x0 = 8 then f_X5_passes γ x0 x1 g1 else none)) fun v3 g2 => (if v3 = 0 then gI g2 x0 47 fun v4 => bI ((if hK g2 x0 = 8 then f_X5_keeps γ x0 v4 g2 else none)) fun v6 g5 => (some (v6, g5)) else bI ((if hK g2 x0 = 8 then f_X5_raises γ x0 (1 : Int32) g2 else none)) fun v8 g7 => (some (v8, g7)))
theorem t_X5_pass (γ : GP) (l : Launch) (hl : l.stackTraces = false) (x0 : Nat) (x1 : Int32) (g : AH) : TrM ρI γ l ⟨"BanquetVotesModel", "pass", "(I)I"⟩ (ws_ ⟨"BanquetVotesModel", "pass", "(I)I"⟩ prog_25_method_64_code 2 (some .int)) 9 [.ref x0, .int x1] g (f_X5_pass γ x0 x1 g) := by
  refine TrM_of (plainFor_of_name (by decide)) (Nat.le_of_ble_eq_true rfl) ?_
  unfold f_X5_pass
  change AW ρI γ l ck_X5_pass g 0 [(0, .ref x0), (1, .int x1)] [] g _
  refine r_aload_n (pc := 0) dX5_pass_0 rfl 0 rfl ?_
  refine r_cV (pc := 1) (rest := []) (RunOK_chk (fun h => run_V (n := 0) (c9 := 8) (As := []) (rest := []) (t_X5_tries γ l hl x0 g) dX5_pass_1 q3451 q3453 qs52 q121 q3454 (by decide +kernel) rfl h ⟨rfl, by decide, by decide⟩ (Nat.le_of_ble_eq_true rfl) (Nat.le_of_ble_eq_true rfl) rfl (Nat.le_of_ble_eq_true rfl))) (fun g1 => ?_)
  refine r_aload_n (pc := 4) dX5_pass_4 rfl 0 rfl ?_
  refine r_iload_n (pc := 5) dX5_pass_5 rfl 1 rfl ?_
  refine r_cI (pc := 6) (rest := []) (RunOK_chk (fun h => run_V (n := 1) (c9 := 8) (As := [.int x1]) (rest := []) (t_X5_passes γ l hl x0 x1 g1) dX5_pass_6 q3660 q3662 qs89 q121 q3663 (by decide +kernel) rfl h ⟨rfl, by decide, by decide⟩ (Nat.le_of_ble_eq_true rfl) (Nat.le_of_ble_eq_true rfl) rfl (Nat.le_of_ble_eq_true rfl))) (fun v3 g2 => ?_)
  refine r_if_ne (tgt := 23) (pc := 9) dX5_pass_9 (by decide) ?_ ?_
  · skip
    refine r_aload_n (pc := 12) dX5_pass_12 rfl 0 rfl ?_
    refine r_aload_n (pc := 13) dX5_pass_13 rfl 0 rfl ?_
    refine r_getI (f := 47) (pc := 14) dX5_pass_14 q3395 (Or.inl rfl) rfl (fun v4 => ?_)
    refine r_cI (pc := 17) (rest := []) (RunOK_chk (fun h => run_V (n := 1) (c9 := 8) (As := [.int v4]) (rest := []) (t_X5_keeps γ l hl x0 v4 g2) dX5_pass_17 q3470 q3472 qs56 q121 q3473 (by decide +kernel) rfl h ⟨rfl, by decide, by decide⟩ (Nat.le_of_ble_eq_true rfl) (Nat.le_of_ble_eq_true rfl) rfl (Nat.le_of_ble_eq_true rfl))) (fun v6 g5 => ?_)
    refine r_goto (tgt := 28) (pc := 20) dX5_pass_20 (by decide) ?_
    exact r_iret (pc := 28) dX5_pass_28 rfl
  · skip
    refine r_aload_n (pc := 23) dX5_pass_23 rfl 0 rfl ?_
    refine r_iconst (v := (1 : Int32)) (pc := 24) dX5_pass_24 (by decide) ?_
    refine r_cI (pc := 25) (rest := []) (RunOK_chk (fun h => run_V (n := 1) (c9 := 8) (As := [.int (1 : Int32)]) (rest := []) (t_X5_raises γ l hl x0 (1 : Int32) g2) dX5_pass_25 q3458 q3460 qs53 q121 q3461 (by decide +kernel) rfl h ⟨rfl, by decide, by decide⟩ (Nat.le_of_ble_eq_true rfl) (Nat.le_of_ble_eq_true rfl) rfl (Nat.le_of_ble_eq_true rfl))) (fun v8 g7 => ?_)
    exact r_iret (pc := 28) dX5_pass_28 rfl
abbrev ck_X5_thinks : CK := ("BanquetVotesModel", prog_25_method_8_code, 2, none, "thinks", [], 1)
def f_X5_thinks_L2 (γ : GP) (x0 : Nat) : Nat → Int32 → AH → Option (AH)
  | 0, _, _ => none
  | n + 1, x1, g => (if (5457 : Int32) ≤ x1 then (some g) else gR g x0 32 fun v1 => gR g x0 30 fun v2 => gA g 101 v2 x1 fun v3 => pA γ g 101 v1 x1 v3 fun g4 => f_X5_thinks_L2 γ x0 n (x1 + (1 : Int32)) g4)
def f_X5_thinks (γ : GP) (x0 : Nat) (g : AH) : Option (AH) := f_X5_thinks_L2 γ x0 FU (0 : Int32) g
theorem f_X5_thinks_L2_w (γ : GP) (l : Launch) (hl : l.stackTraces = false) (G0 : AH) (x0 : Nat) : ∀ (n : Nat) (x1 : Int32) (g : AH), AW ρV γ l ck_X5_thinks G0 2 [(0, .ref x0), (1, .int x1)] [] g (f_X5_thinks_L2 γ x0 n x1 g) := by
  intro n
  induction n with
  | zero => intro x1 g; exact AW_none
  | succ n ih =>
    intro x1 g
    unfold f_X5_thinks_L2
    refine r_iload_n (pc := 2) dX5_thinks_2 rfl 1 rfl ?_
    refine r_sipush (v := (5457 : Int32)) (pc := 3) dX5_thinks_3 (by decide) ?_
    refine r_icmp_ge (tgt := 27) (pc := 6) dX5_thinks_6 (by decide) ?_ ?_
    · skip
      exact r_vret (pc := 27) dX5_thinks_27 rfl
    · skip
      refine r_aload_n (pc := 9) dX5_thinks_9 rfl 0 rfl ?_
      refine r_getR (f := 32) (pc := 10) dX5_thinks_10 q3380 (Or.inl rfl) rfl (fun v1 => ?_)
      refine r_iload_n (pc := 13) dX5_thinks_13 rfl 1 rfl ?_
      refine r_aload_n (pc := 14) dX5_thinks_14 rfl 0 rfl ?_
      refine r_getR (f := 30) (pc := 15) dX5_thinks_15 q3378 (Or.inl rfl) rfl (fun v2 => ?_)
      refine r_iload_n (pc := 18) dX5_thinks_18 rfl 1 rfl ?_
      refine r_iald (pc := 19) dX5_thinks_19 (fun v3 => ?_)
      refine r_iast (pc := 20) dX5_thinks_20 (fun g4 => ?_)
      refine r_iinc (j := 1) (v := (x1 + (1 : Int32))) (pc := 21) dX5_thinks_21 rfl rfl (Nat.le_of_ble_eq_true rfl) rfl ?_
      refine r_goto (tgt := 2) (pc := 24) dX5_thinks_24 (by decide) ?_
      refine AW_sub [1, 0] rfl ?_
      exact ih (x1 + (1 : Int32)) g4
theorem t_X5_thinks (γ : GP) (l : Launch) (hl : l.stackTraces = false) (x0 : Nat) (g : AH) : TrM ρV γ l ⟨"BanquetVotesModel", "thinks", "()V"⟩ (ws_ ⟨"BanquetVotesModel", "thinks", "()V"⟩ prog_25_method_8_code 2 none) 1 [.ref x0] g (f_X5_thinks γ x0 g) := by
  refine TrM_of (plainFor_of_name (by decide)) (Nat.le_of_ble_eq_true rfl) ?_
  unfold f_X5_thinks
  change AW ρV γ l ck_X5_thinks g 0 [(0, .ref x0)] [] g _
  refine r_iconst (v := (0 : Int32)) (pc := 0) dX5_thinks_0 (by decide) ?_
  refine r_istore_n (pc := 1) dX5_thinks_1 rfl (Nat.le_of_ble_eq_true rfl) rfl ?_
  refine AW_sub [1, 0] rfl ?_
  refine f_X5_thinks_L2_w γ l hl _ x0 FU (0 : Int32) g
abbrev ck_X5_thinksNoMore : CK := ("BanquetVotesModel", prog_25_method_9_code, 2, none, "thinksNoMore", [], 1)
def f_X5_thinksNoMore_L2 (γ : GP) (x0 : Nat) : Nat → Int32 → AH → Option (AH)
  | 0, _, _ => none
  | n + 1, x1, g => (if (5457 : Int32) ≤ x1 then (some g) else gR g x0 30 fun v1 => gR g x0 32 fun v2 => gA g 101 v2 x1 fun v3 => pA γ g 101 v1 x1 v3 fun g4 => f_X5_thinksNoMore_L2 γ x0 n (x1 + (1 : Int32)) g4)
def f_X5_thinksNoMore (γ : GP) (x0 : Nat) (g : AH) : Option (AH) := f_X5_thinksNoMore_L2 γ x0 FU (0 : Int32) g
theorem f_X5_thinksNoMore_L2_w (γ : GP) (l : Launch) (hl : l.stackTraces = false) (G0 : AH) (x0 : Nat) : ∀ (n : Nat) (x1 : Int32) (g : AH), AW ρV γ l ck_X5_thinksNoMore G0 2 [(0, .ref x0), (1, .int x1)] [] g (f_X5_thinksNoMore_L2 γ x0 n x1 g) := by
  intro n
  induction n with
  | zero => intro x1 g; exact AW_none
  | succ n ih =>
    intro x1 g
    unfold f_X5_thinksNoMore_L2
    refine r_iload_n (pc := 2) dX5_thinksNoMore_2 rfl 1 rfl ?_
    refine r_sipush (v := (5457 : Int32)) (pc := 3) dX5_thinksNoMore_3 (by decide) ?_
    refine r_icmp_ge (tgt := 27) (pc := 6) dX5_thinksNoMore_6 (by decide) ?_ ?_
    · skip
      exact r_vret (pc := 27) dX5_thinksNoMore_27 rfl
    · skip
      refine r_aload_n (pc := 9) dX5_thinksNoMore_9 rfl 0 rfl ?_
      refine r_getR (f := 30) (pc := 10) dX5_thinksNoMore_10 q3378 (Or.inl rfl) rfl (fun v1 => ?_)
      refine r_iload_n (pc := 13) dX5_thinksNoMore_13 rfl 1 rfl ?_
      refine r_aload_n (pc := 14) dX5_thinksNoMore_14 rfl 0 rfl ?_
      refine r_getR (f := 32) (pc := 15) dX5_thinksNoMore_15 q3380 (Or.inl rfl) rfl (fun v2 => ?_)
      refine r_iload_n (pc := 18) dX5_thinksNoMore_18 rfl 1 rfl ?_
      refine r_iald (pc := 19) dX5_thinksNoMore_19 (fun v3 => ?_)
      refine r_iast (pc := 20) dX5_thinksNoMore_20 (fun g4 => ?_)
      refine r_iinc (j := 1) (v := (x1 + (1 : Int32))) (pc := 21) dX5_thinksNoMore_21 rfl rfl (Nat.le_of_ble_eq_true rfl) rfl ?_
      refine r_goto (tgt := 2) (pc := 24) dX5_thinksNoMore_24 (by decide) ?_
      refine AW_sub [1, 0] rfl ?_
      exact ih (x1 + (1 : Int32)) g4
theorem t_X5_thinksNoMore (γ : GP) (l : Launch) (hl : l.stackTraces = false) (x0 : Nat) (g : AH) : TrM ρV γ l ⟨"BanquetVotesModel", "thinksNoMore", "()V"⟩ (ws_ ⟨"BanquetVotesModel", "thinksNoMore", "()V"⟩ prog_25_method_9_code 2 none) 1 [.ref x0] g (f_X5_thinksNoMore γ x0 g) := by
  refine TrM_of (plainFor_of_name (by decide)) (Nat.le_of_ble_eq_true rfl) ?_
  unfold f_X5_thinksNoMore
  change AW ρV γ l ck_X5_thinksNoMore g 0 [(0, .ref x0)] [] g _
  refine r_iconst (v := (0 : Int32)) (pc := 0) dX5_thinksNoMore_0 (by decide) ?_
  refine r_istore_n (pc := 1) dX5_thinksNoMore_1 rfl (Nat.le_of_ble_eq_true rfl) rfl ?_
  refine AW_sub [1, 0] rfl ?_
  refine f_X5_thinksNoMore_L2_w γ l hl _ x0 FU (0 : Int32) g
abbrev ck_X5_courseIn : CK := ("BanquetVotesModel", prog_25_method_65_code, 4, (some .int), "courseIn", [], 8)
def f_X5_courseIn_L41 (γ : GP) (x0 : Nat) (x1 : Int32) (x2 : Int32) (K56 : AH → Option (Int32 × AH)) : Nat → Int32 → AH → Option (Int32 × AH)
  | 0, _, _ => none
  | n + 1, x3, g => (if x2 ≤ x3 then K56 g else bV ((if hK g x0 = 8 then f_X5_minuteGoes γ x0 g else none)) fun g11 => f_X5_courseIn_L41 γ x0 x1 x2 K56 n (x3 + (1 : Int32)) g11)
def f_X5_courseIn (γ : GP) (x0 : Nat) (x1 : Int32) (x2 : Int32) (g : AH) : Option (Int32 × AH) := pI γ g x0 50 (0 : Int32) fun g1 => bI ((if hK g1 x0 = 8 then f_X5_isCourse γ x0 x1 g1 else none)) fun v3 g2 => (if v3 = 0 then bI ((if hK g2 x0 = 8 then f_X5_raises γ x0 (1 : Int32) g2 else none)) fun v5 g4 => (some (v5, g4)) else bI (f_X5_in γ x2 (0 : Int32) (60 : Int32) g2) fun v7 g6 => (if v7 = 0 then bI ((if hK g6 x0 = 8 then f_X5_raises γ x0 (2 : Int32) g6 else none)) fun v9 g8 => (some (v9, g8)) else bV ((if hK g6 x0 = 8 then f_X5_thinks γ x0 g6 else none)) fun g10 => f_X5_courseIn_L41 γ x0 x1 x2 (fun (g12 : AH) => bI ((if hK g12 x0 = 8 then f_X5_how γ x0 x1 g12 else none)) fun v14 g13 => bV ((if hK g13 x0 = 8 then f_X5_thinksNoMore γ x0 g13 else none)) fun g15 => (some (v14, g15))) FU (0 : Int32) g10))
theorem f_X5_courseIn_L41_w (γ : GP) (l : Launch) (hl : l.stackTraces = false) (G0 : AH) (x0 : Nat) (x1 : Int32) (x2 : Int32) (K56 : AH → Option (Int32 × AH)) (h_K56 : ∀ (g : AH), AW ρI γ l ck_X5_courseIn G0 56 [(0, .ref x0), (1, .int x1)] [] g (K56 g)) : ∀ (n : Nat) (x3 : Int32) (g : AH), AW ρI γ l ck_X5_courseIn G0 41 [(0, .ref x0), (1, .int x1), (2, .int x2), (3, .int x3)] [] g (f_X5_courseIn_L41 γ x0 x1 x2 K56 n x3 g) := by
  intro n
  induction n with
  | zero => intro x3 g; exact AW_none
  | succ n ih =>
    intro x3 g
    unfold f_X5_courseIn_L41
    refine r_iload_n (pc := 41) dX5_courseIn_41 rfl 3 rfl ?_
    refine r_iload_n (pc := 42) dX5_courseIn_42 rfl 2 rfl ?_
    refine r_icmp_ge (tgt := 56) (pc := 43) dX5_courseIn_43 (by decide) ?_ ?_
    · skip
      refine AW_sub [0, 1] rfl ?_
      exact h_K56 g
    · skip
      refine r_aload_n (pc := 46) dX5_courseIn_46 rfl 0 rfl ?_
      refine r_cV (pc := 47) (rest := []) (RunOK_chk (fun h => run_V (n := 0) (c9 := 8) (As := []) (rest := []) (t_X5_minuteGoes γ l hl x0 g) dX5_courseIn_47 q3664 q3666 qs90 q121 q3667 (by decide +kernel) rfl h ⟨rfl, by decide, by decide⟩ (Nat.le_of_ble_eq_true rfl) (Nat.le_of_ble_eq_true rfl) rfl (Nat.le_of_ble_eq_true rfl))) (fun g11 => ?_)
      refine r_iinc (j := 3) (v := (x3 + (1 : Int32))) (pc := 50) dX5_courseIn_50 rfl rfl (Nat.le_of_ble_eq_true rfl) rfl ?_
      refine r_goto (tgt := 41) (pc := 53) dX5_courseIn_53 (by decide) ?_
      refine AW_sub [1, 2, 3, 0] rfl ?_
      exact ih (x3 + (1 : Int32)) g11
theorem t_X5_courseIn (γ : GP) (l : Launch) (hl : l.stackTraces = false) (x0 : Nat) (x1 : Int32) (x2 : Int32) (g : AH) : TrM ρI γ l ⟨"BanquetVotesModel", "courseIn", "(II)I"⟩ (ws_ ⟨"BanquetVotesModel", "courseIn", "(II)I"⟩ prog_25_method_65_code 4 (some .int)) 8 [.ref x0, .int x1, .int x2] g (f_X5_courseIn γ x0 x1 x2 g) := by
  refine TrM_of (plainFor_of_name (by decide)) (Nat.le_of_ble_eq_true rfl) ?_
  unfold f_X5_courseIn
  change AW ρI γ l ck_X5_courseIn g 0 [(0, .ref x0), (1, .int x1), (2, .int x2)] [] g _
  refine r_aload_n (pc := 0) dX5_courseIn_0 rfl 0 rfl ?_
  refine r_iconst (v := (0 : Int32)) (pc := 1) dX5_courseIn_1 (by decide) ?_
  refine r_putI (f := 50) (pc := 2) dX5_courseIn_2 q3398 (Or.inl rfl) (Or.inl rfl) rfl (fun g1 => ?_)
  refine r_aload_n (pc := 5) dX5_courseIn_5 rfl 0 rfl ?_
  refine r_iload_n (pc := 6) dX5_courseIn_6 rfl 1 rfl ?_
  refine r_cI (pc := 7) (rest := []) (RunOK_chk (fun h => run_V (n := 1) (c9 := 8) (As := [.int x1]) (rest := []) (t_X5_isCourse γ l hl x0 x1 g1) dX5_courseIn_7 q3527 q3529 qs66 q121 q3530 (by decide +kernel) rfl h ⟨rfl, by decide, by decide⟩ (Nat.le_of_ble_eq_true rfl) (Nat.le_of_ble_eq_true rfl) rfl (Nat.le_of_ble_eq_true rfl))) (fun v3 g2 => ?_)
  refine r_if_ne (tgt := 19) (pc := 10) dX5_courseIn_10 (by decide) ?_ ?_
  · skip
    refine r_aload_n (pc := 13) dX5_courseIn_13 rfl 0 rfl ?_
    refine r_iconst (v := (1 : Int32)) (pc := 14) dX5_courseIn_14 (by decide) ?_
    refine r_cI (pc := 15) (rest := []) (RunOK_chk (fun h => run_V (n := 1) (c9 := 8) (As := [.int (1 : Int32)]) (rest := []) (t_X5_raises γ l hl x0 (1 : Int32) g2) dX5_courseIn_15 q3458 q3460 qs53 q121 q3461 (by decide +kernel) rfl h ⟨rfl, by decide, by decide⟩ (Nat.le_of_ble_eq_true rfl) (Nat.le_of_ble_eq_true rfl) rfl (Nat.le_of_ble_eq_true rfl))) (fun v5 g4 => ?_)
    exact r_iret (pc := 18) dX5_courseIn_18 rfl
  · skip
    refine r_iload_n (pc := 19) dX5_courseIn_19 rfl 2 rfl ?_
    refine r_iconst (v := (0 : Int32)) (pc := 20) dX5_courseIn_20 (by decide) ?_
    refine r_bipush (v := (60 : Int32)) (pc := 21) dX5_courseIn_21 (by decide) ?_
    refine r_cI (pc := 23) (rest := []) (run_S (n := 3) (As := [.int x2, .int (0 : Int32), .int (60 : Int32)]) (rest := []) (t_X5_in γ l hl x2 (0 : Int32) (60 : Int32) g2) dX5_courseIn_23 q3455 q3456 q121 q3457 (by decide +kernel) rfl (Nat.le_of_ble_eq_true rfl) (Nat.le_of_ble_eq_true rfl) rfl (Nat.le_of_ble_eq_true rfl)) (fun v7 g6 => ?_)
    refine r_if_ne (tgt := 35) (pc := 26) dX5_courseIn_26 (by decide) ?_ ?_
    · skip
      refine r_aload_n (pc := 29) dX5_courseIn_29 rfl 0 rfl ?_
      refine r_iconst (v := (2 : Int32)) (pc := 30) dX5_courseIn_30 (by decide) ?_
      refine r_cI (pc := 31) (rest := []) (RunOK_chk (fun h => run_V (n := 1) (c9 := 8) (As := [.int (2 : Int32)]) (rest := []) (t_X5_raises γ l hl x0 (2 : Int32) g6) dX5_courseIn_31 q3458 q3460 qs53 q121 q3461 (by decide +kernel) rfl h ⟨rfl, by decide, by decide⟩ (Nat.le_of_ble_eq_true rfl) (Nat.le_of_ble_eq_true rfl) rfl (Nat.le_of_ble_eq_true rfl))) (fun v9 g8 => ?_)
      exact r_iret (pc := 34) dX5_courseIn_34 rfl
    · skip
      refine r_aload_n (pc := 35) dX5_courseIn_35 rfl 0 rfl ?_
      refine r_cV (pc := 36) (rest := []) (RunOK_chk (fun h => run_V (n := 0) (c9 := 8) (As := []) (rest := []) (t_X5_thinks γ l hl x0 g6) dX5_courseIn_36 q3684 q3686 qs94 q121 q3687 (by decide +kernel) rfl h ⟨rfl, by decide, by decide⟩ (Nat.le_of_ble_eq_true rfl) (Nat.le_of_ble_eq_true rfl) rfl (Nat.le_of_ble_eq_true rfl))) (fun g10 => ?_)
      refine r_iconst (v := (0 : Int32)) (pc := 39) dX5_courseIn_39 (by decide) ?_
      refine r_istore_n (pc := 40) dX5_courseIn_40 rfl (Nat.le_of_ble_eq_true rfl) rfl ?_
      refine AW_sub [1, 2, 3, 0] rfl ?_
      refine f_X5_courseIn_L41_w γ l hl _ x0 x1 x2 _ ?_ FU (0 : Int32) g10
      · intro g12
        refine r_aload_n (pc := 56) dX5_courseIn_56 rfl 0 rfl ?_
        refine r_iload_n (pc := 57) dX5_courseIn_57 rfl 1 rfl ?_
        refine r_cI (pc := 58) (rest := []) (RunOK_chk (fun h => run_V (n := 1) (c9 := 8) (As := [.int x1]) (rest := []) (t_X5_how γ l hl x0 x1 g12) dX5_courseIn_58 q3531 q3533 qs67 q121 q3534 (by decide +kernel) rfl h ⟨rfl, by decide, by decide⟩ (Nat.le_of_ble_eq_true rfl) (Nat.le_of_ble_eq_true rfl) rfl (Nat.le_of_ble_eq_true rfl))) (fun v14 g13 => ?_)
        refine r_istore_n (pc := 61) dX5_courseIn_61 rfl (Nat.le_of_ble_eq_true rfl) rfl ?_
        refine r_aload_n (pc := 62) dX5_courseIn_62 rfl 1 rfl ?_
        refine r_cV (pc := 63) (rest := []) (RunOK_chk (fun h => run_V (n := 0) (c9 := 8) (As := []) (rest := []) (t_X5_thinksNoMore γ l hl x0 g13) dX5_courseIn_63 q3688 q3690 qs95 q121 q3691 (by decide +kernel) rfl h ⟨rfl, by decide, by decide⟩ (Nat.le_of_ble_eq_true rfl) (Nat.le_of_ble_eq_true rfl) rfl (Nat.le_of_ble_eq_true rfl))) (fun g15 => ?_)
        refine r_iload_n (pc := 66) dX5_courseIn_66 rfl 0 rfl ?_
        exact r_iret (pc := 67) dX5_courseIn_67 rfl
abbrev ck_X5_clearIn : CK := ("BanquetVotesModel", prog_25_method_66_code, 4, (some .int), "clearIn", [], 8)
def f_X5_clearIn_L25 (γ : GP) (x0 : Nat) (x1 : Int32) (K51 : Int32 → AH → Option (Int32 × AH)) : Nat → Int32 → AH → Option (Int32 × AH)
  | 0, _, _ => none
  | n + 1, x2, g => (if (60 : Int32) ≤ x2 then K51 x2 g else bI ((if hK g x0 = 8 then f_X5_dishesThat γ x0 x1 (1 : Int32) (1 : Int32) g else none)) fun v8 g7 => (if v8 ≤ 0 then K51 x2 g7 else bV ((if hK g7 x0 = 8 then f_X5_minuteGoes γ x0 g7 else none)) fun g9 => f_X5_clearIn_L25 γ x0 x1 K51 n (x2 + (1 : Int32)) g9))
def f_X5_clearIn (γ : GP) (x0 : Nat) (x1 : Int32) (g : AH) : Option (Int32 × AH) := pI γ g x0 50 (0 : Int32) fun g1 => bI ((if hK g1 x0 = 8 then f_X5_isCourse γ x0 x1 g1 else none)) fun v3 g2 => (if v3 = 0 then bI ((if hK g2 x0 = 8 then f_X5_raises γ x0 (1 : Int32) g2 else none)) fun v5 g4 => (some (v5, g4)) else bV ((if hK g2 x0 = 8 then f_X5_thinks γ x0 g2 else none)) fun g6 => f_X5_clearIn_L25 γ x0 x1 (fun (y10 : Int32) (g11 : AH) => bI ((if hK g11 x0 = 8 then f_X5_dishesThat γ x0 x1 (1 : Int32) (1 : Int32) g11 else none)) fun v13 g12 => jn (fun (z14 : Int32) (g15 : AH) => bV ((if hK g15 x0 = 8 then f_X5_thinksNoMore γ x0 g15 else none)) fun g17 => (if z14 = 0 then bI ((if hK g17 x0 = 8 then f_X5_raises γ x0 (2 : Int32) g17 else none)) fun v19 g18 => (some (v19, g18)) else (some (y10, g17)))) (fun (j16 : Int32 → AH → Option (Int32 × AH)) => (if v13 = 0 then j16 (1 : Int32) g12 else j16 (0 : Int32) g12))) FU (0 : Int32) g6)
theorem f_X5_clearIn_L25_w (γ : GP) (l : Launch) (hl : l.stackTraces = false) (G0 : AH) (x0 : Nat) (x1 : Int32) (K51 : Int32 → AH → Option (Int32 × AH)) (h_K51 : ∀ (y2 : Int32) (g : AH), AW ρI γ l ck_X5_clearIn G0 51 [(0, .ref x0), (1, .int x1), (2, .int y2)] [] g (K51 y2 g)) : ∀ (n : Nat) (x2 : Int32) (g : AH), AW ρI γ l ck_X5_clearIn G0 25 [(0, .ref x0), (1, .int x1), (2, .int x2)] [] g (f_X5_clearIn_L25 γ x0 x1 K51 n x2 g) := by
  intro n
  induction n with
  | zero => intro x2 g; exact AW_none
  | succ n ih =>
    intro x2 g
    unfold f_X5_clearIn_L25
    refine r_iload_n (pc := 25) dX5_clearIn_25 rfl 2 rfl ?_
    refine r_bipush (v := (60 : Int32)) (pc := 26) dX5_clearIn_26 (by decide) ?_
    refine r_icmp_ge (tgt := 51) (pc := 28) dX5_clearIn_28 (by decide) ?_ ?_
    · skip
      exact h_K51 x2 g
    · skip
      refine r_aload_n (pc := 31) dX5_clearIn_31 rfl 0 rfl ?_
      refine r_iload_n (pc := 32) dX5_clearIn_32 rfl 1 rfl ?_
      refine r_iconst (v := (1 : Int32)) (pc := 33) dX5_clearIn_33 (by decide) ?_
      refine r_iconst (v := (1 : Int32)) (pc := 34) dX5_clearIn_34 (by decide) ?_
      refine r_cI (pc := 35) (rest := []) (RunOK_chk (fun h => run_V (n := 3) (c9 := 8) (As := [.int x1, .int (1 : Int32), .int (1 : Int32)]) (rest := []) (t_X5_dishesThat γ l hl x0 x1 (1 : Int32) (1 : Int32) g) dX5_clearIn_35 q3543 q3545 qs69 q121 q3546 (by decide +kernel) rfl h ⟨rfl, by decide, by decide⟩ (Nat.le_of_ble_eq_true rfl) (Nat.le_of_ble_eq_true rfl) rfl (Nat.le_of_ble_eq_true rfl))) (fun v8 g7 => ?_)
      refine r_if_le (tgt := 51) (pc := 38) dX5_clearIn_38 (by decide) ?_ ?_
      · skip
        exact h_K51 x2 g7
      · skip
        refine r_aload_n (pc := 41) dX5_clearIn_41 rfl 0 rfl ?_
        refine r_cV (pc := 42) (rest := []) (RunOK_chk (fun h => run_V (n := 0) (c9 := 8) (As := []) (rest := []) (t_X5_minuteGoes γ l hl x0 g7) dX5_clearIn_42 q3664 q3666 qs90 q121 q3667 (by decide +kernel) rfl h ⟨rfl, by decide, by decide⟩ (Nat.le_of_ble_eq_true rfl) (Nat.le_of_ble_eq_true rfl) rfl (Nat.le_of_ble_eq_true rfl))) (fun g9 => ?_)
        refine r_iinc (j := 2) (v := (x2 + (1 : Int32))) (pc := 45) dX5_clearIn_45 rfl rfl (Nat.le_of_ble_eq_true rfl) rfl ?_
        refine r_goto (tgt := 25) (pc := 48) dX5_clearIn_48 (by decide) ?_
        refine AW_sub [1, 2, 0] rfl ?_
        exact ih (x2 + (1 : Int32)) g9
theorem t_X5_clearIn (γ : GP) (l : Launch) (hl : l.stackTraces = false) (x0 : Nat) (x1 : Int32) (g : AH) : TrM ρI γ l ⟨"BanquetVotesModel", "clearIn", "(I)I"⟩ (ws_ ⟨"BanquetVotesModel", "clearIn", "(I)I"⟩ prog_25_method_66_code 4 (some .int)) 8 [.ref x0, .int x1] g (f_X5_clearIn γ x0 x1 g) := by
  refine TrM_of (plainFor_of_name (by decide)) (Nat.le_of_ble_eq_true rfl) ?_
  unfold f_X5_clearIn
  change AW ρI γ l ck_X5_clearIn g 0 [(0, .ref x0), (1, .int x1)] [] g _
  refine r_aload_n (pc := 0) dX5_clearIn_0 rfl 0 rfl ?_
  refine r_iconst (v := (0 : Int32)) (pc := 1) dX5_clearIn_1 (by decide) ?_
  refine r_putI (f := 50) (pc := 2) dX5_clearIn_2 q3398 (Or.inl rfl) (Or.inl rfl) rfl (fun g1 => ?_)
  refine r_aload_n (pc := 5) dX5_clearIn_5 rfl 0 rfl ?_
  refine r_iload_n (pc := 6) dX5_clearIn_6 rfl 1 rfl ?_
  refine r_cI (pc := 7) (rest := []) (RunOK_chk (fun h => run_V (n := 1) (c9 := 8) (As := [.int x1]) (rest := []) (t_X5_isCourse γ l hl x0 x1 g1) dX5_clearIn_7 q3527 q3529 qs66 q121 q3530 (by decide +kernel) rfl h ⟨rfl, by decide, by decide⟩ (Nat.le_of_ble_eq_true rfl) (Nat.le_of_ble_eq_true rfl) rfl (Nat.le_of_ble_eq_true rfl))) (fun v3 g2 => ?_)
  refine r_if_ne (tgt := 19) (pc := 10) dX5_clearIn_10 (by decide) ?_ ?_
  · skip
    refine r_aload_n (pc := 13) dX5_clearIn_13 rfl 0 rfl ?_
    refine r_iconst (v := (1 : Int32)) (pc := 14) dX5_clearIn_14 (by decide) ?_
    refine r_cI (pc := 15) (rest := []) (RunOK_chk (fun h => run_V (n := 1) (c9 := 8) (As := [.int (1 : Int32)]) (rest := []) (t_X5_raises γ l hl x0 (1 : Int32) g2) dX5_clearIn_15 q3458 q3460 qs53 q121 q3461 (by decide +kernel) rfl h ⟨rfl, by decide, by decide⟩ (Nat.le_of_ble_eq_true rfl) (Nat.le_of_ble_eq_true rfl) rfl (Nat.le_of_ble_eq_true rfl))) (fun v5 g4 => ?_)
    exact r_iret (pc := 18) dX5_clearIn_18 rfl
  · skip
    refine r_aload_n (pc := 19) dX5_clearIn_19 rfl 0 rfl ?_
    refine r_cV (pc := 20) (rest := []) (RunOK_chk (fun h => run_V (n := 0) (c9 := 8) (As := []) (rest := []) (t_X5_thinks γ l hl x0 g2) dX5_clearIn_20 q3684 q3686 qs94 q121 q3687 (by decide +kernel) rfl h ⟨rfl, by decide, by decide⟩ (Nat.le_of_ble_eq_true rfl) (Nat.le_of_ble_eq_true rfl) rfl (Nat.le_of_ble_eq_true rfl))) (fun g6 => ?_)
    refine r_iconst (v := (0 : Int32)) (pc := 23) dX5_clearIn_23 (by decide) ?_
    refine r_istore_n (pc := 24) dX5_clearIn_24 rfl (Nat.le_of_ble_eq_true rfl) rfl ?_
    refine AW_sub [1, 2, 0] rfl ?_
    refine f_X5_clearIn_L25_w γ l hl _ x0 x1 _ ?_ FU (0 : Int32) g6
    · intro y10 g11
      refine r_aload_n (pc := 51) dX5_clearIn_51 rfl 0 rfl ?_
      refine r_iload_n (pc := 52) dX5_clearIn_52 rfl 1 rfl ?_
      refine r_iconst (v := (1 : Int32)) (pc := 53) dX5_clearIn_53 (by decide) ?_
      refine r_iconst (v := (1 : Int32)) (pc := 54) dX5_clearIn_54 (by decide) ?_
      refine r_cI (pc := 55) (rest := []) (RunOK_chk (fun h => run_V (n := 3) (c9 := 8) (As := [.int x1, .int (1 : Int32), .int (1 : Int32)]) (rest := []) (t_X5_dishesThat γ l hl x0 x1 (1 : Int32) (1 : Int32) g11) dX5_clearIn_55 q3543 q3545 qs69 q121 q3546 (by decide +kernel) rfl h ⟨rfl, by decide, by decide⟩ (Nat.le_of_ble_eq_true rfl) (Nat.le_of_ble_eq_true rfl) rfl (Nat.le_of_ble_eq_true rfl))) (fun v13 g12 => ?_)
      refine AW_jn (P := fun (j : Int32 → AH → Option (Int32 × AH)) => ∀ (z14 : Int32) (g15 : AH), AW ρI γ l ck_X5_clearIn g 66 [(0, .ref x0), (2, .int y10)] [.int z14] g15 (j z14 g15)) (fun z14 g15 => ?_) (fun j16 h_j16 => ?_)
      · skip
        refine r_istore_n (pc := 66) dX5_clearIn_66 rfl (Nat.le_of_ble_eq_true rfl) rfl ?_
        refine r_aload_n (pc := 67) dX5_clearIn_67 rfl 1 rfl ?_
        refine r_cV (pc := 68) (rest := []) (RunOK_chk (fun h => run_V (n := 0) (c9 := 8) (As := []) (rest := []) (t_X5_thinksNoMore γ l hl x0 g15) dX5_clearIn_68 q3688 q3690 qs95 q121 q3691 (by decide +kernel) rfl h ⟨rfl, by decide, by decide⟩ (Nat.le_of_ble_eq_true rfl) (Nat.le_of_ble_eq_true rfl) rfl (Nat.le_of_ble_eq_true rfl))) (fun g17 => ?_)
        refine r_iload_n (pc := 71) dX5_clearIn_71 rfl 0 rfl ?_
        refine r_if_eq (tgt := 79) (pc := 72) dX5_clearIn_72 (by decide) ?_ ?_
        · skip
          refine r_aload_n (pc := 79) dX5_clearIn_79 rfl 1 rfl ?_
          refine r_iconst (v := (2 : Int32)) (pc := 80) dX5_clearIn_80 (by decide) ?_
          refine r_cI (pc := 81) (rest := []) (RunOK_chk (fun h => run_V (n := 1) (c9 := 8) (As := [.int (2 : Int32)]) (rest := []) (t_X5_raises γ l hl x0 (2 : Int32) g17) dX5_clearIn_81 q3458 q3460 qs53 q121 q3461 (by decide +kernel) rfl h ⟨rfl, by decide, by decide⟩ (Nat.le_of_ble_eq_true rfl) (Nat.le_of_ble_eq_true rfl) rfl (Nat.le_of_ble_eq_true rfl))) (fun v19 g18 => ?_)
          exact r_iret (pc := 84) dX5_clearIn_84 rfl
        · skip
          refine r_iload_n (pc := 75) dX5_clearIn_75 rfl 2 rfl ?_
          refine r_goto (tgt := 84) (pc := 76) dX5_clearIn_76 (by decide) ?_
          exact r_iret (pc := 84) dX5_clearIn_84 rfl
      · skip
        refine r_if_ne (tgt := 65) (pc := 58) dX5_clearIn_58 (by decide) ?_ ?_
        · skip
          refine r_iconst (v := (1 : Int32)) (pc := 61) dX5_clearIn_61 (by decide) ?_
          refine r_goto (tgt := 66) (pc := 62) dX5_clearIn_62 (by decide) ?_
          refine AW_sub [0, 2] rfl ?_
          exact h_j16 (1 : Int32) g12
        · skip
          refine r_iconst (v := (0 : Int32)) (pc := 65) dX5_clearIn_65 (by decide) ?_
          refine AW_sub [0, 2] rfl ?_
          exact h_j16 (0 : Int32) g12
abbrev ck_X5_isSafe : CK := ("BanquetVotesModel", prog_25_method_67_code, 2, (some .boolean), "isSafe", [], 5)
def f_X5_isSafe_L7 (γ : GP) (x0 : Nat) : Nat → Int32 → AH → Option (Int32 × AH)
  | 0, _, _ => none
  | n + 1, x1, g => gR g x0 30 fun v2 => gA g 101 v2 (2 : Int32) fun v3 => (if v3 ≤ x1 then (rtN .boolean (1 : Int32) g) else bI ((if hK g x0 = 8 then f_X5_dishesThat γ x0 x1 (3 : Int32) (3 : Int32) g else none)) fun v5 g4 => (if v5 ≤ 0 then f_X5_isSafe_L7 γ x0 n (x1 + (1 : Int32)) g4 else bI ((if hK g4 x0 = 8 then f_X5_dishesThat γ x0 x1 (2 : Int32) (4 : Int32) g4 else none)) fun v7 g6 => (if v7 ≤ 0 then f_X5_isSafe_L7 γ x0 n (x1 + (1 : Int32)) g6 else (rtN .boolean (0 : Int32) g6))))
def f_X5_isSafe (γ : GP) (x0 : Nat) (g : AH) : Option (Int32 × AH) := pI γ g x0 50 (0 : Int32) fun g1 => f_X5_isSafe_L7 γ x0 FU (0 : Int32) g1
theorem f_X5_isSafe_L7_w (γ : GP) (l : Launch) (hl : l.stackTraces = false) (G0 : AH) (x0 : Nat) : ∀ (n : Nat) (x1 : Int32) (g : AH), AW ρI γ l ck_X5_isSafe G0 7 [(0, .ref x0), (1, .int x1)] [] g (f_X5_isSafe_L7 γ x0 n x1 g) := by
  intro n
  induction n with
  | zero => intro x1 g; exact AW_none
  | succ n ih =>
    intro x1 g
    unfold f_X5_isSafe_L7
    refine r_iload_n (pc := 7) dX5_isSafe_7 rfl 1 rfl ?_
    refine r_aload_n (pc := 8) dX5_isSafe_8 rfl 0 rfl ?_
    refine r_getR (f := 30) (pc := 9) dX5_isSafe_9 q3378 (Or.inl rfl) rfl (fun v2 => ?_)
    refine r_iconst (v := (2 : Int32)) (pc := 12) dX5_isSafe_12 (by decide) ?_
    refine r_iald (pc := 13) dX5_isSafe_13 (fun v3 => ?_)
    refine r_icmp_ge (tgt := 45) (pc := 14) dX5_isSafe_14 (by decide) ?_ ?_
    · skip
      refine r_iconst (v := (1 : Int32)) (pc := 45) dX5_isSafe_45 (by decide) ?_
      exact r_zret (ty := .boolean) (pc := 46) dX5_isSafe_46 rfl
    · skip
      refine r_aload_n (pc := 17) dX5_isSafe_17 rfl 0 rfl ?_
      refine r_iload_n (pc := 18) dX5_isSafe_18 rfl 1 rfl ?_
      refine r_iconst (v := (3 : Int32)) (pc := 19) dX5_isSafe_19 (by decide) ?_
      refine r_iconst (v := (3 : Int32)) (pc := 20) dX5_isSafe_20 (by decide) ?_
      refine r_cI (pc := 21) (rest := []) (RunOK_chk (fun h => run_V (n := 3) (c9 := 8) (As := [.int x1, .int (3 : Int32), .int (3 : Int32)]) (rest := []) (t_X5_dishesThat γ l hl x0 x1 (3 : Int32) (3 : Int32) g) dX5_isSafe_21 q3543 q3545 qs69 q121 q3546 (by decide +kernel) rfl h ⟨rfl, by decide, by decide⟩ (Nat.le_of_ble_eq_true rfl) (Nat.le_of_ble_eq_true rfl) rfl (Nat.le_of_ble_eq_true rfl))) (fun v5 g4 => ?_)
      refine r_if_le (tgt := 39) (pc := 24) dX5_isSafe_24 (by decide) ?_ ?_
      · skip
        refine r_iinc (j := 1) (v := (x1 + (1 : Int32))) (pc := 39) dX5_isSafe_39 rfl rfl (Nat.le_of_ble_eq_true rfl) rfl ?_
        refine r_goto (tgt := 7) (pc := 42) dX5_isSafe_42 (by decide) ?_
        refine AW_sub [1, 0] rfl ?_
        exact ih (x1 + (1 : Int32)) g4
      · skip
        refine r_aload_n (pc := 27) dX5_isSafe_27 rfl 0 rfl ?_
        refine r_iload_n (pc := 28) dX5_isSafe_28 rfl 1 rfl ?_
        refine r_iconst (v := (2 : Int32)) (pc := 29) dX5_isSafe_29 (by decide) ?_
        refine r_iconst (v := (4 : Int32)) (pc := 30) dX5_isSafe_30 (by decide) ?_
        refine r_cI (pc := 31) (rest := []) (RunOK_chk (fun h => run_V (n := 3) (c9 := 8) (As := [.int x1, .int (2 : Int32), .int (4 : Int32)]) (rest := []) (t_X5_dishesThat γ l hl x0 x1 (2 : Int32) (4 : Int32) g4) dX5_isSafe_31 q3543 q3545 qs69 q121 q3546 (by decide +kernel) rfl h ⟨rfl, by decide, by decide⟩ (Nat.le_of_ble_eq_true rfl) (Nat.le_of_ble_eq_true rfl) rfl (Nat.le_of_ble_eq_true rfl))) (fun v7 g6 => ?_)
        refine r_if_le (tgt := 39) (pc := 34) dX5_isSafe_34 (by decide) ?_ ?_
        · skip
          refine r_iinc (j := 1) (v := (x1 + (1 : Int32))) (pc := 39) dX5_isSafe_39 rfl rfl (Nat.le_of_ble_eq_true rfl) rfl ?_
          refine r_goto (tgt := 7) (pc := 42) dX5_isSafe_42 (by decide) ?_
          refine AW_sub [1, 0] rfl ?_
          exact ih (x1 + (1 : Int32)) g6
        · skip
          refine r_iconst (v := (0 : Int32)) (pc := 37) dX5_isSafe_37 (by decide) ?_
          exact r_zret (ty := .boolean) (pc := 38) dX5_isSafe_38 rfl
theorem t_X5_isSafe (γ : GP) (l : Launch) (hl : l.stackTraces = false) (x0 : Nat) (g : AH) : TrM ρI γ l ⟨"BanquetVotesModel", "isSafe", "()Z"⟩ (ws_ ⟨"BanquetVotesModel", "isSafe", "()Z"⟩ prog_25_method_67_code 2 (some .boolean)) 5 [.ref x0] g (f_X5_isSafe γ x0 g) := by
  refine TrM_of (plainFor_of_name (by decide)) (Nat.le_of_ble_eq_true rfl) ?_
  unfold f_X5_isSafe
  change AW ρI γ l ck_X5_isSafe g 0 [(0, .ref x0)] [] g _
  refine r_aload_n (pc := 0) dX5_isSafe_0 rfl 0 rfl ?_
  refine r_iconst (v := (0 : Int32)) (pc := 1) dX5_isSafe_1 (by decide) ?_
  refine r_putI (f := 50) (pc := 2) dX5_isSafe_2 q3398 (Or.inl rfl) (Or.inl rfl) rfl (fun g1 => ?_)
  refine r_iconst (v := (0 : Int32)) (pc := 5) dX5_isSafe_5 (by decide) ?_
  refine r_istore_n (pc := 6) dX5_isSafe_6 rfl (Nat.le_of_ble_eq_true rfl) rfl ?_
  refine AW_sub [1, 0] rfl ?_
  refine f_X5_isSafe_L7_w γ l hl _ x0 FU (0 : Int32) g1
abbrev ck_X5_turn : CK := ("BanquetVotesModel", prog_25_method_68_code, 4, (some .int), "turn", [], 2)
def f_X5_turn_L4 (γ : GP) (x0 : Nat) (x1 : Int32) : Nat → Int32 → Int32 → AH → Option (Int32 × AH)
  | 0, _, _, _ => none
  | n + 1, x2, x3, g => gR g x0 30 fun v1 => gA g 101 v1 (5 : Int32) fun v2 => (if v2 ≤ x3 then (some (x2, g)) else bI ((if hK g x0 = 8 then f_X5_message γ x0 x3 (3 : Int32) g else none)) fun v4 g3 => bI ((if hK g3 x0 = 8 then f_X5_message γ x0 x1 (3 : Int32) g3 else none)) fun v6 g5 => (if v4 < v6 then f_X5_turn_L4 γ x0 x1 n (x2 + (1 : Int32)) (x3 + (1 : Int32)) g5 else bI ((if hK g5 x0 = 8 then f_X5_message γ x0 x3 (3 : Int32) g5 else none)) fun v8 g7 => bI ((if hK g7 x0 = 8 then f_X5_message γ x0 x1 (3 : Int32) g7 else none)) fun v10 g9 => (if v8 = v10 then (if x1 ≤ x3 then f_X5_turn_L4 γ x0 x1 n x2 (x3 + (1 : Int32)) g9 else f_X5_turn_L4 γ x0 x1 n (x2 + (1 : Int32)) (x3 + (1 : Int32)) g9) else f_X5_turn_L4 γ x0 x1 n x2 (x3 + (1 : Int32)) g9)))
def f_X5_turn (γ : GP) (x0 : Nat) (x1 : Int32) (g : AH) : Option (Int32 × AH) := f_X5_turn_L4 γ x0 x1 FU (0 : Int32) (0 : Int32) g
theorem f_X5_turn_L4_w (γ : GP) (l : Launch) (hl : l.stackTraces = false) (G0 : AH) (x0 : Nat) (x1 : Int32) : ∀ (n : Nat) (x2 : Int32) (x3 : Int32) (g : AH), AW ρI γ l ck_X5_turn G0 4 [(0, .ref x0), (1, .int x1), (2, .int x2), (3, .int x3)] [] g (f_X5_turn_L4 γ x0 x1 n x2 x3 g) := by
  intro n
  induction n with
  | zero => intro x2 x3 g; exact AW_none
  | succ n ih =>
    intro x2 x3 g
    unfold f_X5_turn_L4
    refine r_iload_n (pc := 4) dX5_turn_4 rfl 3 rfl ?_
    refine r_aload_n (pc := 5) dX5_turn_5 rfl 0 rfl ?_
    refine r_getR (f := 30) (pc := 6) dX5_turn_6 q3378 (Or.inl rfl) rfl (fun v1 => ?_)
    refine r_iconst (v := (5 : Int32)) (pc := 9) dX5_turn_9 (by decide) ?_
    refine r_iald (pc := 10) dX5_turn_10 (fun v2 => ?_)
    refine r_icmp_ge (tgt := 58) (pc := 11) dX5_turn_11 (by decide) ?_ ?_
    · skip
      refine r_iload_n (pc := 58) dX5_turn_58 rfl 2 rfl ?_
      exact r_iret (pc := 59) dX5_turn_59 rfl
    · skip
      refine r_aload_n (pc := 14) dX5_turn_14 rfl 0 rfl ?_
      refine r_iload_n (pc := 15) dX5_turn_15 rfl 3 rfl ?_
      refine r_iconst (v := (3 : Int32)) (pc := 16) dX5_turn_16 (by decide) ?_
      refine r_cI (pc := 17) (rest := []) (RunOK_chk (fun h => run_V (n := 2) (c9 := 8) (As := [.int x3, .int (3 : Int32)]) (rest := []) (t_X5_message γ l hl x0 x3 (3 : Int32) g) dX5_turn_17 q3668 q3670 qs91 q121 q3671 (by decide +kernel) rfl h ⟨rfl, by decide, by decide⟩ (Nat.le_of_ble_eq_true rfl) (Nat.le_of_ble_eq_true rfl) rfl (Nat.le_of_ble_eq_true rfl))) (fun v4 g3 => ?_)
      refine r_aload_n (pc := 20) dX5_turn_20 rfl 0 rfl ?_
      refine r_iload_n (pc := 21) dX5_turn_21 rfl 1 rfl ?_
      refine r_iconst (v := (3 : Int32)) (pc := 22) dX5_turn_22 (by decide) ?_
      refine r_cI (pc := 23) (rest := [.int v4]) (RunOK_chk (fun h => run_V (n := 2) (c9 := 8) (As := [.int x1, .int (3 : Int32)]) (rest := [.int v4]) (t_X5_message γ l hl x0 x1 (3 : Int32) g3) dX5_turn_23 q3668 q3670 qs91 q121 q3671 (by decide +kernel) rfl h ⟨rfl, by decide, by decide⟩ (Nat.le_of_ble_eq_true rfl) (Nat.le_of_ble_eq_true rfl) rfl (Nat.le_of_ble_eq_true rfl))) (fun v6 g5 => ?_)
      refine r_icmp_lt (tgt := 49) (pc := 26) dX5_turn_26 (by decide) ?_ ?_
      · skip
        refine r_iinc (j := 2) (v := (x2 + (1 : Int32))) (pc := 49) dX5_turn_49 rfl rfl (Nat.le_of_ble_eq_true rfl) rfl ?_
        refine r_iinc (j := 3) (v := (x3 + (1 : Int32))) (pc := 52) dX5_turn_52 rfl rfl (Nat.le_of_ble_eq_true rfl) rfl ?_
        refine r_goto (tgt := 4) (pc := 55) dX5_turn_55 (by decide) ?_
        refine AW_sub [2, 3, 1, 0] rfl ?_
        exact ih (x2 + (1 : Int32)) (x3 + (1 : Int32)) g5
      · skip
        refine r_aload_n (pc := 29) dX5_turn_29 rfl 0 rfl ?_
        refine r_iload_n (pc := 30) dX5_turn_30 rfl 3 rfl ?_
        refine r_iconst (v := (3 : Int32)) (pc := 31) dX5_turn_31 (by decide) ?_
        refine r_cI (pc := 32) (rest := []) (RunOK_chk (fun h => run_V (n := 2) (c9 := 8) (As := [.int x3, .int (3 : Int32)]) (rest := []) (t_X5_message γ l hl x0 x3 (3 : Int32) g5) dX5_turn_32 q3668 q3670 qs91 q121 q3671 (by decide +kernel) rfl h ⟨rfl, by decide, by decide⟩ (Nat.le_of_ble_eq_true rfl) (Nat.le_of_ble_eq_true rfl) rfl (Nat.le_of_ble_eq_true rfl))) (fun v8 g7 => ?_)
        refine r_aload_n (pc := 35) dX5_turn_35 rfl 0 rfl ?_
        refine r_iload_n (pc := 36) dX5_turn_36 rfl 1 rfl ?_
        refine r_iconst (v := (3 : Int32)) (pc := 37) dX5_turn_37 (by decide) ?_
        refine r_cI (pc := 38) (rest := [.int v8]) (RunOK_chk (fun h => run_V (n := 2) (c9 := 8) (As := [.int x1, .int (3 : Int32)]) (rest := [.int v8]) (t_X5_message γ l hl x0 x1 (3 : Int32) g7) dX5_turn_38 q3668 q3670 qs91 q121 q3671 (by decide +kernel) rfl h ⟨rfl, by decide, by decide⟩ (Nat.le_of_ble_eq_true rfl) (Nat.le_of_ble_eq_true rfl) rfl (Nat.le_of_ble_eq_true rfl))) (fun v10 g9 => ?_)
        refine r_icmp_ne (tgt := 52) (pc := 41) dX5_turn_41 (by decide) ?_ ?_
        · skip
          refine r_iload_n (pc := 44) dX5_turn_44 rfl 3 rfl ?_
          refine r_iload_n (pc := 45) dX5_turn_45 rfl 1 rfl ?_
          refine r_icmp_ge (tgt := 52) (pc := 46) dX5_turn_46 (by decide) ?_ ?_
          · skip
            refine r_iinc (j := 3) (v := (x3 + (1 : Int32))) (pc := 52) dX5_turn_52 rfl rfl (Nat.le_of_ble_eq_true rfl) rfl ?_
            refine r_goto (tgt := 4) (pc := 55) dX5_turn_55 (by decide) ?_
            refine AW_sub [1, 2, 3, 0] rfl ?_
            exact ih x2 (x3 + (1 : Int32)) g9
          · skip
            refine r_iinc (j := 2) (v := (x2 + (1 : Int32))) (pc := 49) dX5_turn_49 rfl rfl (Nat.le_of_ble_eq_true rfl) rfl ?_
            refine r_iinc (j := 3) (v := (x3 + (1 : Int32))) (pc := 52) dX5_turn_52 rfl rfl (Nat.le_of_ble_eq_true rfl) rfl ?_
            refine r_goto (tgt := 4) (pc := 55) dX5_turn_55 (by decide) ?_
            refine AW_sub [2, 3, 1, 0] rfl ?_
            exact ih (x2 + (1 : Int32)) (x3 + (1 : Int32)) g9
        · skip
          refine r_iinc (j := 3) (v := (x3 + (1 : Int32))) (pc := 52) dX5_turn_52 rfl rfl (Nat.le_of_ble_eq_true rfl) rfl ?_
          refine r_goto (tgt := 4) (pc := 55) dX5_turn_55 (by decide) ?_
          refine AW_sub [1, 2, 3, 0] rfl ?_
          exact ih x2 (x3 + (1 : Int32)) g9
theorem t_X5_turn (γ : GP) (l : Launch) (hl : l.stackTraces = false) (x0 : Nat) (x1 : Int32) (g : AH) : TrM ρI γ l ⟨"BanquetVotesModel", "turn", "(I)I"⟩ (ws_ ⟨"BanquetVotesModel", "turn", "(I)I"⟩ prog_25_method_68_code 4 (some .int)) 2 [.ref x0, .int x1] g (f_X5_turn γ x0 x1 g) := by
  refine TrM_of (plainFor_of_name (by decide)) (Nat.le_of_ble_eq_true rfl) ?_
  unfold f_X5_turn
  change AW ρI γ l ck_X5_turn g 0 [(0, .ref x0), (1, .int x1)] [] g _
  refine r_iconst (v := (0 : Int32)) (pc := 0) dX5_turn_0 (by decide) ?_
  refine r_istore_n (pc := 1) dX5_turn_1 rfl (Nat.le_of_ble_eq_true rfl) rfl ?_
  refine r_iconst (v := (0 : Int32)) (pc := 2) dX5_turn_2 (by decide) ?_
  refine r_istore_n (pc := 3) dX5_turn_3 rfl (Nat.le_of_ble_eq_true rfl) rfl ?_
  refine AW_sub [2, 3, 1, 0] rfl ?_
  refine f_X5_turn_L4_w γ l hl _ x0 x1 FU (0 : Int32) (0 : Int32) g
abbrev ck_X5_messageOf : CK := ("BanquetVotesModel", prog_25_method_69_code, 4, (some .int), "messageOf", [], 3)
def f_X5_messageOf_L44 (γ : GP) (x0 : Nat) (x1 : Int32) (x2 : Int32) (K59 : Int32 → AH → Option (Int32 × AH)) : Nat → Int32 → AH → Option (Int32 × AH)
  | 0, _, _ => none
  | n + 1, x3, g => bI ((if hK g x0 = 8 then f_X5_turn γ x0 x3 g else none)) fun v13 g12 => (if v13 = x1 then K59 x3 g12 else f_X5_messageOf_L44 γ x0 x1 x2 K59 n (x3 + (1 : Int32)) g12)
def f_X5_messageOf (γ : GP) (x0 : Nat) (x1 : Int32) (x2 : Int32) (g : AH) : Option (Int32 × AH) := pI γ g x0 50 (0 : Int32) fun g1 => gR g1 x0 30 fun v2 => gA g1 101 v2 (5 : Int32) fun v3 => bI (f_X5_in γ x1 (0 : Int32) (v3 - (1 : Int32)) g1) fun v5 g4 => (if v5 = 0 then bI ((if hK g4 x0 = 8 then f_X5_raises γ x0 (1 : Int32) g4 else none)) fun v7 g6 => (some (v7, g6)) else bI (f_X5_in γ x2 (0 : Int32) (3 : Int32) g4) fun v9 g8 => (if v9 = 0 then bI ((if hK g8 x0 = 8 then f_X5_raises γ x0 (2 : Int32) g8 else none)) fun v11 g10 => (some (v11, g10)) else f_X5_messageOf_L44 γ x0 x1 x2 (fun (y14 : Int32) (g15 : AH) => bI ((if hK g15 x0 = 8 then f_X5_message γ x0 y14 x2 g15 else none)) fun v17 g16 => (some (v17, g16))) FU (0 : Int32) g8))
theorem f_X5_messageOf_L44_w (γ : GP) (l : Launch) (hl : l.stackTraces = false) (G0 : AH) (x0 : Nat) (x1 : Int32) (x2 : Int32) (K59 : Int32 → AH → Option (Int32 × AH)) (h_K59 : ∀ (y3 : Int32) (g : AH), AW ρI γ l ck_X5_messageOf G0 59 [(0, .ref x0), (2, .int x2), (3, .int y3)] [] g (K59 y3 g)) : ∀ (n : Nat) (x3 : Int32) (g : AH), AW ρI γ l ck_X5_messageOf G0 44 [(0, .ref x0), (1, .int x1), (2, .int x2), (3, .int x3)] [] g (f_X5_messageOf_L44 γ x0 x1 x2 K59 n x3 g) := by
  intro n
  induction n with
  | zero => intro x3 g; exact AW_none
  | succ n ih =>
    intro x3 g
    unfold f_X5_messageOf_L44
    refine r_aload_n (pc := 44) dX5_messageOf_44 rfl 0 rfl ?_
    refine r_iload_n (pc := 45) dX5_messageOf_45 rfl 3 rfl ?_
    refine r_cI (pc := 46) (rest := []) (RunOK_chk (fun h => run_V (n := 1) (c9 := 8) (As := [.int x3]) (rest := []) (t_X5_turn γ l hl x0 x3 g) dX5_messageOf_46 q3704 q3706 qs96 q121 q3707 (by decide +kernel) rfl h ⟨rfl, by decide, by decide⟩ (Nat.le_of_ble_eq_true rfl) (Nat.le_of_ble_eq_true rfl) rfl (Nat.le_of_ble_eq_true rfl))) (fun v13 g12 => ?_)
    refine r_iload_n (pc := 49) dX5_messageOf_49 rfl 1 rfl ?_
    refine r_icmp_eq (tgt := 59) (pc := 50) dX5_messageOf_50 (by decide) ?_ ?_
    · skip
      refine AW_sub [0, 2, 3] rfl ?_
      exact h_K59 x3 g12
    · skip
      refine r_iinc (j := 3) (v := (x3 + (1 : Int32))) (pc := 53) dX5_messageOf_53 rfl rfl (Nat.le_of_ble_eq_true rfl) rfl ?_
      refine r_goto (tgt := 44) (pc := 56) dX5_messageOf_56 (by decide) ?_
      refine AW_sub [1, 2, 3, 0] rfl ?_
      exact ih (x3 + (1 : Int32)) g12
theorem t_X5_messageOf (γ : GP) (l : Launch) (hl : l.stackTraces = false) (x0 : Nat) (x1 : Int32) (x2 : Int32) (g : AH) : TrM ρI γ l ⟨"BanquetVotesModel", "messageOf", "(II)I"⟩ (ws_ ⟨"BanquetVotesModel", "messageOf", "(II)I"⟩ prog_25_method_69_code 4 (some .int)) 3 [.ref x0, .int x1, .int x2] g (f_X5_messageOf γ x0 x1 x2 g) := by
  refine TrM_of (plainFor_of_name (by decide)) (Nat.le_of_ble_eq_true rfl) ?_
  unfold f_X5_messageOf
  change AW ρI γ l ck_X5_messageOf g 0 [(0, .ref x0), (1, .int x1), (2, .int x2)] [] g _
  refine r_aload_n (pc := 0) dX5_messageOf_0 rfl 0 rfl ?_
  refine r_iconst (v := (0 : Int32)) (pc := 1) dX5_messageOf_1 (by decide) ?_
  refine r_putI (f := 50) (pc := 2) dX5_messageOf_2 q3398 (Or.inl rfl) (Or.inl rfl) rfl (fun g1 => ?_)
  refine r_iload_n (pc := 5) dX5_messageOf_5 rfl 1 rfl ?_
  refine r_iconst (v := (0 : Int32)) (pc := 6) dX5_messageOf_6 (by decide) ?_
  refine r_aload_n (pc := 7) dX5_messageOf_7 rfl 0 rfl ?_
  refine r_getR (f := 30) (pc := 8) dX5_messageOf_8 q3378 (Or.inl rfl) rfl (fun v2 => ?_)
  refine r_iconst (v := (5 : Int32)) (pc := 11) dX5_messageOf_11 (by decide) ?_
  refine r_iald (pc := 12) dX5_messageOf_12 (fun v3 => ?_)
  refine r_iconst (v := (1 : Int32)) (pc := 13) dX5_messageOf_13 (by decide) ?_
  refine r_isub (pc := 14) dX5_messageOf_14 ?_
  refine r_cI (pc := 15) (rest := []) (run_S (n := 3) (As := [.int x1, .int (0 : Int32), .int (v3 - (1 : Int32))]) (rest := []) (t_X5_in γ l hl x1 (0 : Int32) (v3 - (1 : Int32)) g1) dX5_messageOf_15 q3455 q3456 q121 q3457 (by decide +kernel) rfl (Nat.le_of_ble_eq_true rfl) (Nat.le_of_ble_eq_true rfl) rfl (Nat.le_of_ble_eq_true rfl)) (fun v5 g4 => ?_)
  refine r_if_ne (tgt := 27) (pc := 18) dX5_messageOf_18 (by decide) ?_ ?_
  · skip
    refine r_aload_n (pc := 21) dX5_messageOf_21 rfl 0 rfl ?_
    refine r_iconst (v := (1 : Int32)) (pc := 22) dX5_messageOf_22 (by decide) ?_
    refine r_cI (pc := 23) (rest := []) (RunOK_chk (fun h => run_V (n := 1) (c9 := 8) (As := [.int (1 : Int32)]) (rest := []) (t_X5_raises γ l hl x0 (1 : Int32) g4) dX5_messageOf_23 q3458 q3460 qs53 q121 q3461 (by decide +kernel) rfl h ⟨rfl, by decide, by decide⟩ (Nat.le_of_ble_eq_true rfl) (Nat.le_of_ble_eq_true rfl) rfl (Nat.le_of_ble_eq_true rfl))) (fun v7 g6 => ?_)
    exact r_iret (pc := 26) dX5_messageOf_26 rfl
  · skip
    refine r_iload_n (pc := 27) dX5_messageOf_27 rfl 2 rfl ?_
    refine r_iconst (v := (0 : Int32)) (pc := 28) dX5_messageOf_28 (by decide) ?_
    refine r_iconst (v := (3 : Int32)) (pc := 29) dX5_messageOf_29 (by decide) ?_
    refine r_cI (pc := 30) (rest := []) (run_S (n := 3) (As := [.int x2, .int (0 : Int32), .int (3 : Int32)]) (rest := []) (t_X5_in γ l hl x2 (0 : Int32) (3 : Int32) g4) dX5_messageOf_30 q3455 q3456 q121 q3457 (by decide +kernel) rfl (Nat.le_of_ble_eq_true rfl) (Nat.le_of_ble_eq_true rfl) rfl (Nat.le_of_ble_eq_true rfl)) (fun v9 g8 => ?_)
    refine r_if_ne (tgt := 42) (pc := 33) dX5_messageOf_33 (by decide) ?_ ?_
    · skip
      refine r_aload_n (pc := 36) dX5_messageOf_36 rfl 0 rfl ?_
      refine r_iconst (v := (2 : Int32)) (pc := 37) dX5_messageOf_37 (by decide) ?_
      refine r_cI (pc := 38) (rest := []) (RunOK_chk (fun h => run_V (n := 1) (c9 := 8) (As := [.int (2 : Int32)]) (rest := []) (t_X5_raises γ l hl x0 (2 : Int32) g8) dX5_messageOf_38 q3458 q3460 qs53 q121 q3461 (by decide +kernel) rfl h ⟨rfl, by decide, by decide⟩ (Nat.le_of_ble_eq_true rfl) (Nat.le_of_ble_eq_true rfl) rfl (Nat.le_of_ble_eq_true rfl))) (fun v11 g10 => ?_)
      exact r_iret (pc := 41) dX5_messageOf_41 rfl
    · skip
      refine r_iconst (v := (0 : Int32)) (pc := 42) dX5_messageOf_42 (by decide) ?_
      refine r_istore_n (pc := 43) dX5_messageOf_43 rfl (Nat.le_of_ble_eq_true rfl) rfl ?_
      refine AW_sub [1, 2, 3, 0] rfl ?_
      refine f_X5_messageOf_L44_w γ l hl _ x0 x1 x2 _ ?_ FU (0 : Int32) g8
      · intro y14 g15
        refine r_aload_n (pc := 59) dX5_messageOf_59 rfl 0 rfl ?_
        refine r_iload_n (pc := 60) dX5_messageOf_60 rfl 2 rfl ?_
        refine r_iload_n (pc := 61) dX5_messageOf_61 rfl 1 rfl ?_
        refine r_cI (pc := 62) (rest := []) (RunOK_chk (fun h => run_V (n := 2) (c9 := 8) (As := [.int y14, .int x2]) (rest := []) (t_X5_message γ l hl x0 y14 x2 g15) dX5_messageOf_62 q3668 q3670 qs91 q121 q3671 (by decide +kernel) rfl h ⟨rfl, by decide, by decide⟩ (Nat.le_of_ble_eq_true rfl) (Nat.le_of_ble_eq_true rfl) rfl (Nat.le_of_ble_eq_true rfl))) (fun v17 g16 => ?_)
        exact r_iret (pc := 65) dX5_messageOf_65 rfl
abbrev ck_X5_logOf : CK := ("BanquetVotesModel", prog_25_method_70_code, 4, (some .int), "logOf", [], 3)
def f_X5_logOf (γ : GP) (x0 : Nat) (x1 : Int32) (x2 : Int32) (x3 : Int32) (g : AH) : Option (Int32 × AH) := pI γ g x0 50 (0 : Int32) fun g1 => jn (fun (g2 : AH) => jn (fun (z4 : Int32) (z5 : Int32) (z6 : Int32) (g7 : AH) => bI (f_X5_in γ z6 z5 (z4 - (1 : Int32)) g7) fun v10 g9 => (if v10 = 0 then bI ((if hK g9 x0 = 8 then f_X5_raises γ x0 (2 : Int32) g9 else none)) fun v12 g11 => (some (v12, g11)) else bI (f_X5_in γ x3 (0 : Int32) (2 : Int32) g9) fun v14 g13 => (if v14 = 0 then bI ((if hK g13 x0 = 8 then f_X5_raises γ x0 (3 : Int32) g13 else none)) fun v16 g15 => (some (v16, g15)) else gR g13 x0 30 fun v17 => gA g13 101 v17 (((321 : Int32) + ((3 : Int32) * (((16 : Int32) * (x1 + (1 : Int32))) + x2))) + x3) fun v18 => (some (v18, g13))))) (fun (j8 : Int32 → Int32 → Int32 → AH → Option (Int32 × AH)) => (if x1 = (-1 : Int32) then gR g2 x0 30 fun v19 => gA g2 101 v19 (6 : Int32) fun v20 => j8 v20 (0 : Int32) x2 g2 else bI ((if hK g2 x0 = 8 then f_X5_cook_2 γ x0 x1 (2 : Int32) g2 else none)) fun v22 g21 => j8 v22 (0 : Int32) x2 g21))) (fun (j3 : AH → Option (Int32 × AH)) => (if x1 = (-1 : Int32) then j3 g1 else bI ((if hK g1 x0 = 8 then f_X5_isCook γ x0 x1 g1 else none)) fun v24 g23 => (if v24 = 0 then bI ((if hK g23 x0 = 8 then f_X5_raises γ x0 (1 : Int32) g23 else none)) fun v26 g25 => (some (v26, g25)) else j3 g23)))
theorem t_X5_logOf (γ : GP) (l : Launch) (hl : l.stackTraces = false) (x0 : Nat) (x1 : Int32) (x2 : Int32) (x3 : Int32) (g : AH) : TrM ρI γ l ⟨"BanquetVotesModel", "logOf", "(III)I"⟩ (ws_ ⟨"BanquetVotesModel", "logOf", "(III)I"⟩ prog_25_method_70_code 4 (some .int)) 3 [.ref x0, .int x1, .int x2, .int x3] g (f_X5_logOf γ x0 x1 x2 x3 g) := by
  refine TrM_of (plainFor_of_name (by decide)) (Nat.le_of_ble_eq_true rfl) ?_
  unfold f_X5_logOf
  change AW ρI γ l ck_X5_logOf g 0 [(0, .ref x0), (1, .int x1), (2, .int x2), (3, .int x3)] [] g _
  refine r_aload_n (pc := 0) dX5_logOf_0 rfl 0 rfl ?_
  refine r_iconst (v := (0 : Int32)) (pc := 1) dX5_logOf_1 (by decide) ?_
  refine r_putI (f := 50) (pc := 2) dX5_logOf_2 q3398 (Or.inl rfl) (Or.inl rfl) rfl (fun g1 => ?_)
  refine r_iload_n (pc := 5) dX5_logOf_5 rfl 1 rfl ?_
  refine r_iconst (v := (-1 : Int32)) (pc := 6) dX5_logOf_6 (by decide) ?_
  refine AW_jn (P := fun (j : AH → Option (Int32 × AH)) => ∀ (g2 : AH), AW ρI γ l ck_X5_logOf g 24 [(0, .ref x0), (1, .int x1), (2, .int x2), (3, .int x3)] [] g2 (j g2)) (fun g2 => ?_) (fun j3 h_j3 => ?_)
  · skip
    refine r_iload_n (pc := 24) dX5_logOf_24 rfl 2 rfl ?_
    refine r_iconst (v := (0 : Int32)) (pc := 25) dX5_logOf_25 (by decide) ?_
    refine r_iload_n (pc := 26) dX5_logOf_26 rfl 1 rfl ?_
    refine r_iconst (v := (-1 : Int32)) (pc := 27) dX5_logOf_27 (by decide) ?_
    refine AW_jn (P := fun (j : Int32 → Int32 → Int32 → AH → Option (Int32 × AH)) => ∀ (z4 : Int32) (z5 : Int32) (z6 : Int32) (g7 : AH), AW ρI γ l ck_X5_logOf g 47 [(0, .ref x0), (1, .int x1), (2, .int x2), (3, .int x3)] [.int z4, .int z5, .int z6] g7 (j z4 z5 z6 g7)) (fun z4 z5 z6 g7 => ?_) (fun j8 h_j8 => ?_)
    · skip
      refine r_iconst (v := (1 : Int32)) (pc := 47) dX5_logOf_47 (by decide) ?_
      refine r_isub (pc := 48) dX5_logOf_48 ?_
      refine r_cI (pc := 49) (rest := []) (run_S (n := 3) (As := [.int z6, .int z5, .int (z4 - (1 : Int32))]) (rest := []) (t_X5_in γ l hl z6 z5 (z4 - (1 : Int32)) g7) dX5_logOf_49 q3455 q3456 q121 q3457 (by decide +kernel) rfl (Nat.le_of_ble_eq_true rfl) (Nat.le_of_ble_eq_true rfl) rfl (Nat.le_of_ble_eq_true rfl)) (fun v10 g9 => ?_)
      refine r_if_ne (tgt := 61) (pc := 52) dX5_logOf_52 (by decide) ?_ ?_
      · skip
        refine r_aload_n (pc := 55) dX5_logOf_55 rfl 0 rfl ?_
        refine r_iconst (v := (2 : Int32)) (pc := 56) dX5_logOf_56 (by decide) ?_
        refine r_cI (pc := 57) (rest := []) (RunOK_chk (fun h => run_V (n := 1) (c9 := 8) (As := [.int (2 : Int32)]) (rest := []) (t_X5_raises γ l hl x0 (2 : Int32) g9) dX5_logOf_57 q3458 q3460 qs53 q121 q3461 (by decide +kernel) rfl h ⟨rfl, by decide, by decide⟩ (Nat.le_of_ble_eq_true rfl) (Nat.le_of_ble_eq_true rfl) rfl (Nat.le_of_ble_eq_true rfl))) (fun v12 g11 => ?_)
        exact r_iret (pc := 60) dX5_logOf_60 rfl
      · skip
        refine r_iload_n (pc := 61) dX5_logOf_61 rfl 3 rfl ?_
        refine r_iconst (v := (0 : Int32)) (pc := 62) dX5_logOf_62 (by decide) ?_
        refine r_iconst (v := (2 : Int32)) (pc := 63) dX5_logOf_63 (by decide) ?_
        refine r_cI (pc := 64) (rest := []) (run_S (n := 3) (As := [.int x3, .int (0 : Int32), .int (2 : Int32)]) (rest := []) (t_X5_in γ l hl x3 (0 : Int32) (2 : Int32) g9) dX5_logOf_64 q3455 q3456 q121 q3457 (by decide +kernel) rfl (Nat.le_of_ble_eq_true rfl) (Nat.le_of_ble_eq_true rfl) rfl (Nat.le_of_ble_eq_true rfl)) (fun v14 g13 => ?_)
        refine r_if_eq (tgt := 94) (pc := 67) dX5_logOf_67 (by decide) ?_ ?_
        · skip
          refine r_aload_n (pc := 94) dX5_logOf_94 rfl 0 rfl ?_
          refine r_iconst (v := (3 : Int32)) (pc := 95) dX5_logOf_95 (by decide) ?_
          refine r_cI (pc := 96) (rest := []) (RunOK_chk (fun h => run_V (n := 1) (c9 := 8) (As := [.int (3 : Int32)]) (rest := []) (t_X5_raises γ l hl x0 (3 : Int32) g13) dX5_logOf_96 q3458 q3460 qs53 q121 q3461 (by decide +kernel) rfl h ⟨rfl, by decide, by decide⟩ (Nat.le_of_ble_eq_true rfl) (Nat.le_of_ble_eq_true rfl) rfl (Nat.le_of_ble_eq_true rfl))) (fun v16 g15 => ?_)
          exact r_iret (pc := 99) dX5_logOf_99 rfl
        · skip
          refine r_aload_n (pc := 70) dX5_logOf_70 rfl 0 rfl ?_
          refine r_getR (f := 30) (pc := 71) dX5_logOf_71 q3378 (Or.inl rfl) rfl (fun v17 => ?_)
          refine r_sipush (v := (321 : Int32)) (pc := 74) dX5_logOf_74 (by decide) ?_
          refine r_iconst (v := (3 : Int32)) (pc := 77) dX5_logOf_77 (by decide) ?_
          refine r_bipush (v := (16 : Int32)) (pc := 78) dX5_logOf_78 (by decide) ?_
          refine r_iload_n (pc := 80) dX5_logOf_80 rfl 1 rfl ?_
          refine r_iconst (v := (1 : Int32)) (pc := 81) dX5_logOf_81 (by decide) ?_
          refine r_iadd (pc := 82) dX5_logOf_82 ?_
          refine r_imul (pc := 83) dX5_logOf_83 ?_
          refine r_iload_n (pc := 84) dX5_logOf_84 rfl 2 rfl ?_
          refine r_iadd (pc := 85) dX5_logOf_85 ?_
          refine r_imul (pc := 86) dX5_logOf_86 ?_
          refine r_iadd (pc := 87) dX5_logOf_87 ?_
          refine r_iload_n (pc := 88) dX5_logOf_88 rfl 3 rfl ?_
          refine r_iadd (pc := 89) dX5_logOf_89 ?_
          refine r_iald (pc := 90) dX5_logOf_90 (fun v18 => ?_)
          refine r_goto (tgt := 99) (pc := 91) dX5_logOf_91 (by decide) ?_
          exact r_iret (pc := 99) dX5_logOf_99 rfl
    · skip
      refine r_icmp_ne (tgt := 41) (pc := 28) dX5_logOf_28 (by decide) ?_ ?_
      · skip
        refine r_aload_n (pc := 31) dX5_logOf_31 rfl 0 rfl ?_
        refine r_getR (f := 30) (pc := 32) dX5_logOf_32 q3378 (Or.inl rfl) rfl (fun v19 => ?_)
        refine r_bipush (v := (6 : Int32)) (pc := 35) dX5_logOf_35 (by decide) ?_
        refine r_iald (pc := 37) dX5_logOf_37 (fun v20 => ?_)
        refine r_goto (tgt := 47) (pc := 38) dX5_logOf_38 (by decide) ?_
        exact h_j8 v20 (0 : Int32) x2 g2
      · skip
        refine r_aload_n (pc := 41) dX5_logOf_41 rfl 0 rfl ?_
        refine r_iload_n (pc := 42) dX5_logOf_42 rfl 1 rfl ?_
        refine r_iconst (v := (2 : Int32)) (pc := 43) dX5_logOf_43 (by decide) ?_
        refine r_cI (pc := 44) (rest := [.int (0 : Int32), .int x2]) (RunOK_chk (fun h => run_V (n := 2) (c9 := 8) (As := [.int x1, .int (2 : Int32)]) (rest := [.int (0 : Int32), .int x2]) (t_X5_cook_2 γ l hl x0 x1 (2 : Int32) g2) dX5_logOf_44 q3483 q3485 qs58 q121 q3486 (by decide +kernel) rfl h ⟨rfl, by decide, by decide⟩ (Nat.le_of_ble_eq_true rfl) (Nat.le_of_ble_eq_true rfl) rfl (Nat.le_of_ble_eq_true rfl))) (fun v22 g21 => ?_)
        exact h_j8 v22 (0 : Int32) x2 g21
  · skip
    refine r_icmp_eq (tgt := 24) (pc := 7) dX5_logOf_7 (by decide) ?_ ?_
    · skip
      exact h_j3 g1
    · skip
      refine r_aload_n (pc := 10) dX5_logOf_10 rfl 0 rfl ?_
      refine r_iload_n (pc := 11) dX5_logOf_11 rfl 1 rfl ?_
      refine r_cI (pc := 12) (rest := []) (RunOK_chk (fun h => run_V (n := 1) (c9 := 8) (As := [.int x1]) (rest := []) (t_X5_isCook γ l hl x0 x1 g1) dX5_logOf_12 q3479 q3481 qs57 q121 q3482 (by decide +kernel) rfl h ⟨rfl, by decide, by decide⟩ (Nat.le_of_ble_eq_true rfl) (Nat.le_of_ble_eq_true rfl) rfl (Nat.le_of_ble_eq_true rfl))) (fun v24 g23 => ?_)
      refine r_if_ne (tgt := 24) (pc := 15) dX5_logOf_15 (by decide) ?_ ?_
      · skip
        refine r_aload_n (pc := 18) dX5_logOf_18 rfl 0 rfl ?_
        refine r_iconst (v := (1 : Int32)) (pc := 19) dX5_logOf_19 (by decide) ?_
        refine r_cI (pc := 20) (rest := []) (RunOK_chk (fun h => run_V (n := 1) (c9 := 8) (As := [.int (1 : Int32)]) (rest := []) (t_X5_raises γ l hl x0 (1 : Int32) g23) dX5_logOf_20 q3458 q3460 qs53 q121 q3461 (by decide +kernel) rfl h ⟨rfl, by decide, by decide⟩ (Nat.le_of_ble_eq_true rfl) (Nat.le_of_ble_eq_true rfl) rfl (Nat.le_of_ble_eq_true rfl))) (fun v26 g25 => ?_)
        exact r_iret (pc := 23) dX5_logOf_23 rfl
      · skip
        exact h_j3 g23
abbrev ck_X5_isAhead : CK := ("BanquetVotesModel", prog_25_method_71_code, 4, (some .boolean), "isAhead", [], 3)
def f_X5_isAhead (γ : GP) (x0 : Nat) (x1 : Int32) (x2 : Int32) (g : AH) : Option (Int32 × AH) := bI ((if hK g x0 = 8 then f_X5_served γ x0 x1 g else none)) fun v2 g1 => bI ((if hK g1 x0 = 8 then f_X5_served γ x0 x2 g1 else none)) fun v4 g3 => jn (fun (y5 : Int32) (g6 : AH) => (if 0 < y5 then (rtN .boolean (1 : Int32) g6) else (if y5 = 0 then (if x2 ≤ x1 then (rtN .boolean (0 : Int32) g6) else (rtN .boolean (1 : Int32) g6)) else (rtN .boolean (0 : Int32) g6)))) (fun (j7 : Int32 → AH → Option (Int32 × AH)) => (if (v2 - v4) = 0 then bI ((if hK g3 x0 = 8 then f_X5_cook_2 γ x0 x2 (0 : Int32) g3 else none)) fun v9 g8 => bI ((if hK g8 x0 = 8 then f_X5_cook_2 γ x0 x1 (0 : Int32) g8 else none)) fun v11 g10 => j7 (v9 - v11) g10 else j7 (v2 - v4) g3))
theorem t_X5_isAhead (γ : GP) (l : Launch) (hl : l.stackTraces = false) (x0 : Nat) (x1 : Int32) (x2 : Int32) (g : AH) : TrM ρI γ l ⟨"BanquetVotesModel", "isAhead", "(II)Z"⟩ (ws_ ⟨"BanquetVotesModel", "isAhead", "(II)Z"⟩ prog_25_method_71_code 4 (some .boolean)) 3 [.ref x0, .int x1, .int x2] g (f_X5_isAhead γ x0 x1 x2 g) := by
  refine TrM_of (plainFor_of_name (by decide)) (Nat.le_of_ble_eq_true rfl) ?_
  unfold f_X5_isAhead
  change AW ρI γ l ck_X5_isAhead g 0 [(0, .ref x0), (1, .int x1), (2, .int x2)] [] g _
  refine r_aload_n (pc := 0) dX5_isAhead_0 rfl 0 rfl ?_
  refine r_iload_n (pc := 1) dX5_isAhead_1 rfl 1 rfl ?_
  refine r_cI (pc := 2) (rest := []) (RunOK_chk (fun h => run_V (n := 1) (c9 := 8) (As := [.int x1]) (rest := []) (t_X5_served γ l hl x0 x1 g) dX5_isAhead_2 q3511 q3513 qs64 q121 q3514 (by decide +kernel) rfl h ⟨rfl, by decide, by decide⟩ (Nat.le_of_ble_eq_true rfl) (Nat.le_of_ble_eq_true rfl) rfl (Nat.le_of_ble_eq_true rfl))) (fun v2 g1 => ?_)
  refine r_aload_n (pc := 5) dX5_isAhead_5 rfl 0 rfl ?_
  refine r_iload_n (pc := 6) dX5_isAhead_6 rfl 2 rfl ?_
  refine r_cI (pc := 7) (rest := [.int v2]) (RunOK_chk (fun h => run_V (n := 1) (c9 := 8) (As := [.int x2]) (rest := [.int v2]) (t_X5_served γ l hl x0 x2 g1) dX5_isAhead_7 q3511 q3513 qs64 q121 q3514 (by decide +kernel) rfl h ⟨rfl, by decide, by decide⟩ (Nat.le_of_ble_eq_true rfl) (Nat.le_of_ble_eq_true rfl) rfl (Nat.le_of_ble_eq_true rfl))) (fun v4 g3 => ?_)
  refine r_isub (pc := 10) dX5_isAhead_10 ?_
  refine r_istore_n (pc := 11) dX5_isAhead_11 rfl (Nat.le_of_ble_eq_true rfl) rfl ?_
  refine r_iload_n (pc := 12) dX5_isAhead_12 rfl 0 rfl ?_
  refine AW_jn (P := fun (j : Int32 → AH → Option (Int32 × AH)) => ∀ (y5 : Int32) (g6 : AH), AW ρI γ l ck_X5_isAhead g 30 [(1, .int x1), (2, .int x2), (3, .int y5)] [] g6 (j y5 g6)) (fun y5 g6 => ?_) (fun j7 h_j7 => ?_)
  · skip
    refine r_iload_n (pc := 30) dX5_isAhead_30 rfl 2 rfl ?_
    refine r_if_gt (tgt := 43) (pc := 31) dX5_isAhead_31 (by decide) ?_ ?_
    · skip
      refine r_iconst (v := (1 : Int32)) (pc := 43) dX5_isAhead_43 (by decide) ?_
      refine r_goto (tgt := 48) (pc := 44) dX5_isAhead_44 (by decide) ?_
      exact r_zret (ty := .boolean) (pc := 48) dX5_isAhead_48 rfl
    · skip
      refine r_iload_n (pc := 34) dX5_isAhead_34 rfl 2 rfl ?_
      refine r_if_ne (tgt := 47) (pc := 35) dX5_isAhead_35 (by decide) ?_ ?_
      · skip
        refine r_iload_n (pc := 38) dX5_isAhead_38 rfl 0 rfl ?_
        refine r_iload_n (pc := 39) dX5_isAhead_39 rfl 1 rfl ?_
        refine r_icmp_ge (tgt := 47) (pc := 40) dX5_isAhead_40 (by decide) ?_ ?_
        · skip
          refine r_iconst (v := (0 : Int32)) (pc := 47) dX5_isAhead_47 (by decide) ?_
          exact r_zret (ty := .boolean) (pc := 48) dX5_isAhead_48 rfl
        · skip
          refine r_iconst (v := (1 : Int32)) (pc := 43) dX5_isAhead_43 (by decide) ?_
          refine r_goto (tgt := 48) (pc := 44) dX5_isAhead_44 (by decide) ?_
          exact r_zret (ty := .boolean) (pc := 48) dX5_isAhead_48 rfl
      · skip
        refine r_iconst (v := (0 : Int32)) (pc := 47) dX5_isAhead_47 (by decide) ?_
        exact r_zret (ty := .boolean) (pc := 48) dX5_isAhead_48 rfl
  · skip
    refine r_if_ne (tgt := 30) (pc := 13) dX5_isAhead_13 (by decide) ?_ ?_
    · skip
      refine r_aload_n (pc := 16) dX5_isAhead_16 rfl 1 rfl ?_
      refine r_iload_n (pc := 17) dX5_isAhead_17 rfl 3 rfl ?_
      refine r_iconst (v := (0 : Int32)) (pc := 18) dX5_isAhead_18 (by decide) ?_
      refine r_cI (pc := 19) (rest := []) (RunOK_chk (fun h => run_V (n := 2) (c9 := 8) (As := [.int x2, .int (0 : Int32)]) (rest := []) (t_X5_cook_2 γ l hl x0 x2 (0 : Int32) g3) dX5_isAhead_19 q3483 q3485 qs58 q121 q3486 (by decide +kernel) rfl h ⟨rfl, by decide, by decide⟩ (Nat.le_of_ble_eq_true rfl) (Nat.le_of_ble_eq_true rfl) rfl (Nat.le_of_ble_eq_true rfl))) (fun v9 g8 => ?_)
      refine r_aload_n (pc := 22) dX5_isAhead_22 rfl 1 rfl ?_
      refine r_iload_n (pc := 23) dX5_isAhead_23 rfl 2 rfl ?_
      refine r_iconst (v := (0 : Int32)) (pc := 24) dX5_isAhead_24 (by decide) ?_
      refine r_cI (pc := 25) (rest := [.int v9]) (RunOK_chk (fun h => run_V (n := 2) (c9 := 8) (As := [.int x1, .int (0 : Int32)]) (rest := [.int v9]) (t_X5_cook_2 γ l hl x0 x1 (0 : Int32) g8) dX5_isAhead_25 q3483 q3485 qs58 q121 q3486 (by decide +kernel) rfl h ⟨rfl, by decide, by decide⟩ (Nat.le_of_ble_eq_true rfl) (Nat.le_of_ble_eq_true rfl) rfl (Nat.le_of_ble_eq_true rfl))) (fun v11 g10 => ?_)
      refine r_isub (pc := 28) dX5_isAhead_28 ?_
      refine r_istore_n (pc := 29) dX5_isAhead_29 rfl (Nat.le_of_ble_eq_true rfl) rfl ?_
      refine AW_sub [2, 3, 0] rfl ?_
      exact h_j7 (v9 - v11) g10
    · skip
      refine AW_sub [2, 3, 0] rfl ?_
      exact h_j7 (v2 - v4) g3
abbrev ck_X5_ranked : CK := ("BanquetVotesModel", prog_25_method_72_code, 5, (some .int), "ranked", [], 4)
def f_X5_ranked_L22 (γ : GP) (x0 : Nat) (x1 : Int32) (x2 : Int32) (K58 : Int32 → AH → Option (Int32 × AH)) : Nat → Int32 → Int32 → AH → Option (Int32 × AH)
  | 0, _, _, _ => none
  | n + 1, x3, x4, g => gR g x0 30 fun v4 => gA g 101 v4 (1 : Int32) fun v5 => (if v5 ≤ x4 then K58 x3 g else (if x4 = x2 then f_X5_ranked_L22 γ x0 x1 x2 K58 n x3 (x4 + (1 : Int32)) g else bI ((if hK g x0 = 8 then f_X5_isAhead γ x0 x4 x2 g else none)) fun v7 g6 => (if v7 = 0 then f_X5_ranked_L22 γ x0 x1 x2 K58 n x3 (x4 + (1 : Int32)) g6 else f_X5_ranked_L22 γ x0 x1 x2 K58 n (x3 + (1 : Int32)) (x4 + (1 : Int32)) g6)))
def f_X5_ranked_L7 (γ : GP) (x0 : Nat) (x1 : Int32) (K71 : AH → Option (Int32 × AH)) : Nat → Int32 → AH → Option (Int32 × AH)
  | 0, _, _ => none
  | n + 1, x2, g => gR g x0 30 fun v2 => gA g 101 v2 (1 : Int32) fun v3 => (if v3 ≤ x2 then K71 g else f_X5_ranked_L22 γ x0 x1 x2 (fun (y8 : Int32) (g9 : AH) => (if y8 = x1 then (some (x2, g9)) else f_X5_ranked_L7 γ x0 x1 K71 n (x2 + (1 : Int32)) g9)) FU (0 : Int32) (0 : Int32) g)
def f_X5_ranked (γ : GP) (x0 : Nat) (x1 : Int32) (g : AH) : Option (Int32 × AH) := pI γ g x0 50 (0 : Int32) fun g1 => f_X5_ranked_L7 γ x0 x1 (fun (g10 : AH) => bI ((if hK g10 x0 = 8 then f_X5_raises γ x0 (1 : Int32) g10 else none)) fun v12 g11 => (some (v12, g11))) FU (0 : Int32) g1
theorem f_X5_ranked_L22_w (γ : GP) (l : Launch) (hl : l.stackTraces = false) (G0 : AH) (x0 : Nat) (x1 : Int32) (x2 : Int32) (K58 : Int32 → AH → Option (Int32 × AH)) (h_K58 : ∀ (y3 : Int32) (g : AH), AW ρI γ l ck_X5_ranked G0 58 [(0, .ref x0), (1, .int x1), (2, .int x2), (3, .int y3)] [] g (K58 y3 g)) : ∀ (n : Nat) (x3 : Int32) (x4 : Int32) (g : AH), AW ρI γ l ck_X5_ranked G0 22 [(0, .ref x0), (1, .int x1), (2, .int x2), (3, .int x3), (4, .int x4)] [] g (f_X5_ranked_L22 γ x0 x1 x2 K58 n x3 x4 g) := by
  intro n
  induction n with
  | zero => intro x3 x4 g; exact AW_none
  | succ n ih =>
    intro x3 x4 g
    unfold f_X5_ranked_L22
    refine r_iload (pc := 22) dX5_ranked_22 4 rfl ?_
    refine r_aload_n (pc := 24) dX5_ranked_24 rfl 0 rfl ?_
    refine r_getR (f := 30) (pc := 25) dX5_ranked_25 q3378 (Or.inl rfl) rfl (fun v4 => ?_)
    refine r_iconst (v := (1 : Int32)) (pc := 28) dX5_ranked_28 (by decide) ?_
    refine r_iald (pc := 29) dX5_ranked_29 (fun v5 => ?_)
    refine r_icmp_ge (tgt := 58) (pc := 30) dX5_ranked_30 (by decide) ?_ ?_
    · skip
      refine AW_sub [0, 1, 2, 3] rfl ?_
      exact h_K58 x3 g
    · skip
      refine r_iload (pc := 33) dX5_ranked_33 4 rfl ?_
      refine r_iload_n (pc := 35) dX5_ranked_35 rfl 2 rfl ?_
      refine r_icmp_eq (tgt := 52) (pc := 36) dX5_ranked_36 (by decide) ?_ ?_
      · skip
        refine r_iinc (j := 4) (v := (x4 + (1 : Int32))) (pc := 52) dX5_ranked_52 rfl rfl (Nat.le_of_ble_eq_true rfl) rfl ?_
        refine r_goto (tgt := 22) (pc := 55) dX5_ranked_55 (by decide) ?_
        refine AW_sub [1, 2, 3, 4, 0] rfl ?_
        exact ih x3 (x4 + (1 : Int32)) g
      · skip
        refine r_aload_n (pc := 39) dX5_ranked_39 rfl 0 rfl ?_
        refine r_iload (pc := 40) dX5_ranked_40 4 rfl ?_
        refine r_iload_n (pc := 42) dX5_ranked_42 rfl 2 rfl ?_
        refine r_cI (pc := 43) (rest := []) (RunOK_chk (fun h => run_V (n := 2) (c9 := 8) (As := [.int x4, .int x2]) (rest := []) (t_X5_isAhead γ l hl x0 x4 x2 g) dX5_ranked_43 q3716 q3718 qs97 q121 q3719 (by decide +kernel) rfl h ⟨rfl, by decide, by decide⟩ (Nat.le_of_ble_eq_true rfl) (Nat.le_of_ble_eq_true rfl) rfl (Nat.le_of_ble_eq_true rfl))) (fun v7 g6 => ?_)
        refine r_if_eq (tgt := 52) (pc := 46) dX5_ranked_46 (by decide) ?_ ?_
        · skip
          refine r_iinc (j := 4) (v := (x4 + (1 : Int32))) (pc := 52) dX5_ranked_52 rfl rfl (Nat.le_of_ble_eq_true rfl) rfl ?_
          refine r_goto (tgt := 22) (pc := 55) dX5_ranked_55 (by decide) ?_
          refine AW_sub [1, 2, 3, 4, 0] rfl ?_
          exact ih x3 (x4 + (1 : Int32)) g6
        · skip
          refine r_iinc (j := 3) (v := (x3 + (1 : Int32))) (pc := 49) dX5_ranked_49 rfl rfl (Nat.le_of_ble_eq_true rfl) rfl ?_
          refine r_iinc (j := 4) (v := (x4 + (1 : Int32))) (pc := 52) dX5_ranked_52 rfl rfl (Nat.le_of_ble_eq_true rfl) rfl ?_
          refine r_goto (tgt := 22) (pc := 55) dX5_ranked_55 (by decide) ?_
          refine AW_sub [2, 3, 4, 1, 0] rfl ?_
          exact ih (x3 + (1 : Int32)) (x4 + (1 : Int32)) g6
theorem f_X5_ranked_L7_w (γ : GP) (l : Launch) (hl : l.stackTraces = false) (G0 : AH) (x0 : Nat) (x1 : Int32) (K71 : AH → Option (Int32 × AH)) (h_K71 : ∀ (g : AH), AW ρI γ l ck_X5_ranked G0 71 [(0, .ref x0)] [] g (K71 g)) : ∀ (n : Nat) (x2 : Int32) (g : AH), AW ρI γ l ck_X5_ranked G0 7 [(0, .ref x0), (1, .int x1), (2, .int x2)] [] g (f_X5_ranked_L7 γ x0 x1 K71 n x2 g) := by
  intro n
  induction n with
  | zero => intro x2 g; exact AW_none
  | succ n ih =>
    intro x2 g
    unfold f_X5_ranked_L7
    refine r_iload_n (pc := 7) dX5_ranked_7 rfl 2 rfl ?_
    refine r_aload_n (pc := 8) dX5_ranked_8 rfl 0 rfl ?_
    refine r_getR (f := 30) (pc := 9) dX5_ranked_9 q3378 (Or.inl rfl) rfl (fun v2 => ?_)
    refine r_iconst (v := (1 : Int32)) (pc := 12) dX5_ranked_12 (by decide) ?_
    refine r_iald (pc := 13) dX5_ranked_13 (fun v3 => ?_)
    refine r_icmp_ge (tgt := 71) (pc := 14) dX5_ranked_14 (by decide) ?_ ?_
    · skip
      refine AW_sub [0] rfl ?_
      exact h_K71 g
    · skip
      refine r_iconst (v := (0 : Int32)) (pc := 17) dX5_ranked_17 (by decide) ?_
      refine r_istore_n (pc := 18) dX5_ranked_18 rfl (Nat.le_of_ble_eq_true rfl) rfl ?_
      refine r_iconst (v := (0 : Int32)) (pc := 19) dX5_ranked_19 (by decide) ?_
      refine r_istore (pc := 20) dX5_ranked_20 (Nat.le_of_ble_eq_true rfl) rfl ?_
      refine AW_sub [2, 3, 4, 1, 0] rfl ?_
      refine f_X5_ranked_L22_w γ l hl _ x0 x1 x2 _ ?_ FU (0 : Int32) (0 : Int32) g
      · intro y8 g9
        refine r_iload_n (pc := 58) dX5_ranked_58 rfl 3 rfl ?_
        refine r_iload_n (pc := 59) dX5_ranked_59 rfl 1 rfl ?_
        refine r_icmp_ne (tgt := 65) (pc := 60) dX5_ranked_60 (by decide) ?_ ?_
        · skip
          refine r_iload_n (pc := 63) dX5_ranked_63 rfl 2 rfl ?_
          exact r_iret (pc := 64) dX5_ranked_64 rfl
        · skip
          refine r_iinc (j := 2) (v := (x2 + (1 : Int32))) (pc := 65) dX5_ranked_65 rfl rfl (Nat.le_of_ble_eq_true rfl) rfl ?_
          refine r_goto (tgt := 7) (pc := 68) dX5_ranked_68 (by decide) ?_
          refine AW_sub [1, 2, 0] rfl ?_
          exact ih (x2 + (1 : Int32)) g9
theorem t_X5_ranked (γ : GP) (l : Launch) (hl : l.stackTraces = false) (x0 : Nat) (x1 : Int32) (g : AH) : TrM ρI γ l ⟨"BanquetVotesModel", "ranked", "(I)I"⟩ (ws_ ⟨"BanquetVotesModel", "ranked", "(I)I"⟩ prog_25_method_72_code 5 (some .int)) 4 [.ref x0, .int x1] g (f_X5_ranked γ x0 x1 g) := by
  refine TrM_of (plainFor_of_name (by decide)) (Nat.le_of_ble_eq_true rfl) ?_
  unfold f_X5_ranked
  change AW ρI γ l ck_X5_ranked g 0 [(0, .ref x0), (1, .int x1)] [] g _
  refine r_aload_n (pc := 0) dX5_ranked_0 rfl 0 rfl ?_
  refine r_iconst (v := (0 : Int32)) (pc := 1) dX5_ranked_1 (by decide) ?_
  refine r_putI (f := 50) (pc := 2) dX5_ranked_2 q3398 (Or.inl rfl) (Or.inl rfl) rfl (fun g1 => ?_)
  refine r_iconst (v := (0 : Int32)) (pc := 5) dX5_ranked_5 (by decide) ?_
  refine r_istore_n (pc := 6) dX5_ranked_6 rfl (Nat.le_of_ble_eq_true rfl) rfl ?_
  refine AW_sub [1, 2, 0] rfl ?_
  refine f_X5_ranked_L7_w γ l hl _ x0 x1 _ ?_ FU (0 : Int32) g1
  · intro g10
    refine r_aload_n (pc := 71) dX5_ranked_71 rfl 0 rfl ?_
    refine r_iconst (v := (1 : Int32)) (pc := 72) dX5_ranked_72 (by decide) ?_
    refine r_cI (pc := 73) (rest := []) (RunOK_chk (fun h => run_V (n := 1) (c9 := 8) (As := [.int (1 : Int32)]) (rest := []) (t_X5_raises γ l hl x0 (1 : Int32) g10) dX5_ranked_73 q3458 q3460 qs53 q121 q3461 (by decide +kernel) rfl h ⟨rfl, by decide, by decide⟩ (Nat.le_of_ble_eq_true rfl) (Nat.le_of_ble_eq_true rfl) rfl (Nat.le_of_ble_eq_true rfl))) (fun v12 g11 => ?_)
    exact r_iret (pc := 76) dX5_ranked_76 rfl
abbrev ck_X5_type : CK := ("BanquetVotesModel", prog_25_method_73_code, 2, (some .int), "type", [], 2)
def f_X5_type (γ : GP) (x0 : Nat) (x1 : Int32) (g : AH) : Option (Int32 × AH) := pI γ g x0 50 (0 : Int32) fun g1 => gI g1 x0 40 fun v2 => (if v2 = (60 : Int32) then bI ((if hK g1 x0 = 8 then f_X5_raises γ x0 (1 : Int32) g1 else none)) fun v4 g3 => (some (v4, g3)) else gR g1 x0 39 fun v5 => gI g1 x0 40 fun v6 => pI γ g1 x0 40 (v6 + (1 : Int32)) fun g7 => pA γ g7 103 v5 v6 x1 fun g8 => gI g8 x0 40 fun v9 => (some (v9, g8)))
theorem t_X5_type (γ : GP) (l : Launch) (hl : l.stackTraces = false) (x0 : Nat) (x1 : Int32) (g : AH) : TrM ρI γ l ⟨"BanquetVotesModel", "type", "(C)I"⟩ (ws_ ⟨"BanquetVotesModel", "type", "(C)I"⟩ prog_25_method_73_code 2 (some .int)) 2 [.ref x0, .int x1] g (f_X5_type γ x0 x1 g) := by
  refine TrM_of (plainFor_of_name (by decide)) (Nat.le_of_ble_eq_true rfl) ?_
  unfold f_X5_type
  change AW ρI γ l ck_X5_type g 0 [(0, .ref x0), (1, .int x1)] [] g _
  refine r_aload_n (pc := 0) dX5_type_0 rfl 0 rfl ?_
  refine r_iconst (v := (0 : Int32)) (pc := 1) dX5_type_1 (by decide) ?_
  refine r_putI (f := 50) (pc := 2) dX5_type_2 q3398 (Or.inl rfl) (Or.inl rfl) rfl (fun g1 => ?_)
  refine r_aload_n (pc := 5) dX5_type_5 rfl 0 rfl ?_
  refine r_getI (f := 40) (pc := 6) dX5_type_6 q3388 (Or.inl rfl) rfl (fun v2 => ?_)
  refine r_bipush (v := (60 : Int32)) (pc := 9) dX5_type_9 (by decide) ?_
  refine r_icmp_ne (tgt := 20) (pc := 11) dX5_type_11 (by decide) ?_ ?_
  · skip
    refine r_aload_n (pc := 14) dX5_type_14 rfl 0 rfl ?_
    refine r_iconst (v := (1 : Int32)) (pc := 15) dX5_type_15 (by decide) ?_
    refine r_cI (pc := 16) (rest := []) (RunOK_chk (fun h => run_V (n := 1) (c9 := 8) (As := [.int (1 : Int32)]) (rest := []) (t_X5_raises γ l hl x0 (1 : Int32) g1) dX5_type_16 q3458 q3460 qs53 q121 q3461 (by decide +kernel) rfl h ⟨rfl, by decide, by decide⟩ (Nat.le_of_ble_eq_true rfl) (Nat.le_of_ble_eq_true rfl) rfl (Nat.le_of_ble_eq_true rfl))) (fun v4 g3 => ?_)
    exact r_iret (pc := 19) dX5_type_19 rfl
  · skip
    refine r_aload_n (pc := 20) dX5_type_20 rfl 0 rfl ?_
    refine r_getR (f := 39) (pc := 21) dX5_type_21 q3387 (Or.inl rfl) rfl (fun v5 => ?_)
    refine r_aload_n (pc := 24) dX5_type_24 rfl 0 rfl ?_
    refine r_dup (pc := 25) dX5_type_25 rfl ?_
    refine r_getI (f := 40) (pc := 26) dX5_type_26 q3388 (Or.inl rfl) rfl (fun v6 => ?_)
    refine r_dup_x1 (pc := 29) dX5_type_29 rfl rfl ?_
    refine r_iconst (v := (1 : Int32)) (pc := 30) dX5_type_30 (by decide) ?_
    refine r_iadd (pc := 31) dX5_type_31 ?_
    refine r_putI (f := 40) (pc := 32) dX5_type_32 q3388 (Or.inl rfl) (Or.inl rfl) rfl (fun g7 => ?_)
    refine r_iload_n (pc := 35) dX5_type_35 rfl 1 rfl ?_
    refine r_cast (pc := 36) dX5_type_36 (fun g8 => ?_)
    refine r_aload_n (pc := 37) dX5_type_37 rfl 0 rfl ?_
    refine r_getI (f := 40) (pc := 38) dX5_type_38 q3388 (Or.inl rfl) rfl (fun v9 => ?_)
    exact r_iret (pc := 41) dX5_type_41 rfl
abbrev ck_X5_isOneOf : CK := ("BanquetVotesModel", prog_25_method_75_code, 6, (some .boolean), "isOneOf", [], 8)
def f_X5_isOneOf_L24 (γ : GP) (x0 : Nat) (x1 : Nat) (x2 : Int32) (x3 : Int32) (x4 : Int32) (K76 : Int32 → AH → Option (Int32 × AH)) : Nat → Int32 → AH → Option (Int32 × AH)
  | 0, _, _ => none
  | n + 1, x5, g => (if (x4 - x3) ≤ x5 then K76 x5 g else gI g x0 41 fun v7 => gI g x0 40 fun v8 => (if v8 ≤ (v7 + x5) then K76 x5 g else gR g x0 39 fun v9 => gI g x0 41 fun v10 => gA g 103 v9 (v10 + x5) fun v11 => bI ((if hK g x1 = 7 then f_J7_charAt γ x1 (x3 + x5) g else none)) fun v13 g12 => (if v11 = v13 then f_X5_isOneOf_L24 γ x0 x1 x2 x3 x4 K76 n (x5 + (1 : Int32)) g12 else K76 x5 g12)))
def f_X5_isOneOf_L4 (γ : GP) (x0 : Nat) (x1 : Nat) (K85 : Int32 → Int32 → Int32 → AH → Option (Int32 × AH)) : Nat → Int32 → Int32 → AH → Option (Int32 × AH)
  | 0, _, _, _ => none
  | n + 1, x2, x3, g => bI ((if hK g x1 = 7 then f_J7_length γ x1 g else none)) fun v2 g1 => (if v2 ≤ x3 then gI g1 x0 41 fun v3 => pI γ g1 x0 41 (v3 + x2) fun g4 => (rtN .boolean (0 : Int32) g4) else bI ((if hK g1 x1 = 7 then f_J7_indexOf_2 γ x1 (95 : Int32) x3 g1 else none)) fun v6 g5 => f_X5_isOneOf_L24 γ x0 x1 x2 x3 v6 (fun (y14 : Int32) (g15 : AH) => (if y14 = (v6 - x3) then K85 x3 v6 y14 g15 else bI (f_J16_max γ x2 y14 g15) fun v17 g16 => f_X5_isOneOf_L4 γ x0 x1 K85 n v17 (v6 + (1 : Int32)) g16)) FU (0 : Int32) g5)
def f_X5_isOneOf (γ : GP) (x0 : Nat) (x1 : Nat) (g : AH) : Option (Int32 × AH) := f_X5_isOneOf_L4 γ x0 x1 (fun (y18 : Int32) (y19 : Int32) (y20 : Int32) (g21 : AH) => bR ((if hK g21 x1 = 7 then f_J7_substring γ x1 y18 y19 g21 else none)) fun v23 g22 => pR γ g22 x0 42 v23 fun g24 => gI g24 x0 41 fun v25 => pI γ g24 x0 41 (v25 + y20) fun g26 => (rtN .boolean (1 : Int32) g26)) FU (0 : Int32) (0 : Int32) g
theorem f_X5_isOneOf_L24_w (γ : GP) (l : Launch) (hl : l.stackTraces = false) (G0 : AH) (x0 : Nat) (x1 : Nat) (x2 : Int32) (x3 : Int32) (x4 : Int32) (K76 : Int32 → AH → Option (Int32 × AH)) (h_K76 : ∀ (y5 : Int32) (g : AH), AW ρI γ l ck_X5_isOneOf G0 76 [(0, .ref x0), (1, .ref x1), (2, .int x2), (3, .int x3), (4, .int x4), (5, .int y5)] [] g (K76 y5 g)) : ∀ (n : Nat) (x5 : Int32) (g : AH), AW ρI γ l ck_X5_isOneOf G0 24 [(0, .ref x0), (1, .ref x1), (2, .int x2), (3, .int x3), (4, .int x4), (5, .int x5)] [] g (f_X5_isOneOf_L24 γ x0 x1 x2 x3 x4 K76 n x5 g) := by
  intro n
  induction n with
  | zero => intro x5 g; exact AW_none
  | succ n ih =>
    intro x5 g
    unfold f_X5_isOneOf_L24
    refine r_iload (pc := 24) dX5_isOneOf_24 5 rfl ?_
    refine r_iload (pc := 26) dX5_isOneOf_26 4 rfl ?_
    refine r_iload_n (pc := 28) dX5_isOneOf_28 rfl 3 rfl ?_
    refine r_isub (pc := 29) dX5_isOneOf_29 ?_
    refine r_icmp_ge (tgt := 76) (pc := 30) dX5_isOneOf_30 (by decide) ?_ ?_
    · skip
      exact h_K76 x5 g
    · skip
      refine r_aload_n (pc := 33) dX5_isOneOf_33 rfl 0 rfl ?_
      refine r_getI (f := 41) (pc := 34) dX5_isOneOf_34 q3389 (Or.inl rfl) rfl (fun v7 => ?_)
      refine r_iload (pc := 37) dX5_isOneOf_37 5 rfl ?_
      refine r_iadd (pc := 39) dX5_isOneOf_39 ?_
      refine r_aload_n (pc := 40) dX5_isOneOf_40 rfl 0 rfl ?_
      refine r_getI (f := 40) (pc := 41) dX5_isOneOf_41 q3388 (Or.inl rfl) rfl (fun v8 => ?_)
      refine r_icmp_ge (tgt := 76) (pc := 44) dX5_isOneOf_44 (by decide) ?_ ?_
      · skip
        exact h_K76 x5 g
      · skip
        refine r_aload_n (pc := 47) dX5_isOneOf_47 rfl 0 rfl ?_
        refine r_getR (f := 39) (pc := 48) dX5_isOneOf_48 q3387 (Or.inl rfl) rfl (fun v9 => ?_)
        refine r_aload_n (pc := 51) dX5_isOneOf_51 rfl 0 rfl ?_
        refine r_getI (f := 41) (pc := 52) dX5_isOneOf_52 q3389 (Or.inl rfl) rfl (fun v10 => ?_)
        refine r_iload (pc := 55) dX5_isOneOf_55 5 rfl ?_
        refine r_iadd (pc := 57) dX5_isOneOf_57 ?_
        refine r_cald (pc := 58) dX5_isOneOf_58 (fun v11 => ?_)
        refine r_aload_n (pc := 59) dX5_isOneOf_59 rfl 1 rfl ?_
        refine r_iload_n (pc := 60) dX5_isOneOf_60 rfl 3 rfl ?_
        refine r_iload (pc := 61) dX5_isOneOf_61 5 rfl ?_
        refine r_iadd (pc := 63) dX5_isOneOf_63 ?_
        refine r_cI (pc := 64) (rest := [.int v11]) (RunOK_chk (fun h => run_V (n := 1) (c9 := 7) (As := [.int (x3 + x5)]) (rest := [.int v11]) (t_J7_charAt γ l hl x1 (x3 + x5) g) dX5_isOneOf_64 q3778 q3039 q3040 q119 q3041 (by decide +kernel) rfl h ⟨rfl, by decide, by decide⟩ (Nat.le_of_ble_eq_true rfl) (Nat.le_of_ble_eq_true rfl) rfl (Nat.le_of_ble_eq_true rfl))) (fun v13 g12 => ?_)
        refine r_icmp_ne (tgt := 76) (pc := 67) dX5_isOneOf_67 (by decide) ?_ ?_
        · skip
          refine r_iinc (j := 5) (v := (x5 + (1 : Int32))) (pc := 70) dX5_isOneOf_70 rfl rfl (Nat.le_of_ble_eq_true rfl) rfl ?_
          refine r_goto (tgt := 24) (pc := 73) dX5_isOneOf_73 (by decide) ?_
          refine AW_sub [1, 2, 3, 4, 5, 0] rfl ?_
          exact ih (x5 + (1 : Int32)) g12
        · skip
          exact h_K76 x5 g12
theorem f_X5_isOneOf_L4_w (γ : GP) (l : Launch) (hl : l.stackTraces = false) (G0 : AH) (x0 : Nat) (x1 : Nat) (K85 : Int32 → Int32 → Int32 → AH → Option (Int32 × AH)) (h_K85 : ∀ (y3 : Int32) (y4 : Int32) (y5 : Int32) (g : AH), AW ρI γ l ck_X5_isOneOf G0 85 [(0, .ref x0), (1, .ref x1), (3, .int y3), (4, .int y4), (5, .int y5)] [] g (K85 y3 y4 y5 g)) : ∀ (n : Nat) (x2 : Int32) (x3 : Int32) (g : AH), AW ρI γ l ck_X5_isOneOf G0 4 [(0, .ref x0), (1, .ref x1), (2, .int x2), (3, .int x3)] [] g (f_X5_isOneOf_L4 γ x0 x1 K85 n x2 x3 g) := by
  intro n
  induction n with
  | zero => intro x2 x3 g; exact AW_none
  | succ n ih =>
    intro x2 x3 g
    unfold f_X5_isOneOf_L4
    refine r_iload_n (pc := 4) dX5_isOneOf_4 rfl 3 rfl ?_
    refine r_aload_n (pc := 5) dX5_isOneOf_5 rfl 1 rfl ?_
    refine r_cI (pc := 6) (rest := [.int x3]) (RunOK_chk (fun h => run_V (n := 0) (c9 := 7) (As := []) (rest := [.int x3]) (t_J7_length γ l hl x1 g) dX5_isOneOf_6 q3737 q539 q540 q119 q541 (by decide +kernel) rfl h ⟨rfl, by decide, by decide⟩ (Nat.le_of_ble_eq_true rfl) (Nat.le_of_ble_eq_true rfl) rfl (Nat.le_of_ble_eq_true rfl))) (fun v2 g1 => ?_)
    refine r_icmp_ge (tgt := 124) (pc := 9) dX5_isOneOf_9 (by decide) ?_ ?_
    · skip
      refine r_aload_n (pc := 124) dX5_isOneOf_124 rfl 0 rfl ?_
      refine r_dup (pc := 125) dX5_isOneOf_125 rfl ?_
      refine r_getI (f := 41) (pc := 126) dX5_isOneOf_126 q3389 (Or.inl rfl) rfl (fun v3 => ?_)
      refine r_iload_n (pc := 129) dX5_isOneOf_129 rfl 2 rfl ?_
      refine r_iadd (pc := 130) dX5_isOneOf_130 ?_
      refine r_putI (f := 41) (pc := 131) dX5_isOneOf_131 q3389 (Or.inl rfl) (Or.inl rfl) rfl (fun g4 => ?_)
      refine r_iconst (v := (0 : Int32)) (pc := 134) dX5_isOneOf_134 (by decide) ?_
      exact r_zret (ty := .boolean) (pc := 135) dX5_isOneOf_135 rfl
    · skip
      refine r_aload_n (pc := 12) dX5_isOneOf_12 rfl 1 rfl ?_
      refine r_bipush (v := (95 : Int32)) (pc := 13) dX5_isOneOf_13 (by decide) ?_
      refine r_iload_n (pc := 15) dX5_isOneOf_15 rfl 3 rfl ?_
      refine r_cI (pc := 16) (rest := []) (RunOK_chk (fun h => run_V (n := 2) (c9 := 7) (As := [.int (95 : Int32), .int x3]) (rest := []) (t_J7_indexOf_2 γ l hl x1 (95 : Int32) x3 g1) dX5_isOneOf_16 q3738 q3739 q3740 q119 q3741 (by decide +kernel) rfl h ⟨rfl, by decide, by decide⟩ (Nat.le_of_ble_eq_true rfl) (Nat.le_of_ble_eq_true rfl) rfl (Nat.le_of_ble_eq_true rfl))) (fun v6 g5 => ?_)
      refine r_istore (pc := 19) dX5_isOneOf_19 (Nat.le_of_ble_eq_true rfl) rfl ?_
      refine r_iconst (v := (0 : Int32)) (pc := 21) dX5_isOneOf_21 (by decide) ?_
      refine r_istore (pc := 22) dX5_isOneOf_22 (Nat.le_of_ble_eq_true rfl) rfl ?_
      refine AW_sub [2, 3, 4, 5, 1, 0] rfl ?_
      refine f_X5_isOneOf_L24_w γ l hl _ x0 x1 x2 x3 v6 _ ?_ FU (0 : Int32) g5
      · intro y14 g15
        refine r_iload (pc := 76) dX5_isOneOf_76 5 rfl ?_
        refine r_iload (pc := 78) dX5_isOneOf_78 4 rfl ?_
        refine r_iload_n (pc := 80) dX5_isOneOf_80 rfl 3 rfl ?_
        refine r_isub (pc := 81) dX5_isOneOf_81 ?_
        refine r_icmp_ne (tgt := 109) (pc := 82) dX5_isOneOf_82 (by decide) ?_ ?_
        · skip
          refine AW_sub [0, 1, 3, 4, 5] rfl ?_
          exact h_K85 x3 v6 y14 g15
        · skip
          refine r_iload_n (pc := 109) dX5_isOneOf_109 rfl 2 rfl ?_
          refine r_iload (pc := 110) dX5_isOneOf_110 5 rfl ?_
          refine r_cI (pc := 112) (rest := []) (run_S (n := 2) (As := [.int x2, .int y14]) (rest := []) (t_J16_max γ l hl x2 y14 g15) dX5_isOneOf_112 q3800 q484 q129 q485 (by decide +kernel) rfl (Nat.le_of_ble_eq_true rfl) (Nat.le_of_ble_eq_true rfl) rfl (Nat.le_of_ble_eq_true rfl)) (fun v17 g16 => ?_)
          refine r_istore_n (pc := 115) dX5_isOneOf_115 rfl (Nat.le_of_ble_eq_true rfl) rfl ?_
          refine r_iload (pc := 116) dX5_isOneOf_116 4 rfl ?_
          refine r_iconst (v := (1 : Int32)) (pc := 118) dX5_isOneOf_118 (by decide) ?_
          refine r_iadd (pc := 119) dX5_isOneOf_119 ?_
          refine r_istore_n (pc := 120) dX5_isOneOf_120 rfl (Nat.le_of_ble_eq_true rfl) rfl ?_
          refine r_goto (tgt := 4) (pc := 121) dX5_isOneOf_121 (by decide) ?_
          refine AW_sub [2, 3, 1, 0] rfl ?_
          exact ih v17 (v6 + (1 : Int32)) g16
theorem t_X5_isOneOf (γ : GP) (l : Launch) (hl : l.stackTraces = false) (x0 : Nat) (x1 : Nat) (g : AH) : TrM ρI γ l ⟨"BanquetVotesModel", "isOneOf", "(Ljava/lang/String;)Z"⟩ (ws_ ⟨"BanquetVotesModel", "isOneOf", "(Ljava/lang/String;)Z"⟩ prog_25_method_75_code 6 (some .boolean)) 8 [.ref x0, .ref x1] g (f_X5_isOneOf γ x0 x1 g) := by
  refine TrM_of (plainFor_of_name (by decide)) (Nat.le_of_ble_eq_true rfl) ?_
  unfold f_X5_isOneOf
  change AW ρI γ l ck_X5_isOneOf g 0 [(0, .ref x0), (1, .ref x1)] [] g _
  refine r_iconst (v := (0 : Int32)) (pc := 0) dX5_isOneOf_0 (by decide) ?_
  refine r_istore_n (pc := 1) dX5_isOneOf_1 rfl (Nat.le_of_ble_eq_true rfl) rfl ?_
  refine r_iconst (v := (0 : Int32)) (pc := 2) dX5_isOneOf_2 (by decide) ?_
  refine r_istore_n (pc := 3) dX5_isOneOf_3 rfl (Nat.le_of_ble_eq_true rfl) rfl ?_
  refine AW_sub [2, 3, 1, 0] rfl ?_
  refine f_X5_isOneOf_L4_w γ l hl _ x0 x1 _ ?_ FU (0 : Int32) (0 : Int32) g
  · intro y18 y19 y20 g21
    refine r_aload_n (pc := 85) dX5_isOneOf_85 rfl 0 rfl ?_
    refine r_aload_n (pc := 86) dX5_isOneOf_86 rfl 1 rfl ?_
    refine r_iload_n (pc := 87) dX5_isOneOf_87 rfl 2 rfl ?_
    refine r_iload (pc := 88) dX5_isOneOf_88 3 rfl ?_
    refine r_cR (pc := 90) (rest := [.ref x0]) (RunOK_chk (fun h => run_V (n := 2) (c9 := 7) (As := [.int y18, .int y19]) (rest := [.ref x0]) (t_J7_substring γ l hl x1 y18 y19 g21) dX5_isOneOf_90 q3779 q3780 q3781 q119 q3782 (by decide +kernel) rfl h ⟨rfl, by decide, by decide⟩ (Nat.le_of_ble_eq_true rfl) (Nat.le_of_ble_eq_true rfl) rfl (Nat.le_of_ble_eq_true rfl))) (fun v23 g22 => ?_)
    refine r_putR (f := 42) (pc := 93) dX5_isOneOf_93 q3390 (Or.inl rfl) (Or.inl rfl) rfl (fun g24 => ?_)
    refine r_aload_n (pc := 96) dX5_isOneOf_96 rfl 0 rfl ?_
    refine r_dup (pc := 97) dX5_isOneOf_97 rfl ?_
    refine r_getI (f := 41) (pc := 98) dX5_isOneOf_98 q3389 (Or.inl rfl) rfl (fun v25 => ?_)
    refine r_iload (pc := 101) dX5_isOneOf_101 4 rfl ?_
    refine r_iadd (pc := 103) dX5_isOneOf_103 ?_
    refine r_putI (f := 41) (pc := 104) dX5_isOneOf_104 q3389 (Or.inl rfl) (Or.inl rfl) rfl (fun g26 => ?_)
    refine r_iconst (v := (1 : Int32)) (pc := 107) dX5_isOneOf_107 (by decide) ?_
    exact r_zret (ty := .boolean) (pc := 108) dX5_isOneOf_108 rfl
abbrev ck_X5_digit : CK := ("BanquetVotesModel", prog_25_method_76_code, 2, (some .boolean), "digit", [], 2)
def f_X5_digit (γ : GP) (x0 : Nat) (x1 : Int32) (g : AH) : Option (Int32 × AH) := gI g x0 41 fun v1 => gI g x0 40 fun v2 => (if v1 = v2 then (rtN .boolean (0 : Int32) g) else gR g x0 39 fun v3 => gI g x0 41 fun v4 => gA g 103 v3 v4 fun v5 => bI (f_X5_in γ v5 (48 : Int32) (57 : Int32) g) fun v7 g6 => (if v7 = 0 then (rtN .boolean (0 : Int32) g6) else gR g6 x0 43 fun v8 => gR g6 x0 39 fun v9 => gI g6 x0 41 fun v10 => pI γ g6 x0 41 (v10 + (1 : Int32)) fun g11 => gA g11 103 v9 v10 fun v12 => pA γ g11 101 v8 x1 (v12 - (48 : Int32)) fun g13 => (rtN .boolean (1 : Int32) g13)))
theorem t_X5_digit (γ : GP) (l : Launch) (hl : l.stackTraces = false) (x0 : Nat) (x1 : Int32) (g : AH) : TrM ρI γ l ⟨"BanquetVotesModel", "digit", "(I)Z"⟩ (ws_ ⟨"BanquetVotesModel", "digit", "(I)Z"⟩ prog_25_method_76_code 2 (some .boolean)) 2 [.ref x0, .int x1] g (f_X5_digit γ x0 x1 g) := by
  refine TrM_of (plainFor_of_name (by decide)) (Nat.le_of_ble_eq_true rfl) ?_
  unfold f_X5_digit
  change AW ρI γ l ck_X5_digit g 0 [(0, .ref x0), (1, .int x1)] [] g _
  refine r_aload_n (pc := 0) dX5_digit_0 rfl 0 rfl ?_
  refine r_getI (f := 41) (pc := 1) dX5_digit_1 q3389 (Or.inl rfl) rfl (fun v1 => ?_)
  refine r_aload_n (pc := 4) dX5_digit_4 rfl 0 rfl ?_
  refine r_getI (f := 40) (pc := 5) dX5_digit_5 q3388 (Or.inl rfl) rfl (fun v2 => ?_)
  refine r_icmp_eq (tgt := 30) (pc := 8) dX5_digit_8 (by decide) ?_ ?_
  · skip
    refine r_iconst (v := (0 : Int32)) (pc := 30) dX5_digit_30 (by decide) ?_
    exact r_zret (ty := .boolean) (pc := 31) dX5_digit_31 rfl
  · skip
    refine r_aload_n (pc := 11) dX5_digit_11 rfl 0 rfl ?_
    refine r_getR (f := 39) (pc := 12) dX5_digit_12 q3387 (Or.inl rfl) rfl (fun v3 => ?_)
    refine r_aload_n (pc := 15) dX5_digit_15 rfl 0 rfl ?_
    refine r_getI (f := 41) (pc := 16) dX5_digit_16 q3389 (Or.inl rfl) rfl (fun v4 => ?_)
    refine r_cald (pc := 19) dX5_digit_19 (fun v5 => ?_)
    refine r_bipush (v := (48 : Int32)) (pc := 20) dX5_digit_20 (by decide) ?_
    refine r_bipush (v := (57 : Int32)) (pc := 22) dX5_digit_22 (by decide) ?_
    refine r_cI (pc := 24) (rest := []) (run_S (n := 3) (As := [.int v5, .int (48 : Int32), .int (57 : Int32)]) (rest := []) (t_X5_in γ l hl v5 (48 : Int32) (57 : Int32) g) dX5_digit_24 q3455 q3456 q121 q3457 (by decide +kernel) rfl (Nat.le_of_ble_eq_true rfl) (Nat.le_of_ble_eq_true rfl) rfl (Nat.le_of_ble_eq_true rfl)) (fun v7 g6 => ?_)
    refine r_if_ne (tgt := 32) (pc := 27) dX5_digit_27 (by decide) ?_ ?_
    · skip
      refine r_iconst (v := (0 : Int32)) (pc := 30) dX5_digit_30 (by decide) ?_
      exact r_zret (ty := .boolean) (pc := 31) dX5_digit_31 rfl
    · skip
      refine r_aload_n (pc := 32) dX5_digit_32 rfl 0 rfl ?_
      refine r_getR (f := 43) (pc := 33) dX5_digit_33 q3391 (Or.inl rfl) rfl (fun v8 => ?_)
      refine r_iload_n (pc := 36) dX5_digit_36 rfl 1 rfl ?_
      refine r_aload_n (pc := 37) dX5_digit_37 rfl 0 rfl ?_
      refine r_getR (f := 39) (pc := 38) dX5_digit_38 q3387 (Or.inl rfl) rfl (fun v9 => ?_)
      refine r_aload_n (pc := 41) dX5_digit_41 rfl 0 rfl ?_
      refine r_dup (pc := 42) dX5_digit_42 rfl ?_
      refine r_getI (f := 41) (pc := 43) dX5_digit_43 q3389 (Or.inl rfl) rfl (fun v10 => ?_)
      refine r_dup_x1 (pc := 46) dX5_digit_46 rfl rfl ?_
      refine r_iconst (v := (1 : Int32)) (pc := 47) dX5_digit_47 (by decide) ?_
      refine r_iadd (pc := 48) dX5_digit_48 ?_
      refine r_putI (f := 41) (pc := 49) dX5_digit_49 q3389 (Or.inl rfl) (Or.inl rfl) rfl (fun g11 => ?_)
      refine r_cald (pc := 52) dX5_digit_52 (fun v12 => ?_)
      refine r_bipush (v := (48 : Int32)) (pc := 53) dX5_digit_53 (by decide) ?_
      refine r_isub (pc := 55) dX5_digit_55 ?_
      refine r_iast (pc := 56) dX5_digit_56 (fun g13 => ?_)
      refine r_iconst (v := (1 : Int32)) (pc := 57) dX5_digit_57 (by decide) ?_
      exact r_zret (ty := .boolean) (pc := 58) dX5_digit_58 rfl
abbrev ck_X5_who : CK := ("BanquetVotesModel", prog_25_method_77_code, 3, (some .boolean), "who", [], 9)
def f_X5_who (γ : GP) (x0 : Nat) (g : AH) : Option (Int32 × AH) := gI g x0 41 fun v1 => gI g x0 40 fun v2 => jn (fun (g3 : AH) => bI ((if hK g3 x0 = 8 then f_X5_digit γ x0 (0 : Int32) g3 else none)) fun v6 g5 => (rtN .boolean v6 g5)) (fun (j4 : AH → Option (Int32 × AH)) => (if v2 ≤ v1 then j4 g else gR g x0 39 fun v7 => gI g x0 41 fun v8 => gA g 103 v7 v8 fun v9 => (if v9 = (104 : Int32) then gR g x0 42 fun v10 => bI ((if hK g x0 = 8 then f_X5_isOneOf γ x0 (γ.1 40) g else none)) fun v12 g11 => pR γ g11 x0 42 v10 fun g13 => gR g13 x0 43 fun v14 => pA γ g13 101 v14 (0 : Int32) (-1 : Int32) fun g15 => (rtN .boolean v12 g15) else j4 g)))
theorem t_X5_who (γ : GP) (l : Launch) (hl : l.stackTraces = false) (x0 : Nat) (g : AH) : TrM ρI γ l ⟨"BanquetVotesModel", "who", "()Z"⟩ (ws_ ⟨"BanquetVotesModel", "who", "()Z"⟩ prog_25_method_77_code 3 (some .boolean)) 9 [.ref x0] g (f_X5_who γ x0 g) := by
  refine TrM_of (plainFor_of_name (by decide)) (Nat.le_of_ble_eq_true rfl) ?_
  unfold f_X5_who
  change AW ρI γ l ck_X5_who g 0 [(0, .ref x0)] [] g _
  refine r_aload_n (pc := 0) dX5_who_0 rfl 0 rfl ?_
  refine r_getI (f := 41) (pc := 1) dX5_who_1 q3389 (Or.inl rfl) rfl (fun v1 => ?_)
  refine r_aload_n (pc := 4) dX5_who_4 rfl 0 rfl ?_
  refine r_getI (f := 40) (pc := 5) dX5_who_5 q3388 (Or.inl rfl) rfl (fun v2 => ?_)
  refine AW_jn (P := fun (j : AH → Option (Int32 × AH)) => ∀ (g3 : AH), AW ρI γ l ck_X5_who g 51 [(0, .ref x0)] [] g3 (j g3)) (fun g3 => ?_) (fun j4 h_j4 => ?_)
  · skip
    refine r_aload_n (pc := 51) dX5_who_51 rfl 0 rfl ?_
    refine r_iconst (v := (0 : Int32)) (pc := 52) dX5_who_52 (by decide) ?_
    refine r_cI (pc := 53) (rest := []) (RunOK_chk (fun h => run_V (n := 1) (c9 := 8) (As := [.int (0 : Int32)]) (rest := []) (t_X5_digit γ l hl x0 (0 : Int32) g3) dX5_who_53 q3808 q3810 qs100 q121 q3811 (by decide +kernel) rfl h ⟨rfl, by decide, by decide⟩ (Nat.le_of_ble_eq_true rfl) (Nat.le_of_ble_eq_true rfl) rfl (Nat.le_of_ble_eq_true rfl))) (fun v6 g5 => ?_)
    exact r_zret (ty := .boolean) (pc := 56) dX5_who_56 rfl
  · skip
    refine r_icmp_ge (tgt := 51) (pc := 8) dX5_who_8 (by decide) ?_ ?_
    · skip
      exact h_j4 g
    · skip
      refine r_aload_n (pc := 11) dX5_who_11 rfl 0 rfl ?_
      refine r_getR (f := 39) (pc := 12) dX5_who_12 q3387 (Or.inl rfl) rfl (fun v7 => ?_)
      refine r_aload_n (pc := 15) dX5_who_15 rfl 0 rfl ?_
      refine r_getI (f := 41) (pc := 16) dX5_who_16 q3389 (Or.inl rfl) rfl (fun v8 => ?_)
      refine r_cald (pc := 19) dX5_who_19 (fun v9 => ?_)
      refine r_bipush (v := (104 : Int32)) (pc := 20) dX5_who_20 (by decide) ?_
      refine r_icmp_ne (tgt := 51) (pc := 22) dX5_who_22 (by decide) ?_ ?_
      · skip
        refine r_aload_n (pc := 25) dX5_who_25 rfl 0 rfl ?_
        refine r_getR (f := 42) (pc := 26) dX5_who_26 q3390 (Or.inl rfl) rfl (fun v10 => ?_)
        refine r_astore_n (pc := 29) dX5_who_29 rfl (Nat.le_of_ble_eq_true rfl) rfl ?_
        refine r_aload_n (pc := 30) dX5_who_30 rfl 1 rfl ?_
        refine r_ldcS (pc := 31) dX5_who_31 (List.mem_of_getElem? (i := 28) rfl) ?_
        refine r_cI (pc := 33) (rest := []) (RunOK_chk (fun h => run_V (n := 1) (c9 := 8) (As := [.ref (γ.1 40)]) (rest := []) (t_X5_isOneOf γ l hl x0 (γ.1 40) g) dX5_who_33 q3733 q3735 qs99 q121 q3736 (by decide +kernel) rfl h ⟨rfl, by decide, by decide⟩ (Nat.le_of_ble_eq_true rfl) (Nat.le_of_ble_eq_true rfl) rfl (Nat.le_of_ble_eq_true rfl))) (fun v12 g11 => ?_)
        refine r_istore_n (pc := 36) dX5_who_36 rfl (Nat.le_of_ble_eq_true rfl) rfl ?_
        refine r_aload_n (pc := 37) dX5_who_37 rfl 2 rfl ?_
        refine r_aload_n (pc := 38) dX5_who_38 rfl 1 rfl ?_
        refine r_putR (f := 42) (pc := 39) dX5_who_39 q3390 (Or.inl rfl) (Or.inl rfl) rfl (fun g13 => ?_)
        refine r_aload_n (pc := 42) dX5_who_42 rfl 2 rfl ?_
        refine r_getR (f := 43) (pc := 43) dX5_who_43 q3391 (Or.inl rfl) rfl (fun v14 => ?_)
        refine r_iconst (v := (0 : Int32)) (pc := 46) dX5_who_46 (by decide) ?_
        refine r_iconst (v := (-1 : Int32)) (pc := 47) dX5_who_47 (by decide) ?_
        refine r_iast (pc := 48) dX5_who_48 (fun g15 => ?_)
        refine r_iload_n (pc := 49) dX5_who_49 rfl 0 rfl ?_
        exact r_zret (ty := .boolean) (pc := 50) dX5_who_50 rfl
      · skip
        exact h_j4 g
abbrev ck_X5_takes : CK := ("BanquetVotesModel", prog_25_method_74_code, 2, (some .boolean), "takes", [], 1)
def f_X5_takes (γ : GP) (x0 : Nat) (x1 : Int32) (g : AH) : Option (Int32 × AH) := gI g x0 41 fun v1 => gI g x0 40 fun v2 => (if v1 = v2 then (rtN .boolean (0 : Int32) g) else gR g x0 39 fun v3 => gI g x0 41 fun v4 => gA g 103 v3 v4 fun v5 => (if v5 = x1 then gI g x0 41 fun v6 => pI γ g x0 41 (v6 + (1 : Int32)) fun g7 => (rtN .boolean (1 : Int32) g7) else (rtN .boolean (0 : Int32) g)))
theorem t_X5_takes (γ : GP) (l : Launch) (hl : l.stackTraces = false) (x0 : Nat) (x1 : Int32) (g : AH) : TrM ρI γ l ⟨"BanquetVotesModel", "takes", "(C)Z"⟩ (ws_ ⟨"BanquetVotesModel", "takes", "(C)Z"⟩ prog_25_method_74_code 2 (some .boolean)) 1 [.ref x0, .int x1] g (f_X5_takes γ x0 x1 g) := by
  refine TrM_of (plainFor_of_name (by decide)) (Nat.le_of_ble_eq_true rfl) ?_
  unfold f_X5_takes
  change AW ρI γ l ck_X5_takes g 0 [(0, .ref x0), (1, .int x1)] [] g _
  refine r_aload_n (pc := 0) dX5_takes_0 rfl 0 rfl ?_
  refine r_getI (f := 41) (pc := 1) dX5_takes_1 q3389 (Or.inl rfl) rfl (fun v1 => ?_)
  refine r_aload_n (pc := 4) dX5_takes_4 rfl 0 rfl ?_
  refine r_getI (f := 40) (pc := 5) dX5_takes_5 q3388 (Or.inl rfl) rfl (fun v2 => ?_)
  refine r_icmp_eq (tgt := 24) (pc := 8) dX5_takes_8 (by decide) ?_ ?_
  · skip
    refine r_iconst (v := (0 : Int32)) (pc := 24) dX5_takes_24 (by decide) ?_
    exact r_zret (ty := .boolean) (pc := 25) dX5_takes_25 rfl
  · skip
    refine r_aload_n (pc := 11) dX5_takes_11 rfl 0 rfl ?_
    refine r_getR (f := 39) (pc := 12) dX5_takes_12 q3387 (Or.inl rfl) rfl (fun v3 => ?_)
    refine r_aload_n (pc := 15) dX5_takes_15 rfl 0 rfl ?_
    refine r_getI (f := 41) (pc := 16) dX5_takes_16 q3389 (Or.inl rfl) rfl (fun v4 => ?_)
    refine r_cald (pc := 19) dX5_takes_19 (fun v5 => ?_)
    refine r_iload_n (pc := 20) dX5_takes_20 rfl 1 rfl ?_
    refine r_icmp_eq (tgt := 26) (pc := 21) dX5_takes_21 (by decide) ?_ ?_
    · skip
      refine r_aload_n (pc := 26) dX5_takes_26 rfl 0 rfl ?_
      refine r_dup (pc := 27) dX5_takes_27 rfl ?_
      refine r_getI (f := 41) (pc := 28) dX5_takes_28 q3389 (Or.inl rfl) rfl (fun v6 => ?_)
      refine r_iconst (v := (1 : Int32)) (pc := 31) dX5_takes_31 (by decide) ?_
      refine r_iadd (pc := 32) dX5_takes_32 ?_
      refine r_putI (f := 41) (pc := 33) dX5_takes_33 q3389 (Or.inl rfl) (Or.inl rfl) rfl (fun g7 => ?_)
      refine r_iconst (v := (1 : Int32)) (pc := 36) dX5_takes_36 (by decide) ?_
      exact r_zret (ty := .boolean) (pc := 37) dX5_takes_37 rfl
    · skip
      refine r_iconst (v := (0 : Int32)) (pc := 24) dX5_takes_24 (by decide) ?_
      exact r_zret (ty := .boolean) (pc := 25) dX5_takes_25 rfl
abbrev ck_X5_minutes : CK := ("BanquetVotesModel", prog_25_method_78_code, 1, (some .boolean), "minutes", [], 3)
def f_X5_minutes (γ : GP) (x0 : Nat) (g : AH) : Option (Int32 × AH) := bI ((if hK g x0 = 8 then f_X5_digit γ x0 (0 : Int32) g else none)) fun v2 g1 => (if v2 = 0 then (rtN .boolean (0 : Int32) g1) else bI ((if hK g1 x0 = 8 then f_X5_digit γ x0 (1 : Int32) g1 else none)) fun v4 g3 => (if v4 = 0 then (rtN .boolean (1 : Int32) g3) else gR g3 x0 43 fun v5 => gR g3 x0 43 fun v6 => gA g3 101 v6 (0 : Int32) fun v7 => gR g3 x0 43 fun v8 => gA g3 101 v8 (1 : Int32) fun v9 => pA γ g3 101 v5 (0 : Int32) (((10 : Int32) * v7) + v9) fun g10 => (rtN .boolean (1 : Int32) g10)))
theorem t_X5_minutes (γ : GP) (l : Launch) (hl : l.stackTraces = false) (x0 : Nat) (g : AH) : TrM ρI γ l ⟨"BanquetVotesModel", "minutes", "()Z"⟩ (ws_ ⟨"BanquetVotesModel", "minutes", "()Z"⟩ prog_25_method_78_code 1 (some .boolean)) 3 [.ref x0] g (f_X5_minutes γ x0 g) := by
  refine TrM_of (plainFor_of_name (by decide)) (Nat.le_of_ble_eq_true rfl) ?_
  unfold f_X5_minutes
  change AW ρI γ l ck_X5_minutes g 0 [(0, .ref x0)] [] g _
  refine r_aload_n (pc := 0) dX5_minutes_0 rfl 0 rfl ?_
  refine r_iconst (v := (0 : Int32)) (pc := 1) dX5_minutes_1 (by decide) ?_
  refine r_cI (pc := 2) (rest := []) (RunOK_chk (fun h => run_V (n := 1) (c9 := 8) (As := [.int (0 : Int32)]) (rest := []) (t_X5_digit γ l hl x0 (0 : Int32) g) dX5_minutes_2 q3808 q3810 qs100 q121 q3811 (by decide +kernel) rfl h ⟨rfl, by decide, by decide⟩ (Nat.le_of_ble_eq_true rfl) (Nat.le_of_ble_eq_true rfl) rfl (Nat.le_of_ble_eq_true rfl))) (fun v2 g1 => ?_)
  refine r_if_ne (tgt := 10) (pc := 5) dX5_minutes_5 (by decide) ?_ ?_
  · skip
    refine r_iconst (v := (0 : Int32)) (pc := 8) dX5_minutes_8 (by decide) ?_
    exact r_zret (ty := .boolean) (pc := 9) dX5_minutes_9 rfl
  · skip
    refine r_aload_n (pc := 10) dX5_minutes_10 rfl 0 rfl ?_
    refine r_iconst (v := (1 : Int32)) (pc := 11) dX5_minutes_11 (by decide) ?_
    refine r_cI (pc := 12) (rest := []) (RunOK_chk (fun h => run_V (n := 1) (c9 := 8) (As := [.int (1 : Int32)]) (rest := []) (t_X5_digit γ l hl x0 (1 : Int32) g1) dX5_minutes_12 q3808 q3810 qs100 q121 q3811 (by decide +kernel) rfl h ⟨rfl, by decide, by decide⟩ (Nat.le_of_ble_eq_true rfl) (Nat.le_of_ble_eq_true rfl) rfl (Nat.le_of_ble_eq_true rfl))) (fun v4 g3 => ?_)
    refine r_if_ne (tgt := 20) (pc := 15) dX5_minutes_15 (by decide) ?_ ?_
    · skip
      refine r_iconst (v := (1 : Int32)) (pc := 18) dX5_minutes_18 (by decide) ?_
      exact r_zret (ty := .boolean) (pc := 19) dX5_minutes_19 rfl
    · skip
      refine r_aload_n (pc := 20) dX5_minutes_20 rfl 0 rfl ?_
      refine r_getR (f := 43) (pc := 21) dX5_minutes_21 q3391 (Or.inl rfl) rfl (fun v5 => ?_)
      refine r_iconst (v := (0 : Int32)) (pc := 24) dX5_minutes_24 (by decide) ?_
      refine r_bipush (v := (10 : Int32)) (pc := 25) dX5_minutes_25 (by decide) ?_
      refine r_aload_n (pc := 27) dX5_minutes_27 rfl 0 rfl ?_
      refine r_getR (f := 43) (pc := 28) dX5_minutes_28 q3391 (Or.inl rfl) rfl (fun v6 => ?_)
      refine r_iconst (v := (0 : Int32)) (pc := 31) dX5_minutes_31 (by decide) ?_
      refine r_iald (pc := 32) dX5_minutes_32 (fun v7 => ?_)
      refine r_imul (pc := 33) dX5_minutes_33 ?_
      refine r_aload_n (pc := 34) dX5_minutes_34 rfl 0 rfl ?_
      refine r_getR (f := 43) (pc := 35) dX5_minutes_35 q3391 (Or.inl rfl) rfl (fun v8 => ?_)
      refine r_iconst (v := (1 : Int32)) (pc := 38) dX5_minutes_38 (by decide) ?_
      refine r_iald (pc := 39) dX5_minutes_39 (fun v9 => ?_)
      refine r_iadd (pc := 40) dX5_minutes_40 ?_
      refine r_iast (pc := 41) dX5_minutes_41 (fun g10 => ?_)
      refine r_iconst (v := (1 : Int32)) (pc := 42) dX5_minutes_42 (by decide) ?_
      exact r_zret (ty := .boolean) (pc := 43) dX5_minutes_43 rfl
abbrev ck_X5_isCommand : CK := ("BanquetVotesModel", prog_25_method_79_code, 3, (some .boolean), "isCommand", [], 10)
def f_X5_isCommand (γ : GP) (x0 : Nat) (g : AH) : Option (Int32 × AH) := bI ((if hK g x0 = 8 then f_X5_isOneOf γ x0 (γ.1 34) g else none)) fun v2 g1 => (if v2 = 0 then (rtN .boolean (0 : Int32) g1) else gR g1 x0 42 fun v3 => bI ((if hK g1 v3 = 7 then f_J7_hashCode γ v3 g1 else none)) fun v5 g4 => jn (fun (y6 : Int32) (g7 : AH) => (if y6 = (0 : Int32) then bI ((if hK g7 x0 = 8 then f_X5_digit γ x0 (0 : Int32) g7 else none)) fun v10 g9 => (rtN .boolean v10 g9) else (if y6 = (1 : Int32) then bI ((if hK g7 x0 = 8 then f_X5_digit γ x0 (0 : Int32) g7 else none)) fun v12 g11 => (rtN .boolean v12 g11) else (if y6 = (2 : Int32) then bI ((if hK g7 x0 = 8 then f_X5_who γ x0 g7 else none)) fun v14 g13 => (rtN .boolean v14 g13) else (if y6 = (3 : Int32) then bI ((if hK g7 x0 = 8 then f_X5_who γ x0 g7 else none)) fun v16 g15 => (rtN .boolean v16 g15) else (if y6 = (4 : Int32) then bI ((if hK g7 x0 = 8 then f_X5_digit γ x0 (0 : Int32) g7 else none)) fun v18 g17 => (if v18 = 0 then (rtN .boolean (0 : Int32) g17) else bI ((if hK g17 x0 = 8 then f_X5_takes γ x0 (32 : Int32) g17 else none)) fun v20 g19 => (if v20 = 0 then (rtN .boolean (0 : Int32) g19) else bI ((if hK g19 x0 = 8 then f_X5_digit γ x0 (1 : Int32) g19 else none)) fun v22 g21 => (if v22 = 0 then (rtN .boolean (0 : Int32) g21) else bI ((if hK g21 x0 = 8 then f_X5_takes γ x0 (32 : Int32) g21 else none)) fun v24 g23 => (if v24 = 0 then (rtN .boolean (0 : Int32) g23) else bI ((if hK g23 x0 = 8 then f_X5_digit γ x0 (2 : Int32) g23 else none)) fun v26 g25 => (if v26 = 0 then (rtN .boolean (0 : Int32) g25) else (rtN .boolean (1 : Int32) g25)))))) else bI ((if hK g7 x0 = 8 then f_X5_minutes γ x0 g7 else none)) fun v28 g27 => (rtN .boolean v28 g27))))))) (fun (j8 : Int32 → AH → Option (Int32 × AH)) => (if v5 = (-1281974964 : Int32) then bI ((if hK g4 v3 = 7 then f_J7_equals γ v3 (γ.1 37) g4 else none)) fun v30 g29 => (if v30 = 0 then j8 (-1 : Int32) g29 else j8 (2 : Int32) g29) else (if v5 = (-1106740644 : Int32) then bI ((if hK g4 v3 = 7 then f_J7_equals γ v3 (γ.1 39) g4 else none)) fun v32 g31 => (if v32 = 0 then j8 (-1 : Int32) g31 else j8 (4 : Int32) g31) else (if v5 = (3003591 : Int32) then bI ((if hK g4 v3 = 7 then f_J7_equals γ v3 (γ.1 35) g4 else none)) fun v34 g33 => (if v34 = 0 then j8 (-1 : Int32) g33 else j8 (0 : Int32) g33) else (if v5 = (112894716 : Int32) then bI ((if hK g4 v3 = 7 then f_J7_equals γ v3 (γ.1 38) g4 else none)) fun v36 g35 => (if v36 = 0 then j8 (-1 : Int32) g35 else j8 (3 : Int32) g35) else (if v5 = (550215910 : Int32) then bI ((if hK g4 v3 = 7 then f_J7_equals γ v3 (γ.1 36) g4 else none)) fun v38 g37 => (if v38 = 0 then j8 (-1 : Int32) g37 else j8 (1 : Int32) g37) else j8 (-1 : Int32) g4)))))))
theorem t_X5_isCommand (γ : GP) (l : Launch) (hl : l.stackTraces = false) (x0 : Nat) (g : AH) : TrM ρI γ l ⟨"BanquetVotesModel", "isCommand", "()Z"⟩ (ws_ ⟨"BanquetVotesModel", "isCommand", "()Z"⟩ prog_25_method_79_code 3 (some .boolean)) 10 [.ref x0] g (f_X5_isCommand γ x0 g) := by
  refine TrM_of (plainFor_of_name (by decide)) (Nat.le_of_ble_eq_true rfl) ?_
  unfold f_X5_isCommand
  change AW ρI γ l ck_X5_isCommand g 0 [(0, .ref x0)] [] g _
  refine r_aload_n (pc := 0) dX5_isCommand_0 rfl 0 rfl ?_
  refine r_ldcwS (pc := 1) dX5_isCommand_1 (List.mem_of_getElem? (i := 22) rfl) ?_
  refine r_cI (pc := 4) (rest := []) (RunOK_chk (fun h => run_V (n := 1) (c9 := 8) (As := [.ref (γ.1 34)]) (rest := []) (t_X5_isOneOf γ l hl x0 (γ.1 34) g) dX5_isCommand_4 q3733 q3735 qs99 q121 q3736 (by decide +kernel) rfl h ⟨rfl, by decide, by decide⟩ (Nat.le_of_ble_eq_true rfl) (Nat.le_of_ble_eq_true rfl) rfl (Nat.le_of_ble_eq_true rfl))) (fun v2 g1 => ?_)
  refine r_if_ne (tgt := 12) (pc := 7) dX5_isCommand_7 (by decide) ?_ ?_
  · skip
    refine r_iconst (v := (0 : Int32)) (pc := 10) dX5_isCommand_10 (by decide) ?_
    exact r_zret (ty := .boolean) (pc := 11) dX5_isCommand_11 rfl
  · skip
    refine r_aload_n (pc := 12) dX5_isCommand_12 rfl 0 rfl ?_
    refine r_getR (f := 42) (pc := 13) dX5_isCommand_13 q3390 (Or.inl rfl) rfl (fun v3 => ?_)
    refine r_astore_n (pc := 16) dX5_isCommand_16 rfl (Nat.le_of_ble_eq_true rfl) rfl ?_
    refine r_iconst (v := (-1 : Int32)) (pc := 17) dX5_isCommand_17 (by decide) ?_
    refine r_istore_n (pc := 18) dX5_isCommand_18 rfl (Nat.le_of_ble_eq_true rfl) rfl ?_
    refine r_aload_n (pc := 19) dX5_isCommand_19 rfl 1 rfl ?_
    refine r_cI (pc := 20) (rest := []) (RunOK_chk (fun h => run_V (n := 0) (c9 := 7) (As := []) (rest := []) (t_J7_hashCode γ l hl v3 g1) dX5_isCommand_20 q3801 q2283 q2284 q119 q2285 (by decide +kernel) rfl h ⟨rfl, by decide, by decide⟩ (Nat.le_of_ble_eq_true rfl) (Nat.le_of_ble_eq_true rfl) rfl (Nat.le_of_ble_eq_true rfl))) (fun v5 g4 => ?_)
    refine AW_jn (P := fun (j : Int32 → AH → Option (Int32 × AH)) => ∀ (y6 : Int32) (g7 : AH), AW ρI γ l ck_X5_isCommand g 144 [(0, .ref x0), (2, .int y6)] [] g7 (j y6 g7)) (fun y6 g7 => ?_) (fun j8 h_j8 => ?_)
    · skip
      refine r_iload_n (pc := 144) dX5_isCommand_144 rfl 1 rfl ?_
      refine r_tabC (v := (0 : Int32)) (tgt := 180) (pc := 145) dX5_isCommand_145 (by decide) (by decide) rfl (by decide) ?_ (fun c0 => ?_)
      · skip
        refine r_aload_n (pc := 180) dX5_isCommand_180 rfl 0 rfl ?_
        refine r_iconst (v := (0 : Int32)) (pc := 181) dX5_isCommand_181 (by decide) ?_
        refine r_cI (pc := 182) (rest := []) (RunOK_chk (fun h => run_V (n := 1) (c9 := 8) (As := [.int (0 : Int32)]) (rest := []) (t_X5_digit γ l hl x0 (0 : Int32) g7) dX5_isCommand_182 q3808 q3810 qs100 q121 q3811 (by decide +kernel) rfl h ⟨rfl, by decide, by decide⟩ (Nat.le_of_ble_eq_true rfl) (Nat.le_of_ble_eq_true rfl) rfl (Nat.le_of_ble_eq_true rfl))) (fun v10 g9 => ?_)
        exact r_zret (ty := .boolean) (pc := 185) dX5_isCommand_185 rfl
      · skip
        refine r_tabC (v := (1 : Int32)) (tgt := 180) (pc := 145) dX5_isCommand_145 (by decide) (by decide) rfl (by decide) ?_ (fun c1 => ?_)
        · skip
          refine r_aload_n (pc := 180) dX5_isCommand_180 rfl 0 rfl ?_
          refine r_iconst (v := (0 : Int32)) (pc := 181) dX5_isCommand_181 (by decide) ?_
          refine r_cI (pc := 182) (rest := []) (RunOK_chk (fun h => run_V (n := 1) (c9 := 8) (As := [.int (0 : Int32)]) (rest := []) (t_X5_digit γ l hl x0 (0 : Int32) g7) dX5_isCommand_182 q3808 q3810 qs100 q121 q3811 (by decide +kernel) rfl h ⟨rfl, by decide, by decide⟩ (Nat.le_of_ble_eq_true rfl) (Nat.le_of_ble_eq_true rfl) rfl (Nat.le_of_ble_eq_true rfl))) (fun v12 g11 => ?_)
          exact r_zret (ty := .boolean) (pc := 185) dX5_isCommand_185 rfl
        · skip
          refine r_tabC (v := (2 : Int32)) (tgt := 186) (pc := 145) dX5_isCommand_145 (by decide) (by decide) rfl (by decide) ?_ (fun c2 => ?_)
          · skip
            refine r_aload_n (pc := 186) dX5_isCommand_186 rfl 0 rfl ?_
            refine r_cI (pc := 187) (rest := []) (RunOK_chk (fun h => run_V (n := 0) (c9 := 8) (As := []) (rest := []) (t_X5_who γ l hl x0 g7) dX5_isCommand_187 q3812 q3814 qs101 q121 q3815 (by decide +kernel) rfl h ⟨rfl, by decide, by decide⟩ (Nat.le_of_ble_eq_true rfl) (Nat.le_of_ble_eq_true rfl) rfl (Nat.le_of_ble_eq_true rfl))) (fun v14 g13 => ?_)
            exact r_zret (ty := .boolean) (pc := 190) dX5_isCommand_190 rfl
          · skip
            refine r_tabC (v := (3 : Int32)) (tgt := 186) (pc := 145) dX5_isCommand_145 (by decide) (by decide) rfl (by decide) ?_ (fun c3 => ?_)
            · skip
              refine r_aload_n (pc := 186) dX5_isCommand_186 rfl 0 rfl ?_
              refine r_cI (pc := 187) (rest := []) (RunOK_chk (fun h => run_V (n := 0) (c9 := 8) (As := []) (rest := []) (t_X5_who γ l hl x0 g7) dX5_isCommand_187 q3812 q3814 qs101 q121 q3815 (by decide +kernel) rfl h ⟨rfl, by decide, by decide⟩ (Nat.le_of_ble_eq_true rfl) (Nat.le_of_ble_eq_true rfl) rfl (Nat.le_of_ble_eq_true rfl))) (fun v16 g15 => ?_)
              exact r_zret (ty := .boolean) (pc := 190) dX5_isCommand_190 rfl
            · skip
              refine r_tabC (v := (4 : Int32)) (tgt := 191) (pc := 145) dX5_isCommand_145 (by decide) (by decide) rfl (by decide) ?_ (fun c4 => ?_)
              · skip
                refine r_aload_n (pc := 191) dX5_isCommand_191 rfl 0 rfl ?_
                refine r_iconst (v := (0 : Int32)) (pc := 192) dX5_isCommand_192 (by decide) ?_
                refine r_cI (pc := 193) (rest := []) (RunOK_chk (fun h => run_V (n := 1) (c9 := 8) (As := [.int (0 : Int32)]) (rest := []) (t_X5_digit γ l hl x0 (0 : Int32) g7) dX5_isCommand_193 q3808 q3810 qs100 q121 q3811 (by decide +kernel) rfl h ⟨rfl, by decide, by decide⟩ (Nat.le_of_ble_eq_true rfl) (Nat.le_of_ble_eq_true rfl) rfl (Nat.le_of_ble_eq_true rfl))) (fun v18 g17 => ?_)
                refine r_if_eq (tgt := 237) (pc := 196) dX5_isCommand_196 (by decide) ?_ ?_
                · skip
                  refine r_iconst (v := (0 : Int32)) (pc := 237) dX5_isCommand_237 (by decide) ?_
                  exact r_zret (ty := .boolean) (pc := 238) dX5_isCommand_238 rfl
                · skip
                  refine r_aload_n (pc := 199) dX5_isCommand_199 rfl 0 rfl ?_
                  refine r_bipush (v := (32 : Int32)) (pc := 200) dX5_isCommand_200 (by decide) ?_
                  refine r_cI (pc := 202) (rest := []) (RunOK_chk (fun h => run_V (n := 1) (c9 := 8) (As := [.int (32 : Int32)]) (rest := []) (t_X5_takes γ l hl x0 (32 : Int32) g17) dX5_isCommand_202 q3817 q3819 qs102 q121 q3820 (by decide +kernel) rfl h ⟨rfl, by decide, by decide⟩ (Nat.le_of_ble_eq_true rfl) (Nat.le_of_ble_eq_true rfl) rfl (Nat.le_of_ble_eq_true rfl))) (fun v20 g19 => ?_)
                  refine r_if_eq (tgt := 237) (pc := 205) dX5_isCommand_205 (by decide) ?_ ?_
                  · skip
                    refine r_iconst (v := (0 : Int32)) (pc := 237) dX5_isCommand_237 (by decide) ?_
                    exact r_zret (ty := .boolean) (pc := 238) dX5_isCommand_238 rfl
                  · skip
                    refine r_aload_n (pc := 208) dX5_isCommand_208 rfl 0 rfl ?_
                    refine r_iconst (v := (1 : Int32)) (pc := 209) dX5_isCommand_209 (by decide) ?_
                    refine r_cI (pc := 210) (rest := []) (RunOK_chk (fun h => run_V (n := 1) (c9 := 8) (As := [.int (1 : Int32)]) (rest := []) (t_X5_digit γ l hl x0 (1 : Int32) g19) dX5_isCommand_210 q3808 q3810 qs100 q121 q3811 (by decide +kernel) rfl h ⟨rfl, by decide, by decide⟩ (Nat.le_of_ble_eq_true rfl) (Nat.le_of_ble_eq_true rfl) rfl (Nat.le_of_ble_eq_true rfl))) (fun v22 g21 => ?_)
                    refine r_if_eq (tgt := 237) (pc := 213) dX5_isCommand_213 (by decide) ?_ ?_
                    · skip
                      refine r_iconst (v := (0 : Int32)) (pc := 237) dX5_isCommand_237 (by decide) ?_
                      exact r_zret (ty := .boolean) (pc := 238) dX5_isCommand_238 rfl
                    · skip
                      refine r_aload_n (pc := 216) dX5_isCommand_216 rfl 0 rfl ?_
                      refine r_bipush (v := (32 : Int32)) (pc := 217) dX5_isCommand_217 (by decide) ?_
                      refine r_cI (pc := 219) (rest := []) (RunOK_chk (fun h => run_V (n := 1) (c9 := 8) (As := [.int (32 : Int32)]) (rest := []) (t_X5_takes γ l hl x0 (32 : Int32) g21) dX5_isCommand_219 q3817 q3819 qs102 q121 q3820 (by decide +kernel) rfl h ⟨rfl, by decide, by decide⟩ (Nat.le_of_ble_eq_true rfl) (Nat.le_of_ble_eq_true rfl) rfl (Nat.le_of_ble_eq_true rfl))) (fun v24 g23 => ?_)
                      refine r_if_eq (tgt := 237) (pc := 222) dX5_isCommand_222 (by decide) ?_ ?_
                      · skip
                        refine r_iconst (v := (0 : Int32)) (pc := 237) dX5_isCommand_237 (by decide) ?_
                        exact r_zret (ty := .boolean) (pc := 238) dX5_isCommand_238 rfl
                      · skip
                        refine r_aload_n (pc := 225) dX5_isCommand_225 rfl 0 rfl ?_
                        refine r_iconst (v := (2 : Int32)) (pc := 226) dX5_isCommand_226 (by decide) ?_
                        refine r_cI (pc := 227) (rest := []) (RunOK_chk (fun h => run_V (n := 1) (c9 := 8) (As := [.int (2 : Int32)]) (rest := []) (t_X5_digit γ l hl x0 (2 : Int32) g23) dX5_isCommand_227 q3808 q3810 qs100 q121 q3811 (by decide +kernel) rfl h ⟨rfl, by decide, by decide⟩ (Nat.le_of_ble_eq_true rfl) (Nat.le_of_ble_eq_true rfl) rfl (Nat.le_of_ble_eq_true rfl))) (fun v26 g25 => ?_)
                        refine r_if_eq (tgt := 237) (pc := 230) dX5_isCommand_230 (by decide) ?_ ?_
                        · skip
                          refine r_iconst (v := (0 : Int32)) (pc := 237) dX5_isCommand_237 (by decide) ?_
                          exact r_zret (ty := .boolean) (pc := 238) dX5_isCommand_238 rfl
                        · skip
                          refine r_iconst (v := (1 : Int32)) (pc := 233) dX5_isCommand_233 (by decide) ?_
                          refine r_goto (tgt := 238) (pc := 234) dX5_isCommand_234 (by decide) ?_
                          exact r_zret (ty := .boolean) (pc := 238) dX5_isCommand_238 rfl
              · skip
                refine r_tabD (tgt := 239) (pc := 145) dX5_isCommand_145 (by have e0 := lv_neT c0 (a := 0) rfl; have e1 := lv_neT c1 (a := 1) rfl; have e2 := lv_neT c2 (a := 2) rfl; have e3 := lv_neT c3 (a := 3) rfl; have e4 := lv_neT c4 (a := 4) rfl; omega) (by decide) ?_
                refine r_aload_n (pc := 239) dX5_isCommand_239 rfl 0 rfl ?_
                refine r_cI (pc := 240) (rest := []) (RunOK_chk (fun h => run_V (n := 0) (c9 := 8) (As := []) (rest := []) (t_X5_minutes γ l hl x0 g7) dX5_isCommand_240 q3821 q3823 qs103 q121 q3824 (by decide +kernel) rfl h ⟨rfl, by decide, by decide⟩ (Nat.le_of_ble_eq_true rfl) (Nat.le_of_ble_eq_true rfl) rfl (Nat.le_of_ble_eq_true rfl))) (fun v28 g27 => ?_)
                exact r_zret (ty := .boolean) (pc := 243) dX5_isCommand_243 rfl
    · skip
      refine r_lookC (v := (-1281974964 : Int32)) (tgt := 102) (pc := 23) dX5_isCommand_23 rfl rfl (by decide) ?_ (fun c0 => ?_)
      · skip
        refine r_aload_n (pc := 102) dX5_isCommand_102 rfl 1 rfl ?_
        refine r_ldcwS (pc := 103) dX5_isCommand_103 (List.mem_of_getElem? (i := 25) rfl) ?_
        refine r_cI (pc := 106) (rest := []) (RunOK_chk (fun h => run_V (n := 1) (c9 := 7) (As := [.ref (γ.1 37)]) (rest := []) (t_J7_equals γ l hl v3 (γ.1 37) g4) dX5_isCommand_106 q3803 q2345 q2346 q119 q2347 (by decide +kernel) rfl h ⟨rfl, by decide, by decide⟩ (Nat.le_of_ble_eq_true rfl) (Nat.le_of_ble_eq_true rfl) rfl (Nat.le_of_ble_eq_true rfl))) (fun v30 g29 => ?_)
        refine r_if_eq (tgt := 144) (pc := 109) dX5_isCommand_109 (by decide) ?_ ?_
        · skip
          refine AW_sub [2, 0] rfl ?_
          exact h_j8 (-1 : Int32) g29
        · skip
          refine r_iconst (v := (2 : Int32)) (pc := 112) dX5_isCommand_112 (by decide) ?_
          refine r_istore_n (pc := 113) dX5_isCommand_113 rfl (Nat.le_of_ble_eq_true rfl) rfl ?_
          refine r_goto (tgt := 144) (pc := 114) dX5_isCommand_114 (by decide) ?_
          refine AW_sub [2, 0] rfl ?_
          exact h_j8 (2 : Int32) g29
      · skip
        refine r_lookC (v := (-1106740644 : Int32)) (tgt := 132) (pc := 23) dX5_isCommand_23 rfl rfl (by decide) ?_ (fun c1 => ?_)
        · skip
          refine r_aload_n (pc := 132) dX5_isCommand_132 rfl 1 rfl ?_
          refine r_ldcwS (pc := 133) dX5_isCommand_133 (List.mem_of_getElem? (i := 27) rfl) ?_
          refine r_cI (pc := 136) (rest := []) (RunOK_chk (fun h => run_V (n := 1) (c9 := 7) (As := [.ref (γ.1 39)]) (rest := []) (t_J7_equals γ l hl v3 (γ.1 39) g4) dX5_isCommand_136 q3803 q2345 q2346 q119 q2347 (by decide +kernel) rfl h ⟨rfl, by decide, by decide⟩ (Nat.le_of_ble_eq_true rfl) (Nat.le_of_ble_eq_true rfl) rfl (Nat.le_of_ble_eq_true rfl))) (fun v32 g31 => ?_)
          refine r_if_eq (tgt := 144) (pc := 139) dX5_isCommand_139 (by decide) ?_ ?_
          · skip
            refine AW_sub [2, 0] rfl ?_
            exact h_j8 (-1 : Int32) g31
          · skip
            refine r_iconst (v := (4 : Int32)) (pc := 142) dX5_isCommand_142 (by decide) ?_
            refine r_istore_n (pc := 143) dX5_isCommand_143 rfl (Nat.le_of_ble_eq_true rfl) rfl ?_
            refine AW_sub [2, 0] rfl ?_
            exact h_j8 (4 : Int32) g31
        · skip
          refine r_lookC (v := (3003591 : Int32)) (tgt := 72) (pc := 23) dX5_isCommand_23 rfl rfl (by decide) ?_ (fun c2 => ?_)
          · skip
            refine r_aload_n (pc := 72) dX5_isCommand_72 rfl 1 rfl ?_
            refine r_ldcwS (pc := 73) dX5_isCommand_73 (List.mem_of_getElem? (i := 23) rfl) ?_
            refine r_cI (pc := 76) (rest := []) (RunOK_chk (fun h => run_V (n := 1) (c9 := 7) (As := [.ref (γ.1 35)]) (rest := []) (t_J7_equals γ l hl v3 (γ.1 35) g4) dX5_isCommand_76 q3803 q2345 q2346 q119 q2347 (by decide +kernel) rfl h ⟨rfl, by decide, by decide⟩ (Nat.le_of_ble_eq_true rfl) (Nat.le_of_ble_eq_true rfl) rfl (Nat.le_of_ble_eq_true rfl))) (fun v34 g33 => ?_)
            refine r_if_eq (tgt := 144) (pc := 79) dX5_isCommand_79 (by decide) ?_ ?_
            · skip
              refine AW_sub [2, 0] rfl ?_
              exact h_j8 (-1 : Int32) g33
            · skip
              refine r_iconst (v := (0 : Int32)) (pc := 82) dX5_isCommand_82 (by decide) ?_
              refine r_istore_n (pc := 83) dX5_isCommand_83 rfl (Nat.le_of_ble_eq_true rfl) rfl ?_
              refine r_goto (tgt := 144) (pc := 84) dX5_isCommand_84 (by decide) ?_
              refine AW_sub [2, 0] rfl ?_
              exact h_j8 (0 : Int32) g33
          · skip
            refine r_lookC (v := (112894716 : Int32)) (tgt := 117) (pc := 23) dX5_isCommand_23 rfl rfl (by decide) ?_ (fun c3 => ?_)
            · skip
              refine r_aload_n (pc := 117) dX5_isCommand_117 rfl 1 rfl ?_
              refine r_ldcwS (pc := 118) dX5_isCommand_118 (List.mem_of_getElem? (i := 26) rfl) ?_
              refine r_cI (pc := 121) (rest := []) (RunOK_chk (fun h => run_V (n := 1) (c9 := 7) (As := [.ref (γ.1 38)]) (rest := []) (t_J7_equals γ l hl v3 (γ.1 38) g4) dX5_isCommand_121 q3803 q2345 q2346 q119 q2347 (by decide +kernel) rfl h ⟨rfl, by decide, by decide⟩ (Nat.le_of_ble_eq_true rfl) (Nat.le_of_ble_eq_true rfl) rfl (Nat.le_of_ble_eq_true rfl))) (fun v36 g35 => ?_)
              refine r_if_eq (tgt := 144) (pc := 124) dX5_isCommand_124 (by decide) ?_ ?_
              · skip
                refine AW_sub [2, 0] rfl ?_
                exact h_j8 (-1 : Int32) g35
              · skip
                refine r_iconst (v := (3 : Int32)) (pc := 127) dX5_isCommand_127 (by decide) ?_
                refine r_istore_n (pc := 128) dX5_isCommand_128 rfl (Nat.le_of_ble_eq_true rfl) rfl ?_
                refine r_goto (tgt := 144) (pc := 129) dX5_isCommand_129 (by decide) ?_
                refine AW_sub [2, 0] rfl ?_
                exact h_j8 (3 : Int32) g35
            · skip
              refine r_lookC (v := (550215910 : Int32)) (tgt := 87) (pc := 23) dX5_isCommand_23 rfl rfl (by decide) ?_ (fun c4 => ?_)
              · skip
                refine r_aload_n (pc := 87) dX5_isCommand_87 rfl 1 rfl ?_
                refine r_ldcwS (pc := 88) dX5_isCommand_88 (List.mem_of_getElem? (i := 24) rfl) ?_
                refine r_cI (pc := 91) (rest := []) (RunOK_chk (fun h => run_V (n := 1) (c9 := 7) (As := [.ref (γ.1 36)]) (rest := []) (t_J7_equals γ l hl v3 (γ.1 36) g4) dX5_isCommand_91 q3803 q2345 q2346 q119 q2347 (by decide +kernel) rfl h ⟨rfl, by decide, by decide⟩ (Nat.le_of_ble_eq_true rfl) (Nat.le_of_ble_eq_true rfl) rfl (Nat.le_of_ble_eq_true rfl))) (fun v38 g37 => ?_)
                refine r_if_eq (tgt := 144) (pc := 94) dX5_isCommand_94 (by decide) ?_ ?_
                · skip
                  refine AW_sub [2, 0] rfl ?_
                  exact h_j8 (-1 : Int32) g37
                · skip
                  refine r_iconst (v := (1 : Int32)) (pc := 97) dX5_isCommand_97 (by decide) ?_
                  refine r_istore_n (pc := 98) dX5_isCommand_98 rfl (Nat.le_of_ble_eq_true rfl) rfl ?_
                  refine r_goto (tgt := 144) (pc := 99) dX5_isCommand_99 (by decide) ?_
                  refine AW_sub [2, 0] rfl ?_
                  exact h_j8 (1 : Int32) g37
              · skip
                refine r_lookD (tgt := 144) (pc := 23) dX5_isCommand_23 rfl (by refine (lv_osw c0 rfl).trans ?_; refine (lv_osw c1 rfl).trans ?_; refine (lv_osw c2 rfl).trans ?_; refine (lv_osw c3 rfl).trans ?_; refine (lv_osw c4 rfl).trans ?_; rfl) (by decide) ?_
                refine AW_sub [2, 0] rfl ?_
                exact h_j8 (-1 : Int32) g4
abbrev ck_X5_carries : CK := ("BanquetVotesModel", prog_25_method_80_code, 3, (some .int), "carries", [], 9)
def f_X5_carries (γ : GP) (x0 : Nat) (g : AH) : Option (Int32 × AH) := gR g x0 42 fun v1 => bI ((if hK g v1 = 7 then f_J7_hashCode γ v1 g else none)) fun v3 g2 => jn (fun (y4 : Int32) (g5 : AH) => (if y4 = (0 : Int32) then gR g5 x0 43 fun v7 => gA g5 101 v7 (0 : Int32) fun v8 => bI ((if hK g5 x0 = 8 then f_X5_asks γ x0 v8 g5 else none)) fun v10 g9 => (some (v10, g9)) else (if y4 = (1 : Int32) then gR g5 x0 43 fun v11 => gA g5 101 v11 (0 : Int32) fun v12 => bI ((if hK g5 x0 = 8 then f_X5_cancels γ x0 v12 g5 else none)) fun v14 g13 => (some (v14, g13)) else (if y4 = (2 : Int32) then gR g5 x0 43 fun v15 => gA g5 101 v15 (0 : Int32) fun v16 => bI ((if hK g5 x0 = 8 then f_X5_faints γ x0 v16 g5 else none)) fun v18 g17 => (some (v18, g17)) else (if y4 = (3 : Int32) then gR g5 x0 43 fun v19 => gA g5 101 v19 (0 : Int32) fun v20 => bI ((if hK g5 x0 = 8 then f_X5_wakes γ x0 v20 g5 else none)) fun v22 g21 => (some (v22, g21)) else (if y4 = (4 : Int32) then gR g5 x0 43 fun v23 => gA g5 101 v23 (0 : Int32) fun v24 => gR g5 x0 43 fun v25 => gA g5 101 v25 (1 : Int32) fun v26 => gR g5 x0 43 fun v27 => gA g5 101 v27 (2 : Int32) fun v28 => bI ((if hK g5 x0 = 8 then f_X5_learns γ x0 v24 v26 v28 g5 else none)) fun v30 g29 => (some (v30, g29)) else gR g5 x0 43 fun v31 => gA g5 101 v31 (0 : Int32) fun v32 => bI ((if hK g5 x0 = 8 then f_X5_passes γ x0 v32 g5 else none)) fun v34 g33 => (some (v34, g33)))))))) (fun (j6 : Int32 → AH → Option (Int32 × AH)) => (if v3 = (-1281974964 : Int32) then bI ((if hK g2 v1 = 7 then f_J7_equals γ v1 (γ.1 37) g2 else none)) fun v36 g35 => (if v36 = 0 then j6 (-1 : Int32) g35 else j6 (2 : Int32) g35) else (if v3 = (-1106740644 : Int32) then bI ((if hK g2 v1 = 7 then f_J7_equals γ v1 (γ.1 39) g2 else none)) fun v38 g37 => (if v38 = 0 then j6 (-1 : Int32) g37 else j6 (4 : Int32) g37) else (if v3 = (3003591 : Int32) then bI ((if hK g2 v1 = 7 then f_J7_equals γ v1 (γ.1 35) g2 else none)) fun v40 g39 => (if v40 = 0 then j6 (-1 : Int32) g39 else j6 (0 : Int32) g39) else (if v3 = (112894716 : Int32) then bI ((if hK g2 v1 = 7 then f_J7_equals γ v1 (γ.1 38) g2 else none)) fun v42 g41 => (if v42 = 0 then j6 (-1 : Int32) g41 else j6 (3 : Int32) g41) else (if v3 = (550215910 : Int32) then bI ((if hK g2 v1 = 7 then f_J7_equals γ v1 (γ.1 36) g2 else none)) fun v44 g43 => (if v44 = 0 then j6 (-1 : Int32) g43 else j6 (1 : Int32) g43) else j6 (-1 : Int32) g2))))))
theorem t_X5_carries (γ : GP) (l : Launch) (hl : l.stackTraces = false) (x0 : Nat) (g : AH) : TrM ρI γ l ⟨"BanquetVotesModel", "carries", "()I"⟩ (ws_ ⟨"BanquetVotesModel", "carries", "()I"⟩ prog_25_method_80_code 3 (some .int)) 9 [.ref x0] g (f_X5_carries γ x0 g) := by
  refine TrM_of (plainFor_of_name (by decide)) (Nat.le_of_ble_eq_true rfl) ?_
  unfold f_X5_carries
  change AW ρI γ l ck_X5_carries g 0 [(0, .ref x0)] [] g _
  refine r_aload_n (pc := 0) dX5_carries_0 rfl 0 rfl ?_
  refine r_getR (f := 42) (pc := 1) dX5_carries_1 q3390 (Or.inl rfl) rfl (fun v1 => ?_)
  refine r_astore_n (pc := 4) dX5_carries_4 rfl (Nat.le_of_ble_eq_true rfl) rfl ?_
  refine r_iconst (v := (-1 : Int32)) (pc := 5) dX5_carries_5 (by decide) ?_
  refine r_istore_n (pc := 6) dX5_carries_6 rfl (Nat.le_of_ble_eq_true rfl) rfl ?_
  refine r_aload_n (pc := 7) dX5_carries_7 rfl 1 rfl ?_
  refine r_cI (pc := 8) (rest := []) (RunOK_chk (fun h => run_V (n := 0) (c9 := 7) (As := []) (rest := []) (t_J7_hashCode γ l hl v1 g) dX5_carries_8 q3801 q2283 q2284 q119 q2285 (by decide +kernel) rfl h ⟨rfl, by decide, by decide⟩ (Nat.le_of_ble_eq_true rfl) (Nat.le_of_ble_eq_true rfl) rfl (Nat.le_of_ble_eq_true rfl))) (fun v3 g2 => ?_)
  refine AW_jn (P := fun (j : Int32 → AH → Option (Int32 × AH)) => ∀ (y4 : Int32) (g5 : AH), AW ρI γ l ck_X5_carries g 132 [(0, .ref x0), (2, .int y4)] [] g5 (j y4 g5)) (fun y4 g5 => ?_) (fun j6 h_j6 => ?_)
  · skip
    refine r_iload_n (pc := 132) dX5_carries_132 rfl 1 rfl ?_
    refine r_tabC (v := (0 : Int32)) (tgt := 168) (pc := 133) dX5_carries_133 (by decide) (by decide) rfl (by decide) ?_ (fun c0 => ?_)
    · skip
      refine r_aload_n (pc := 168) dX5_carries_168 rfl 0 rfl ?_
      refine r_aload_n (pc := 169) dX5_carries_169 rfl 0 rfl ?_
      refine r_getR (f := 43) (pc := 170) dX5_carries_170 q3391 (Or.inl rfl) rfl (fun v7 => ?_)
      refine r_iconst (v := (0 : Int32)) (pc := 173) dX5_carries_173 (by decide) ?_
      refine r_iald (pc := 174) dX5_carries_174 (fun v8 => ?_)
      refine r_cI (pc := 175) (rest := []) (RunOK_chk (fun h => run_V (n := 1) (c9 := 8) (As := [.int v8]) (rest := []) (t_X5_asks γ l hl x0 v8 g5) dX5_carries_175 q3568 q3570 qs71 q121 q3571 (by decide +kernel) rfl h ⟨rfl, by decide, by decide⟩ (Nat.le_of_ble_eq_true rfl) (Nat.le_of_ble_eq_true rfl) rfl (Nat.le_of_ble_eq_true rfl))) (fun v10 g9 => ?_)
      exact r_iret (pc := 178) dX5_carries_178 rfl
    · skip
      refine r_tabC (v := (1 : Int32)) (tgt := 179) (pc := 133) dX5_carries_133 (by decide) (by decide) rfl (by decide) ?_ (fun c1 => ?_)
      · skip
        refine r_aload_n (pc := 179) dX5_carries_179 rfl 0 rfl ?_
        refine r_aload_n (pc := 180) dX5_carries_180 rfl 0 rfl ?_
        refine r_getR (f := 43) (pc := 181) dX5_carries_181 q3391 (Or.inl rfl) rfl (fun v11 => ?_)
        refine r_iconst (v := (0 : Int32)) (pc := 184) dX5_carries_184 (by decide) ?_
        refine r_iald (pc := 185) dX5_carries_185 (fun v12 => ?_)
        refine r_cI (pc := 186) (rest := []) (RunOK_chk (fun h => run_V (n := 1) (c9 := 8) (As := [.int v12]) (rest := []) (t_X5_cancels γ l hl x0 v12 g5) dX5_carries_186 q3600 q3602 qs78 q121 q3603 (by decide +kernel) rfl h ⟨rfl, by decide, by decide⟩ (Nat.le_of_ble_eq_true rfl) (Nat.le_of_ble_eq_true rfl) rfl (Nat.le_of_ble_eq_true rfl))) (fun v14 g13 => ?_)
        exact r_iret (pc := 189) dX5_carries_189 rfl
      · skip
        refine r_tabC (v := (2 : Int32)) (tgt := 190) (pc := 133) dX5_carries_133 (by decide) (by decide) rfl (by decide) ?_ (fun c2 => ?_)
        · skip
          refine r_aload_n (pc := 190) dX5_carries_190 rfl 0 rfl ?_
          refine r_aload_n (pc := 191) dX5_carries_191 rfl 0 rfl ?_
          refine r_getR (f := 43) (pc := 192) dX5_carries_192 q3391 (Or.inl rfl) rfl (fun v15 => ?_)
          refine r_iconst (v := (0 : Int32)) (pc := 195) dX5_carries_195 (by decide) ?_
          refine r_iald (pc := 196) dX5_carries_196 (fun v16 => ?_)
          refine r_cI (pc := 197) (rest := []) (RunOK_chk (fun h => run_V (n := 1) (c9 := 8) (As := [.int v16]) (rest := []) (t_X5_faints γ l hl x0 v16 g5) dX5_carries_197 q3620 q3622 qs82 q121 q3623 (by decide +kernel) rfl h ⟨rfl, by decide, by decide⟩ (Nat.le_of_ble_eq_true rfl) (Nat.le_of_ble_eq_true rfl) rfl (Nat.le_of_ble_eq_true rfl))) (fun v18 g17 => ?_)
          exact r_iret (pc := 200) dX5_carries_200 rfl
        · skip
          refine r_tabC (v := (3 : Int32)) (tgt := 201) (pc := 133) dX5_carries_133 (by decide) (by decide) rfl (by decide) ?_ (fun c3 => ?_)
          · skip
            refine r_aload_n (pc := 201) dX5_carries_201 rfl 0 rfl ?_
            refine r_aload_n (pc := 202) dX5_carries_202 rfl 0 rfl ?_
            refine r_getR (f := 43) (pc := 203) dX5_carries_203 q3391 (Or.inl rfl) rfl (fun v19 => ?_)
            refine r_iconst (v := (0 : Int32)) (pc := 206) dX5_carries_206 (by decide) ?_
            refine r_iald (pc := 207) dX5_carries_207 (fun v20 => ?_)
            refine r_cI (pc := 208) (rest := []) (RunOK_chk (fun h => run_V (n := 1) (c9 := 8) (As := [.int v20]) (rest := []) (t_X5_wakes γ l hl x0 v20 g5) dX5_carries_208 q3636 q3638 qs85 q121 q3639 (by decide +kernel) rfl h ⟨rfl, by decide, by decide⟩ (Nat.le_of_ble_eq_true rfl) (Nat.le_of_ble_eq_true rfl) rfl (Nat.le_of_ble_eq_true rfl))) (fun v22 g21 => ?_)
            exact r_iret (pc := 211) dX5_carries_211 rfl
          · skip
            refine r_tabC (v := (4 : Int32)) (tgt := 212) (pc := 133) dX5_carries_133 (by decide) (by decide) rfl (by decide) ?_ (fun c4 => ?_)
            · skip
              refine r_aload_n (pc := 212) dX5_carries_212 rfl 0 rfl ?_
              refine r_aload_n (pc := 213) dX5_carries_213 rfl 0 rfl ?_
              refine r_getR (f := 43) (pc := 214) dX5_carries_214 q3391 (Or.inl rfl) rfl (fun v23 => ?_)
              refine r_iconst (v := (0 : Int32)) (pc := 217) dX5_carries_217 (by decide) ?_
              refine r_iald (pc := 218) dX5_carries_218 (fun v24 => ?_)
              refine r_aload_n (pc := 219) dX5_carries_219 rfl 0 rfl ?_
              refine r_getR (f := 43) (pc := 220) dX5_carries_220 q3391 (Or.inl rfl) rfl (fun v25 => ?_)
              refine r_iconst (v := (1 : Int32)) (pc := 223) dX5_carries_223 (by decide) ?_
              refine r_iald (pc := 224) dX5_carries_224 (fun v26 => ?_)
              refine r_aload_n (pc := 225) dX5_carries_225 rfl 0 rfl ?_
              refine r_getR (f := 43) (pc := 226) dX5_carries_226 q3391 (Or.inl rfl) rfl (fun v27 => ?_)
              refine r_iconst (v := (2 : Int32)) (pc := 229) dX5_carries_229 (by decide) ?_
              refine r_iald (pc := 230) dX5_carries_230 (fun v28 => ?_)
              refine r_cI (pc := 231) (rest := []) (RunOK_chk (fun h => run_V (n := 3) (c9 := 8) (As := [.int v24, .int v26, .int v28]) (rest := []) (t_X5_learns γ l hl x0 v24 v26 v28 g5) dX5_carries_231 q3644 q3646 qs86 q121 q3647 (by decide +kernel) rfl h ⟨rfl, by decide, by decide⟩ (Nat.le_of_ble_eq_true rfl) (Nat.le_of_ble_eq_true rfl) rfl (Nat.le_of_ble_eq_true rfl))) (fun v30 g29 => ?_)
              exact r_iret (pc := 234) dX5_carries_234 rfl
            · skip
              refine r_tabD (tgt := 235) (pc := 133) dX5_carries_133 (by have e0 := lv_neT c0 (a := 0) rfl; have e1 := lv_neT c1 (a := 1) rfl; have e2 := lv_neT c2 (a := 2) rfl; have e3 := lv_neT c3 (a := 3) rfl; have e4 := lv_neT c4 (a := 4) rfl; omega) (by decide) ?_
              refine r_aload_n (pc := 235) dX5_carries_235 rfl 0 rfl ?_
              refine r_aload_n (pc := 236) dX5_carries_236 rfl 0 rfl ?_
              refine r_getR (f := 43) (pc := 237) dX5_carries_237 q3391 (Or.inl rfl) rfl (fun v31 => ?_)
              refine r_iconst (v := (0 : Int32)) (pc := 240) dX5_carries_240 (by decide) ?_
              refine r_iald (pc := 241) dX5_carries_241 (fun v32 => ?_)
              refine r_cI (pc := 242) (rest := []) (RunOK_chk (fun h => run_V (n := 1) (c9 := 8) (As := [.int v32]) (rest := []) (t_X5_passes γ l hl x0 v32 g5) dX5_carries_242 q3660 q3662 qs89 q121 q3663 (by decide +kernel) rfl h ⟨rfl, by decide, by decide⟩ (Nat.le_of_ble_eq_true rfl) (Nat.le_of_ble_eq_true rfl) rfl (Nat.le_of_ble_eq_true rfl))) (fun v34 g33 => ?_)
              exact r_iret (pc := 245) dX5_carries_245 rfl
  · skip
    refine r_lookC (v := (-1281974964 : Int32)) (tgt := 90) (pc := 11) dX5_carries_11 rfl rfl (by decide) ?_ (fun c0 => ?_)
    · skip
      refine r_aload_n (pc := 90) dX5_carries_90 rfl 1 rfl ?_
      refine r_ldcwS (pc := 91) dX5_carries_91 (List.mem_of_getElem? (i := 25) rfl) ?_
      refine r_cI (pc := 94) (rest := []) (RunOK_chk (fun h => run_V (n := 1) (c9 := 7) (As := [.ref (γ.1 37)]) (rest := []) (t_J7_equals γ l hl v1 (γ.1 37) g2) dX5_carries_94 q3803 q2345 q2346 q119 q2347 (by decide +kernel) rfl h ⟨rfl, by decide, by decide⟩ (Nat.le_of_ble_eq_true rfl) (Nat.le_of_ble_eq_true rfl) rfl (Nat.le_of_ble_eq_true rfl))) (fun v36 g35 => ?_)
      refine r_if_eq (tgt := 132) (pc := 97) dX5_carries_97 (by decide) ?_ ?_
      · skip
        refine AW_sub [2, 0] rfl ?_
        exact h_j6 (-1 : Int32) g35
      · skip
        refine r_iconst (v := (2 : Int32)) (pc := 100) dX5_carries_100 (by decide) ?_
        refine r_istore_n (pc := 101) dX5_carries_101 rfl (Nat.le_of_ble_eq_true rfl) rfl ?_
        refine r_goto (tgt := 132) (pc := 102) dX5_carries_102 (by decide) ?_
        refine AW_sub [2, 0] rfl ?_
        exact h_j6 (2 : Int32) g35
    · skip
      refine r_lookC (v := (-1106740644 : Int32)) (tgt := 120) (pc := 11) dX5_carries_11 rfl rfl (by decide) ?_ (fun c1 => ?_)
      · skip
        refine r_aload_n (pc := 120) dX5_carries_120 rfl 1 rfl ?_
        refine r_ldcwS (pc := 121) dX5_carries_121 (List.mem_of_getElem? (i := 27) rfl) ?_
        refine r_cI (pc := 124) (rest := []) (RunOK_chk (fun h => run_V (n := 1) (c9 := 7) (As := [.ref (γ.1 39)]) (rest := []) (t_J7_equals γ l hl v1 (γ.1 39) g2) dX5_carries_124 q3803 q2345 q2346 q119 q2347 (by decide +kernel) rfl h ⟨rfl, by decide, by decide⟩ (Nat.le_of_ble_eq_true rfl) (Nat.le_of_ble_eq_true rfl) rfl (Nat.le_of_ble_eq_true rfl))) (fun v38 g37 => ?_)
        refine r_if_eq (tgt := 132) (pc := 127) dX5_carries_127 (by decide) ?_ ?_
        · skip
          refine AW_sub [2, 0] rfl ?_
          exact h_j6 (-1 : Int32) g37
        · skip
          refine r_iconst (v := (4 : Int32)) (pc := 130) dX5_carries_130 (by decide) ?_
          refine r_istore_n (pc := 131) dX5_carries_131 rfl (Nat.le_of_ble_eq_true rfl) rfl ?_
          refine AW_sub [2, 0] rfl ?_
          exact h_j6 (4 : Int32) g37
      · skip
        refine r_lookC (v := (3003591 : Int32)) (tgt := 60) (pc := 11) dX5_carries_11 rfl rfl (by decide) ?_ (fun c2 => ?_)
        · skip
          refine r_aload_n (pc := 60) dX5_carries_60 rfl 1 rfl ?_
          refine r_ldcwS (pc := 61) dX5_carries_61 (List.mem_of_getElem? (i := 23) rfl) ?_
          refine r_cI (pc := 64) (rest := []) (RunOK_chk (fun h => run_V (n := 1) (c9 := 7) (As := [.ref (γ.1 35)]) (rest := []) (t_J7_equals γ l hl v1 (γ.1 35) g2) dX5_carries_64 q3803 q2345 q2346 q119 q2347 (by decide +kernel) rfl h ⟨rfl, by decide, by decide⟩ (Nat.le_of_ble_eq_true rfl) (Nat.le_of_ble_eq_true rfl) rfl (Nat.le_of_ble_eq_true rfl))) (fun v40 g39 => ?_)
          refine r_if_eq (tgt := 132) (pc := 67) dX5_carries_67 (by decide) ?_ ?_
          · skip
            refine AW_sub [2, 0] rfl ?_
            exact h_j6 (-1 : Int32) g39
          · skip
            refine r_iconst (v := (0 : Int32)) (pc := 70) dX5_carries_70 (by decide) ?_
            refine r_istore_n (pc := 71) dX5_carries_71 rfl (Nat.le_of_ble_eq_true rfl) rfl ?_
            refine r_goto (tgt := 132) (pc := 72) dX5_carries_72 (by decide) ?_
            refine AW_sub [2, 0] rfl ?_
            exact h_j6 (0 : Int32) g39
        · skip
          refine r_lookC (v := (112894716 : Int32)) (tgt := 105) (pc := 11) dX5_carries_11 rfl rfl (by decide) ?_ (fun c3 => ?_)
          · skip
            refine r_aload_n (pc := 105) dX5_carries_105 rfl 1 rfl ?_
            refine r_ldcwS (pc := 106) dX5_carries_106 (List.mem_of_getElem? (i := 26) rfl) ?_
            refine r_cI (pc := 109) (rest := []) (RunOK_chk (fun h => run_V (n := 1) (c9 := 7) (As := [.ref (γ.1 38)]) (rest := []) (t_J7_equals γ l hl v1 (γ.1 38) g2) dX5_carries_109 q3803 q2345 q2346 q119 q2347 (by decide +kernel) rfl h ⟨rfl, by decide, by decide⟩ (Nat.le_of_ble_eq_true rfl) (Nat.le_of_ble_eq_true rfl) rfl (Nat.le_of_ble_eq_true rfl))) (fun v42 g41 => ?_)
            refine r_if_eq (tgt := 132) (pc := 112) dX5_carries_112 (by decide) ?_ ?_
            · skip
              refine AW_sub [2, 0] rfl ?_
              exact h_j6 (-1 : Int32) g41
            · skip
              refine r_iconst (v := (3 : Int32)) (pc := 115) dX5_carries_115 (by decide) ?_
              refine r_istore_n (pc := 116) dX5_carries_116 rfl (Nat.le_of_ble_eq_true rfl) rfl ?_
              refine r_goto (tgt := 132) (pc := 117) dX5_carries_117 (by decide) ?_
              refine AW_sub [2, 0] rfl ?_
              exact h_j6 (3 : Int32) g41
          · skip
            refine r_lookC (v := (550215910 : Int32)) (tgt := 75) (pc := 11) dX5_carries_11 rfl rfl (by decide) ?_ (fun c4 => ?_)
            · skip
              refine r_aload_n (pc := 75) dX5_carries_75 rfl 1 rfl ?_
              refine r_ldcwS (pc := 76) dX5_carries_76 (List.mem_of_getElem? (i := 24) rfl) ?_
              refine r_cI (pc := 79) (rest := []) (RunOK_chk (fun h => run_V (n := 1) (c9 := 7) (As := [.ref (γ.1 36)]) (rest := []) (t_J7_equals γ l hl v1 (γ.1 36) g2) dX5_carries_79 q3803 q2345 q2346 q119 q2347 (by decide +kernel) rfl h ⟨rfl, by decide, by decide⟩ (Nat.le_of_ble_eq_true rfl) (Nat.le_of_ble_eq_true rfl) rfl (Nat.le_of_ble_eq_true rfl))) (fun v44 g43 => ?_)
              refine r_if_eq (tgt := 132) (pc := 82) dX5_carries_82 (by decide) ?_ ?_
              · skip
                refine AW_sub [2, 0] rfl ?_
                exact h_j6 (-1 : Int32) g43
              · skip
                refine r_iconst (v := (1 : Int32)) (pc := 85) dX5_carries_85 (by decide) ?_
                refine r_istore_n (pc := 86) dX5_carries_86 rfl (Nat.le_of_ble_eq_true rfl) rfl ?_
                refine r_goto (tgt := 132) (pc := 87) dX5_carries_87 (by decide) ?_
                refine AW_sub [2, 0] rfl ?_
                exact h_j6 (1 : Int32) g43
            · skip
              refine r_lookD (tgt := 132) (pc := 11) dX5_carries_11 rfl (by refine (lv_osw c0 rfl).trans ?_; refine (lv_osw c1 rfl).trans ?_; refine (lv_osw c2 rfl).trans ?_; refine (lv_osw c3 rfl).trans ?_; refine (lv_osw c4 rfl).trans ?_; rfl) (by decide) ?_
              refine AW_sub [2, 0] rfl ?_
              exact h_j6 (-1 : Int32) g2
abbrev ck_X5_comesBack : CK := ("BanquetVotesModel", prog_25_method_6_code, 2, none, "comesBack", [], 1)
def f_X5_comesBack_L2 (γ : GP) (x0 : Nat) : Nat → Int32 → AH → Option (AH)
  | 0, _, _ => none
  | n + 1, x1, g => (if (5457 : Int32) ≤ x1 then (some g) else gR g x0 30 fun v1 => gR g x0 31 fun v2 => gA g 101 v2 x1 fun v3 => pA γ g 101 v1 x1 v3 fun g4 => f_X5_comesBack_L2 γ x0 n (x1 + (1 : Int32)) g4)
def f_X5_comesBack (γ : GP) (x0 : Nat) (g : AH) : Option (AH) := f_X5_comesBack_L2 γ x0 FU (0 : Int32) g
theorem f_X5_comesBack_L2_w (γ : GP) (l : Launch) (hl : l.stackTraces = false) (G0 : AH) (x0 : Nat) : ∀ (n : Nat) (x1 : Int32) (g : AH), AW ρV γ l ck_X5_comesBack G0 2 [(0, .ref x0), (1, .int x1)] [] g (f_X5_comesBack_L2 γ x0 n x1 g) := by
  intro n
  induction n with
  | zero => intro x1 g; exact AW_none
  | succ n ih =>
    intro x1 g
    unfold f_X5_comesBack_L2
    refine r_iload_n (pc := 2) dX5_comesBack_2 rfl 1 rfl ?_
    refine r_sipush (v := (5457 : Int32)) (pc := 3) dX5_comesBack_3 (by decide) ?_
    refine r_icmp_ge (tgt := 27) (pc := 6) dX5_comesBack_6 (by decide) ?_ ?_
    · skip
      exact r_vret (pc := 27) dX5_comesBack_27 rfl
    · skip
      refine r_aload_n (pc := 9) dX5_comesBack_9 rfl 0 rfl ?_
      refine r_getR (f := 30) (pc := 10) dX5_comesBack_10 q3378 (Or.inl rfl) rfl (fun v1 => ?_)
      refine r_iload_n (pc := 13) dX5_comesBack_13 rfl 1 rfl ?_
      refine r_aload_n (pc := 14) dX5_comesBack_14 rfl 0 rfl ?_
      refine r_getR (f := 31) (pc := 15) dX5_comesBack_15 q3379 (Or.inl rfl) rfl (fun v2 => ?_)
      refine r_iload_n (pc := 18) dX5_comesBack_18 rfl 1 rfl ?_
      refine r_iald (pc := 19) dX5_comesBack_19 (fun v3 => ?_)
      refine r_iast (pc := 20) dX5_comesBack_20 (fun g4 => ?_)
      refine r_iinc (j := 1) (v := (x1 + (1 : Int32))) (pc := 21) dX5_comesBack_21 rfl rfl (Nat.le_of_ble_eq_true rfl) rfl ?_
      refine r_goto (tgt := 2) (pc := 24) dX5_comesBack_24 (by decide) ?_
      refine AW_sub [1, 0] rfl ?_
      exact ih (x1 + (1 : Int32)) g4
theorem t_X5_comesBack (γ : GP) (l : Launch) (hl : l.stackTraces = false) (x0 : Nat) (g : AH) : TrM ρV γ l ⟨"BanquetVotesModel", "comesBack", "()V"⟩ (ws_ ⟨"BanquetVotesModel", "comesBack", "()V"⟩ prog_25_method_6_code 2 none) 1 [.ref x0] g (f_X5_comesBack γ x0 g) := by
  refine TrM_of (plainFor_of_name (by decide)) (Nat.le_of_ble_eq_true rfl) ?_
  unfold f_X5_comesBack
  change AW ρV γ l ck_X5_comesBack g 0 [(0, .ref x0)] [] g _
  refine r_iconst (v := (0 : Int32)) (pc := 0) dX5_comesBack_0 (by decide) ?_
  refine r_istore_n (pc := 1) dX5_comesBack_1 rfl (Nat.le_of_ble_eq_true rfl) rfl ?_
  refine AW_sub [1, 0] rfl ?_
  refine f_X5_comesBack_L2_w γ l hl _ x0 FU (0 : Int32) g
abbrev ck_X5_read : CK := ("BanquetVotesModel", prog_25_method_81_code, 5, (some .int), "read", [], 11)
def f_X5_read_L14 (γ : GP) (x0 : Nat) (K54 : Int32 → AH → Option (Int32 × AH)) : Nat → Int32 → AH → Option (Int32 × AH)
  | 0, _, _ => none
  | n + 1, x1, g => (if x1 = 0 then K54 x1 g else gI g x0 41 fun v5 => gI g x0 40 fun v6 => (if v6 ≤ v5 then K54 x1 g else bI ((if hK g x0 = 8 then f_X5_takes γ x0 (59 : Int32) g else none)) fun v8 g7 => (if v8 = 0 then f_X5_read_L14 γ x0 K54 n (0 : Int32) g7 else bI ((if hK g7 x0 = 8 then f_X5_isCommand γ x0 g7 else none)) fun v10 g9 => (if v10 = 0 then f_X5_read_L14 γ x0 K54 n (0 : Int32) g9 else f_X5_read_L14 γ x0 K54 n (1 : Int32) g9))))
def f_X5_read_L89 (γ : GP) (x0 : Nat) (K134 : Int32 → Int32 → AH → Option (Int32 × AH)) : Nat → Int32 → Int32 → Int32 → AH → Option (Int32 × AH)
  | 0, _, _, _, _ => none
  | n + 1, x2, x3, x4, g => (if x4 = 0 then K134 x2 x3 g else bI ((if hK g x0 = 8 then f_X5_isCommand γ x0 g else none)) fun v20 g19 => bI ((if hK g19 x0 = 8 then f_X5_carries γ x0 g19 else none)) fun v22 g21 => jn (fun (y23 : Int32) (g24 : AH) => (if v22 = 0 then bI ((if hK g24 x0 = 8 then f_X5_takes γ x0 (59 : Int32) g24 else none)) fun v27 g26 => (if v27 = 0 then f_X5_read_L89 γ x0 K134 n y23 v22 (0 : Int32) g26 else f_X5_read_L89 γ x0 K134 n y23 v22 (1 : Int32) g26) else f_X5_read_L89 γ x0 K134 n y23 v22 (0 : Int32) g24)) (fun (j25 : Int32 → AH → Option (Int32 × AH)) => (if v22 = 0 then j25 (x2 + (1 : Int32)) g21 else j25 x2 g21)))
def f_X5_read (γ : GP) (x0 : Nat) (g : AH) : Option (Int32 × AH) := bV ((if hK g x0 = 8 then f_X5_tries γ x0 g else none)) fun g1 => pI γ g1 x0 41 (0 : Int32) fun g2 => bI ((if hK g2 x0 = 8 then f_X5_isCommand γ x0 g2 else none)) fun v4 g3 => f_X5_read_L14 γ x0 (fun (y11 : Int32) (g12 : AH) => (if y11 = 0 then gI g12 x0 41 fun v13 => pI γ g12 x0 44 v13 fun g14 => pI γ g14 x0 40 (0 : Int32) fun g15 => bI ((if hK g15 x0 = 8 then f_X5_raises γ x0 (1 : Int32) g15 else none)) fun v17 g16 => (some (v17, g16)) else pI γ g12 x0 41 (0 : Int32) fun g18 => f_X5_read_L89 γ x0 (fun (y28 : Int32) (y29 : Int32) (g30 : AH) => pI γ g30 x0 40 (0 : Int32) fun g31 => (if y29 = 0 then bI ((if hK g31 x0 = 8 then f_X5_keeps γ x0 y28 g31 else none)) fun v33 g32 => (some (v33, g32)) else bI ((if hK g31 x0 = 8 then f_X5_refuses γ x0 (13 : Int32) y28 g31 else none)) fun v35 g34 => bV ((if hK g34 x0 = 8 then f_X5_comesBack γ x0 g34 else none)) fun g36 => bI ((if hK g36 x0 = 8 then f_X5_raises γ x0 (2 : Int32) g36 else none)) fun v38 g37 => (some (v38, g37)))) FU (0 : Int32) (0 : Int32) (1 : Int32) g18)) FU v4 g3
theorem f_X5_read_L14_w (γ : GP) (l : Launch) (hl : l.stackTraces = false) (G0 : AH) (x0 : Nat) (K54 : Int32 → AH → Option (Int32 × AH)) (h_K54 : ∀ (y1 : Int32) (g : AH), AW ρI γ l ck_X5_read G0 54 [(0, .ref x0), (1, .int y1)] [] g (K54 y1 g)) : ∀ (n : Nat) (x1 : Int32) (g : AH), AW ρI γ l ck_X5_read G0 14 [(0, .ref x0), (1, .int x1)] [] g (f_X5_read_L14 γ x0 K54 n x1 g) := by
  intro n
  induction n with
  | zero => intro x1 g; exact AW_none
  | succ n ih =>
    intro x1 g
    unfold f_X5_read_L14
    refine r_iload_n (pc := 14) dX5_read_14 rfl 1 rfl ?_
    refine r_if_eq (tgt := 54) (pc := 15) dX5_read_15 (by decide) ?_ ?_
    · skip
      exact h_K54 x1 g
    · skip
      refine r_aload_n (pc := 18) dX5_read_18 rfl 0 rfl ?_
      refine r_getI (f := 41) (pc := 19) dX5_read_19 q3389 (Or.inl rfl) rfl (fun v5 => ?_)
      refine r_aload_n (pc := 22) dX5_read_22 rfl 0 rfl ?_
      refine r_getI (f := 40) (pc := 23) dX5_read_23 q3388 (Or.inl rfl) rfl (fun v6 => ?_)
      refine r_icmp_ge (tgt := 54) (pc := 26) dX5_read_26 (by decide) ?_ ?_
      · skip
        exact h_K54 x1 g
      · skip
        refine r_aload_n (pc := 29) dX5_read_29 rfl 0 rfl ?_
        refine r_bipush (v := (59 : Int32)) (pc := 30) dX5_read_30 (by decide) ?_
        refine r_cI (pc := 32) (rest := []) (RunOK_chk (fun h => run_V (n := 1) (c9 := 8) (As := [.int (59 : Int32)]) (rest := []) (t_X5_takes γ l hl x0 (59 : Int32) g) dX5_read_32 q3817 q3819 qs102 q121 q3820 (by decide +kernel) rfl h ⟨rfl, by decide, by decide⟩ (Nat.le_of_ble_eq_true rfl) (Nat.le_of_ble_eq_true rfl) rfl (Nat.le_of_ble_eq_true rfl))) (fun v8 g7 => ?_)
        refine r_if_eq (tgt := 49) (pc := 35) dX5_read_35 (by decide) ?_ ?_
        · skip
          refine r_iconst (v := (0 : Int32)) (pc := 49) dX5_read_49 (by decide) ?_
          refine r_istore_n (pc := 50) dX5_read_50 rfl (Nat.le_of_ble_eq_true rfl) rfl ?_
          refine r_goto (tgt := 14) (pc := 51) dX5_read_51 (by decide) ?_
          refine AW_sub [1, 0] rfl ?_
          exact ih (0 : Int32) g7
        · skip
          refine r_aload_n (pc := 38) dX5_read_38 rfl 0 rfl ?_
          refine r_cI (pc := 39) (rest := []) (RunOK_chk (fun h => run_V (n := 0) (c9 := 8) (As := []) (rest := []) (t_X5_isCommand γ l hl x0 g7) dX5_read_39 q3728 q3730 qs98 q121 q3731 (by decide +kernel) rfl h ⟨rfl, by decide, by decide⟩ (Nat.le_of_ble_eq_true rfl) (Nat.le_of_ble_eq_true rfl) rfl (Nat.le_of_ble_eq_true rfl))) (fun v10 g9 => ?_)
          refine r_if_eq (tgt := 49) (pc := 42) dX5_read_42 (by decide) ?_ ?_
          · skip
            refine r_iconst (v := (0 : Int32)) (pc := 49) dX5_read_49 (by decide) ?_
            refine r_istore_n (pc := 50) dX5_read_50 rfl (Nat.le_of_ble_eq_true rfl) rfl ?_
            refine r_goto (tgt := 14) (pc := 51) dX5_read_51 (by decide) ?_
            refine AW_sub [1, 0] rfl ?_
            exact ih (0 : Int32) g9
          · skip
            refine r_iconst (v := (1 : Int32)) (pc := 45) dX5_read_45 (by decide) ?_
            refine r_goto (tgt := 50) (pc := 46) dX5_read_46 (by decide) ?_
            refine r_istore_n (pc := 50) dX5_read_50 rfl (Nat.le_of_ble_eq_true rfl) rfl ?_
            refine r_goto (tgt := 14) (pc := 51) dX5_read_51 (by decide) ?_
            refine AW_sub [1, 0] rfl ?_
            exact ih (1 : Int32) g9
theorem f_X5_read_L89_w (γ : GP) (l : Launch) (hl : l.stackTraces = false) (G0 : AH) (x0 : Nat) (K134 : Int32 → Int32 → AH → Option (Int32 × AH)) (h_K134 : ∀ (y2 : Int32) (y3 : Int32) (g : AH), AW ρI γ l ck_X5_read G0 134 [(0, .ref x0), (2, .int y2), (3, .int y3)] [] g (K134 y2 y3 g)) : ∀ (n : Nat) (x2 : Int32) (x3 : Int32) (x4 : Int32) (g : AH), AW ρI γ l ck_X5_read G0 89 [(0, .ref x0), (2, .int x2), (3, .int x3), (4, .int x4)] [] g (f_X5_read_L89 γ x0 K134 n x2 x3 x4 g) := by
  intro n
  induction n with
  | zero => intro x2 x3 x4 g; exact AW_none
  | succ n ih =>
    intro x2 x3 x4 g
    unfold f_X5_read_L89
    refine r_iload (pc := 89) dX5_read_89 3 rfl ?_
    refine r_if_eq (tgt := 134) (pc := 91) dX5_read_91 (by decide) ?_ ?_
    · skip
      refine AW_sub [0, 1, 2] rfl ?_
      exact h_K134 x2 x3 g
    · skip
      refine r_aload_n (pc := 94) dX5_read_94 rfl 0 rfl ?_
      refine r_cI (pc := 95) (rest := []) (RunOK_chk (fun h => run_V (n := 0) (c9 := 8) (As := []) (rest := []) (t_X5_isCommand γ l hl x0 g) dX5_read_95 q3728 q3730 qs98 q121 q3731 (by decide +kernel) rfl h ⟨rfl, by decide, by decide⟩ (Nat.le_of_ble_eq_true rfl) (Nat.le_of_ble_eq_true rfl) rfl (Nat.le_of_ble_eq_true rfl))) (fun v20 g19 => ?_)
      refine r_istore_n (pc := 98) dX5_read_98 rfl (Nat.le_of_ble_eq_true rfl) rfl ?_
      refine r_aload_n (pc := 99) dX5_read_99 rfl 1 rfl ?_
      refine r_cI (pc := 100) (rest := []) (RunOK_chk (fun h => run_V (n := 0) (c9 := 8) (As := []) (rest := []) (t_X5_carries γ l hl x0 g19) dX5_read_100 q3825 q3827 qs104 q121 q3828 (by decide +kernel) rfl h ⟨rfl, by decide, by decide⟩ (Nat.le_of_ble_eq_true rfl) (Nat.le_of_ble_eq_true rfl) rfl (Nat.le_of_ble_eq_true rfl))) (fun v22 g21 => ?_)
      refine r_istore_n (pc := 103) dX5_read_103 rfl (Nat.le_of_ble_eq_true rfl) rfl ?_
      refine r_iload_n (pc := 104) dX5_read_104 rfl 0 rfl ?_
      refine AW_jn (P := fun (j : Int32 → AH → Option (Int32 × AH)) => ∀ (y23 : Int32) (g24 : AH), AW ρI γ l ck_X5_read G0 111 [(0, .ref x0), (2, .int y23), (3, .int v22)] [] g24 (j y23 g24)) (fun y23 g24 => ?_) (fun j25 h_j25 => ?_)
      · skip
        refine r_iload_n (pc := 111) dX5_read_111 rfl 2 rfl ?_
        refine r_if_ne (tgt := 128) (pc := 112) dX5_read_112 (by decide) ?_ ?_
        · skip
          refine r_aload_n (pc := 115) dX5_read_115 rfl 0 rfl ?_
          refine r_bipush (v := (59 : Int32)) (pc := 116) dX5_read_116 (by decide) ?_
          refine r_cI (pc := 118) (rest := []) (RunOK_chk (fun h => run_V (n := 1) (c9 := 8) (As := [.int (59 : Int32)]) (rest := []) (t_X5_takes γ l hl x0 (59 : Int32) g24) dX5_read_118 q3817 q3819 qs102 q121 q3820 (by decide +kernel) rfl h ⟨rfl, by decide, by decide⟩ (Nat.le_of_ble_eq_true rfl) (Nat.le_of_ble_eq_true rfl) rfl (Nat.le_of_ble_eq_true rfl))) (fun v27 g26 => ?_)
          refine r_if_eq (tgt := 128) (pc := 121) dX5_read_121 (by decide) ?_ ?_
          · skip
            refine r_iconst (v := (0 : Int32)) (pc := 128) dX5_read_128 (by decide) ?_
            refine r_istore (pc := 129) dX5_read_129 (Nat.le_of_ble_eq_true rfl) rfl ?_
            refine r_goto (tgt := 89) (pc := 131) dX5_read_131 (by decide) ?_
            refine AW_sub [1, 2, 3, 0] rfl ?_
            exact ih y23 v22 (0 : Int32) g26
          · skip
            refine r_iconst (v := (1 : Int32)) (pc := 124) dX5_read_124 (by decide) ?_
            refine r_goto (tgt := 129) (pc := 125) dX5_read_125 (by decide) ?_
            refine r_istore (pc := 129) dX5_read_129 (Nat.le_of_ble_eq_true rfl) rfl ?_
            refine r_goto (tgt := 89) (pc := 131) dX5_read_131 (by decide) ?_
            refine AW_sub [1, 2, 3, 0] rfl ?_
            exact ih y23 v22 (1 : Int32) g26
        · skip
          refine r_iconst (v := (0 : Int32)) (pc := 128) dX5_read_128 (by decide) ?_
          refine r_istore (pc := 129) dX5_read_129 (Nat.le_of_ble_eq_true rfl) rfl ?_
          refine r_goto (tgt := 89) (pc := 131) dX5_read_131 (by decide) ?_
          refine AW_sub [1, 2, 3, 0] rfl ?_
          exact ih y23 v22 (0 : Int32) g24
      · skip
        refine r_if_ne (tgt := 111) (pc := 105) dX5_read_105 (by decide) ?_ ?_
        · skip
          refine r_iinc (j := 3) (v := (x2 + (1 : Int32))) (pc := 108) dX5_read_108 rfl rfl (Nat.le_of_ble_eq_true rfl) rfl ?_
          refine AW_sub [3, 0, 1] rfl ?_
          exact h_j25 (x2 + (1 : Int32)) g21
        · skip
          refine AW_sub [2, 3, 0] rfl ?_
          exact h_j25 x2 g21
theorem t_X5_read (γ : GP) (l : Launch) (hl : l.stackTraces = false) (x0 : Nat) (g : AH) : TrM ρI γ l ⟨"BanquetVotesModel", "read", "()I"⟩ (ws_ ⟨"BanquetVotesModel", "read", "()I"⟩ prog_25_method_81_code 5 (some .int)) 11 [.ref x0] g (f_X5_read γ x0 g) := by
  refine TrM_of (plainFor_of_name (by decide)) (Nat.le_of_ble_eq_true rfl) ?_
  unfold f_X5_read
  change AW ρI γ l ck_X5_read g 0 [(0, .ref x0)] [] g _
  refine r_aload_n (pc := 0) dX5_read_0 rfl 0 rfl ?_
  refine r_cV (pc := 1) (rest := []) (RunOK_chk (fun h => run_V (n := 0) (c9 := 8) (As := []) (rest := []) (t_X5_tries γ l hl x0 g) dX5_read_1 q3451 q3453 qs52 q121 q3454 (by decide +kernel) rfl h ⟨rfl, by decide, by decide⟩ (Nat.le_of_ble_eq_true rfl) (Nat.le_of_ble_eq_true rfl) rfl (Nat.le_of_ble_eq_true rfl))) (fun g1 => ?_)
  refine r_aload_n (pc := 4) dX5_read_4 rfl 0 rfl ?_
  refine r_iconst (v := (0 : Int32)) (pc := 5) dX5_read_5 (by decide) ?_
  refine r_putI (f := 41) (pc := 6) dX5_read_6 q3389 (Or.inl rfl) (Or.inl rfl) rfl (fun g2 => ?_)
  refine r_aload_n (pc := 9) dX5_read_9 rfl 0 rfl ?_
  refine r_cI (pc := 10) (rest := []) (RunOK_chk (fun h => run_V (n := 0) (c9 := 8) (As := []) (rest := []) (t_X5_isCommand γ l hl x0 g2) dX5_read_10 q3728 q3730 qs98 q121 q3731 (by decide +kernel) rfl h ⟨rfl, by decide, by decide⟩ (Nat.le_of_ble_eq_true rfl) (Nat.le_of_ble_eq_true rfl) rfl (Nat.le_of_ble_eq_true rfl))) (fun v4 g3 => ?_)
  refine r_istore_n (pc := 13) dX5_read_13 rfl (Nat.le_of_ble_eq_true rfl) rfl ?_
  refine AW_sub [1, 0] rfl ?_
  refine f_X5_read_L14_w γ l hl _ x0 _ ?_ FU v4 g3
  · intro y11 g12
    refine r_iload_n (pc := 54) dX5_read_54 rfl 1 rfl ?_
    refine r_if_ne (tgt := 77) (pc := 55) dX5_read_55 (by decide) ?_ ?_
    · skip
      refine r_aload_n (pc := 58) dX5_read_58 rfl 0 rfl ?_
      refine r_aload_n (pc := 59) dX5_read_59 rfl 0 rfl ?_
      refine r_getI (f := 41) (pc := 60) dX5_read_60 q3389 (Or.inl rfl) rfl (fun v13 => ?_)
      refine r_putI (f := 44) (pc := 63) dX5_read_63 q3392 (Or.inl rfl) (Or.inl rfl) rfl (fun g14 => ?_)
      refine r_aload_n (pc := 66) dX5_read_66 rfl 0 rfl ?_
      refine r_iconst (v := (0 : Int32)) (pc := 67) dX5_read_67 (by decide) ?_
      refine r_putI (f := 40) (pc := 68) dX5_read_68 q3388 (Or.inl rfl) (Or.inl rfl) rfl (fun g15 => ?_)
      refine r_aload_n (pc := 71) dX5_read_71 rfl 0 rfl ?_
      refine r_iconst (v := (1 : Int32)) (pc := 72) dX5_read_72 (by decide) ?_
      refine r_cI (pc := 73) (rest := []) (RunOK_chk (fun h => run_V (n := 1) (c9 := 8) (As := [.int (1 : Int32)]) (rest := []) (t_X5_raises γ l hl x0 (1 : Int32) g15) dX5_read_73 q3458 q3460 qs53 q121 q3461 (by decide +kernel) rfl h ⟨rfl, by decide, by decide⟩ (Nat.le_of_ble_eq_true rfl) (Nat.le_of_ble_eq_true rfl) rfl (Nat.le_of_ble_eq_true rfl))) (fun v17 g16 => ?_)
      exact r_iret (pc := 76) dX5_read_76 rfl
    · skip
      refine r_aload_n (pc := 77) dX5_read_77 rfl 0 rfl ?_
      refine r_iconst (v := (0 : Int32)) (pc := 78) dX5_read_78 (by decide) ?_
      refine r_putI (f := 41) (pc := 79) dX5_read_79 q3389 (Or.inl rfl) (Or.inl rfl) rfl (fun g18 => ?_)
      refine r_iconst (v := (0 : Int32)) (pc := 82) dX5_read_82 (by decide) ?_
      refine r_istore_n (pc := 83) dX5_read_83 rfl (Nat.le_of_ble_eq_true rfl) rfl ?_
      refine r_iconst (v := (0 : Int32)) (pc := 84) dX5_read_84 (by decide) ?_
      refine r_istore_n (pc := 85) dX5_read_85 rfl (Nat.le_of_ble_eq_true rfl) rfl ?_
      refine r_iconst (v := (1 : Int32)) (pc := 86) dX5_read_86 (by decide) ?_
      refine r_istore (pc := 87) dX5_read_87 (Nat.le_of_ble_eq_true rfl) rfl ?_
      refine AW_sub [3, 2, 1, 0] rfl ?_
      refine f_X5_read_L89_w γ l hl _ x0 _ ?_ FU (0 : Int32) (0 : Int32) (1 : Int32) g18
      · intro y28 y29 g30
        refine r_aload_n (pc := 134) dX5_read_134 rfl 0 rfl ?_
        refine r_iconst (v := (0 : Int32)) (pc := 135) dX5_read_135 (by decide) ?_
        refine r_putI (f := 40) (pc := 136) dX5_read_136 q3388 (Or.inl rfl) (Or.inl rfl) rfl (fun g31 => ?_)
        refine r_iload_n (pc := 139) dX5_read_139 rfl 2 rfl ?_
        refine r_if_ne (tgt := 149) (pc := 140) dX5_read_140 (by decide) ?_ ?_
        · skip
          refine r_aload_n (pc := 143) dX5_read_143 rfl 0 rfl ?_
          refine r_iload_n (pc := 144) dX5_read_144 rfl 1 rfl ?_
          refine r_cI (pc := 145) (rest := []) (RunOK_chk (fun h => run_V (n := 1) (c9 := 8) (As := [.int y28]) (rest := []) (t_X5_keeps γ l hl x0 y28 g31) dX5_read_145 q3470 q3472 qs56 q121 q3473 (by decide +kernel) rfl h ⟨rfl, by decide, by decide⟩ (Nat.le_of_ble_eq_true rfl) (Nat.le_of_ble_eq_true rfl) rfl (Nat.le_of_ble_eq_true rfl))) (fun v33 g32 => ?_)
          exact r_iret (pc := 148) dX5_read_148 rfl
        · skip
          refine r_aload_n (pc := 149) dX5_read_149 rfl 0 rfl ?_
          refine r_bipush (v := (13 : Int32)) (pc := 150) dX5_read_150 (by decide) ?_
          refine r_iload_n (pc := 152) dX5_read_152 rfl 1 rfl ?_
          refine r_cI (pc := 153) (rest := []) (RunOK_chk (fun h => run_V (n := 2) (c9 := 8) (As := [.int (13 : Int32), .int y28]) (rest := []) (t_X5_refuses γ l hl x0 (13 : Int32) y28 g31) dX5_read_153 q3462 q3464 qs54 q121 q3465 (by decide +kernel) rfl h ⟨rfl, by decide, by decide⟩ (Nat.le_of_ble_eq_true rfl) (Nat.le_of_ble_eq_true rfl) rfl (Nat.le_of_ble_eq_true rfl))) (fun v35 g34 => ?_)
          refine r_istore_n (pc := 156) dX5_read_156 rfl (Nat.le_of_ble_eq_true rfl) rfl ?_
          refine r_aload_n (pc := 157) dX5_read_157 rfl 1 rfl ?_
          refine r_cV (pc := 158) (rest := []) (RunOK_chk (fun h => run_V (n := 0) (c9 := 8) (As := []) (rest := []) (t_X5_comesBack γ l hl x0 g34) dX5_read_158 q3829 q3831 qs105 q121 q3832 (by decide +kernel) rfl h ⟨rfl, by decide, by decide⟩ (Nat.le_of_ble_eq_true rfl) (Nat.le_of_ble_eq_true rfl) rfl (Nat.le_of_ble_eq_true rfl))) (fun g36 => ?_)
          refine r_aload_n (pc := 161) dX5_read_161 rfl 1 rfl ?_
          refine r_iconst (v := (2 : Int32)) (pc := 162) dX5_read_162 (by decide) ?_
          refine r_cI (pc := 163) (rest := []) (RunOK_chk (fun h => run_V (n := 1) (c9 := 8) (As := [.int (2 : Int32)]) (rest := []) (t_X5_raises γ l hl x0 (2 : Int32) g36) dX5_read_163 q3458 q3460 qs53 q121 q3461 (by decide +kernel) rfl h ⟨rfl, by decide, by decide⟩ (Nat.le_of_ble_eq_true rfl) (Nat.le_of_ble_eq_true rfl) rfl (Nat.le_of_ble_eq_true rfl))) (fun v38 g37 => ?_)
          exact r_iret (pc := 166) dX5_read_166 rfl
abbrev ck_X5_errorPosition : CK := ("BanquetVotesModel", prog_25_method_82_code, 1, (some .int), "errorPosition", [], 2)
def f_X5_errorPosition (γ : GP) (x0 : Nat) (g : AH) : Option (Int32 × AH) := pI γ g x0 50 (0 : Int32) fun g1 => gI g1 x0 44 fun v2 => (if 0 ≤ v2 then gI g1 x0 44 fun v3 => (some (v3, g1)) else bI ((if hK g1 x0 = 8 then f_X5_raises γ x0 (1 : Int32) g1 else none)) fun v5 g4 => (some (v5, g4)))
theorem t_X5_errorPosition (γ : GP) (l : Launch) (hl : l.stackTraces = false) (x0 : Nat) (g : AH) : TrM ρI γ l ⟨"BanquetVotesModel", "errorPosition", "()I"⟩ (ws_ ⟨"BanquetVotesModel", "errorPosition", "()I"⟩ prog_25_method_82_code 1 (some .int)) 2 [.ref x0] g (f_X5_errorPosition γ x0 g) := by
  refine TrM_of (plainFor_of_name (by decide)) (Nat.le_of_ble_eq_true rfl) ?_
  unfold f_X5_errorPosition
  change AW ρI γ l ck_X5_errorPosition g 0 [(0, .ref x0)] [] g _
  refine r_aload_n (pc := 0) dX5_errorPosition_0 rfl 0 rfl ?_
  refine r_iconst (v := (0 : Int32)) (pc := 1) dX5_errorPosition_1 (by decide) ?_
  refine r_putI (f := 50) (pc := 2) dX5_errorPosition_2 q3398 (Or.inl rfl) (Or.inl rfl) rfl (fun g1 => ?_)
  refine r_aload_n (pc := 5) dX5_errorPosition_5 rfl 0 rfl ?_
  refine r_getI (f := 44) (pc := 6) dX5_errorPosition_6 q3392 (Or.inl rfl) rfl (fun v2 => ?_)
  refine r_if_ge (tgt := 20) (pc := 9) dX5_errorPosition_9 (by decide) ?_ ?_
  · skip
    refine r_aload_n (pc := 20) dX5_errorPosition_20 rfl 0 rfl ?_
    refine r_getI (f := 44) (pc := 21) dX5_errorPosition_21 q3392 (Or.inl rfl) rfl (fun v3 => ?_)
    exact r_iret (pc := 24) dX5_errorPosition_24 rfl
  · skip
    refine r_aload_n (pc := 12) dX5_errorPosition_12 rfl 0 rfl ?_
    refine r_iconst (v := (1 : Int32)) (pc := 13) dX5_errorPosition_13 (by decide) ?_
    refine r_cI (pc := 14) (rest := []) (RunOK_chk (fun h => run_V (n := 1) (c9 := 8) (As := [.int (1 : Int32)]) (rest := []) (t_X5_raises γ l hl x0 (1 : Int32) g1) dX5_errorPosition_14 q3458 q3460 qs53 q121 q3461 (by decide +kernel) rfl h ⟨rfl, by decide, by decide⟩ (Nat.le_of_ble_eq_true rfl) (Nat.le_of_ble_eq_true rfl) rfl (Nat.le_of_ble_eq_true rfl))) (fun v5 g4 => ?_)
    refine r_goto (tgt := 24) (pc := 17) dX5_errorPosition_17 (by decide) ?_
    exact r_iret (pc := 24) dX5_errorPosition_24 rfl
abbrev ck_X5_refusal : CK := ("BanquetVotesModel", prog_25_method_83_code, 2, (some .int), "refusal", [], 2)
def f_X5_refusal (γ : GP) (x0 : Nat) (x1 : Int32) (g : AH) : Option (Int32 × AH) := pI γ g x0 50 (0 : Int32) fun g1 => gI g1 x0 45 fun v2 => (if v2 = 0 then bI ((if hK g1 x0 = 8 then f_X5_raises γ x0 (1 : Int32) g1 else none)) fun v4 g3 => (some (v4, g3)) else (if x1 = 0 then gI g1 x0 45 fun v5 => (some (v5, g1)) else gI g1 x0 46 fun v6 => (some (v6, g1))))
theorem t_X5_refusal (γ : GP) (l : Launch) (hl : l.stackTraces = false) (x0 : Nat) (x1 : Int32) (g : AH) : TrM ρI γ l ⟨"BanquetVotesModel", "refusal", "(Z)I"⟩ (ws_ ⟨"BanquetVotesModel", "refusal", "(Z)I"⟩ prog_25_method_83_code 2 (some .int)) 2 [.ref x0, .int x1] g (f_X5_refusal γ x0 x1 g) := by
  refine TrM_of (plainFor_of_name (by decide)) (Nat.le_of_ble_eq_true rfl) ?_
  unfold f_X5_refusal
  change AW ρI γ l ck_X5_refusal g 0 [(0, .ref x0), (1, .int x1)] [] g _
  refine r_aload_n (pc := 0) dX5_refusal_0 rfl 0 rfl ?_
  refine r_iconst (v := (0 : Int32)) (pc := 1) dX5_refusal_1 (by decide) ?_
  refine r_putI (f := 50) (pc := 2) dX5_refusal_2 q3398 (Or.inl rfl) (Or.inl rfl) rfl (fun g1 => ?_)
  refine r_aload_n (pc := 5) dX5_refusal_5 rfl 0 rfl ?_
  refine r_getI (f := 45) (pc := 6) dX5_refusal_6 q3393 (Or.inl rfl) rfl (fun v2 => ?_)
  refine r_if_ne (tgt := 18) (pc := 9) dX5_refusal_9 (by decide) ?_ ?_
  · skip
    refine r_aload_n (pc := 12) dX5_refusal_12 rfl 0 rfl ?_
    refine r_iconst (v := (1 : Int32)) (pc := 13) dX5_refusal_13 (by decide) ?_
    refine r_cI (pc := 14) (rest := []) (RunOK_chk (fun h => run_V (n := 1) (c9 := 8) (As := [.int (1 : Int32)]) (rest := []) (t_X5_raises γ l hl x0 (1 : Int32) g1) dX5_refusal_14 q3458 q3460 qs53 q121 q3461 (by decide +kernel) rfl h ⟨rfl, by decide, by decide⟩ (Nat.le_of_ble_eq_true rfl) (Nat.le_of_ble_eq_true rfl) rfl (Nat.le_of_ble_eq_true rfl))) (fun v4 g3 => ?_)
    exact r_iret (pc := 17) dX5_refusal_17 rfl
  · skip
    refine r_iload_n (pc := 18) dX5_refusal_18 rfl 1 rfl ?_
    refine r_if_eq (tgt := 29) (pc := 19) dX5_refusal_19 (by decide) ?_ ?_
    · skip
      refine r_aload_n (pc := 29) dX5_refusal_29 rfl 0 rfl ?_
      refine r_getI (f := 45) (pc := 30) dX5_refusal_30 q3393 (Or.inl rfl) rfl (fun v5 => ?_)
      exact r_iret (pc := 33) dX5_refusal_33 rfl
    · skip
      refine r_aload_n (pc := 22) dX5_refusal_22 rfl 0 rfl ?_
      refine r_getI (f := 46) (pc := 23) dX5_refusal_23 q3394 (Or.inl rfl) rfl (fun v6 => ?_)
      refine r_goto (tgt := 33) (pc := 26) dX5_refusal_26 (by decide) ?_
      exact r_iret (pc := 33) dX5_refusal_33 rfl
