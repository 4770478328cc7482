set_option maxRecDepth 100000
abbrev cX5_init : ByteArray := prog_25_method_1_code
def dkwX5_init_3 : List UInt8 := [181, 0, 35, 42, 6, 188, 10, 181, 0, 39, 42, 2, 181, 0, 42, 177]
abbrev dktX5_init_3 : List UInt8 := dkwX5_init_3 ++ []
def dkwX5_init_2 : List UInt8 := [181, 0, 23, 42, 16, 40, 188, 5, 181, 0, 26, 42, 16, 60, 188, 5, 181, 0, 30, 42, 18, 33]
abbrev dktX5_init_2 : List UInt8 := dkwX5_init_2 ++ dktX5_init_3
def dkwX5_init_1 : List UInt8 := [17, 21, 81, 188, 10, 181, 0, 16, 42, 18, 19, 188, 10, 181, 0, 20, 42, 17, 21, 81, 188, 10]
abbrev dktX5_init_1 : List UInt8 := dkwX5_init_1 ++ dktX5_init_2
def dkwX5_init_0 : List UInt8 := [42, 183, 0, 3, 42, 17, 21, 81, 188, 10, 181, 0, 9, 42, 17, 21, 81, 188, 10, 181, 0, 13, 42]
abbrev dktX5_init_0 : List UInt8 := dkwX5_init_0 ++ dktX5_init_1
theorem dksX5_init_0 : cX5_init.data.toList.drop 0 = dktX5_init_0 := by decide +kernel
theorem dksX5_init_1 : cX5_init.data.toList.drop 23 = dktX5_init_1 := dk_seg dksX5_init_0 23 rfl rfl
theorem dksX5_init_2 : cX5_init.data.toList.drop 45 = dktX5_init_2 := dk_seg dksX5_init_1 22 rfl rfl
theorem dksX5_init_3 : cX5_init.data.toList.drop 67 = dktX5_init_3 := dk_seg dksX5_init_2 22 rfl rfl
theorem dX5_init_0 : decode cX5_init 0 = .ok (.aload_n 0, 1) := dk_42 (dk_at dksX5_init_0 0 rfl rfl)
theorem dX5_init_1 : decode cX5_init 1 = .ok (.invokespecial 3, 3) := dk_183 0 3 (dk_at dksX5_init_0 1 rfl rfl)
theorem dX5_init_4 : decode cX5_init 4 = .ok (.aload_n 0, 1) := dk_42 (dk_at dksX5_init_0 4 rfl rfl)
theorem dX5_init_5 : decode cX5_init 5 = .ok (.sipush 5457, 3) := dk_17 21 81 (dk_at dksX5_init_0 5 rfl rfl)
theorem dX5_init_8 : decode cX5_init 8 = .ok (.newarray .int, 2) := dk_188_10 (dk_at dksX5_init_0 8 rfl rfl)
theorem dX5_init_10 : decode cX5_init 10 = .ok (.putfield 9, 3) := dk_181 0 9 (dk_at dksX5_init_0 10 rfl rfl)
theorem dX5_init_13 : decode cX5_init 13 = .ok (.aload_n 0, 1) := dk_42 (dk_at dksX5_init_0 13 rfl rfl)
theorem dX5_init_14 : decode cX5_init 14 = .ok (.sipush 5457, 3) := dk_17 21 81 (dk_at dksX5_init_0 14 rfl rfl)
theorem dX5_init_17 : decode cX5_init 17 = .ok (.newarray .int, 2) := dk_188_10 (dk_at dksX5_init_0 17 rfl rfl)
theorem dX5_init_19 : decode cX5_init 19 = .ok (.putfield 13, 3) := dk_181 0 13 (dk_at dksX5_init_0 19 rfl rfl)
theorem dX5_init_22 : decode cX5_init 22 = .ok (.aload_n 0, 1) := dk_42 (dk_at dksX5_init_0 22 rfl rfl)
theorem dX5_init_23 : decode cX5_init 23 = .ok (.sipush 5457, 3) := dk_17 21 81 (dk_at dksX5_init_1 0 rfl rfl)
theorem dX5_init_26 : decode cX5_init 26 = .ok (.newarray .int, 2) := dk_188_10 (dk_at dksX5_init_1 3 rfl rfl)
theorem dX5_init_28 : decode cX5_init 28 = .ok (.putfield 16, 3) := dk_181 0 16 (dk_at dksX5_init_1 5 rfl rfl)
theorem dX5_init_31 : decode cX5_init 31 = .ok (.aload_n 0, 1) := dk_42 (dk_at dksX5_init_1 8 rfl rfl)
theorem dX5_init_32 : decode cX5_init 32 = .ok (.ldc 19, 2) := dk_18 19 (dk_at dksX5_init_1 9 rfl rfl)
theorem dX5_init_34 : decode cX5_init 34 = .ok (.newarray .int, 2) := dk_188_10 (dk_at dksX5_init_1 11 rfl rfl)
theorem dX5_init_36 : decode cX5_init 36 = .ok (.putfield 20, 3) := dk_181 0 20 (dk_at dksX5_init_1 13 rfl rfl)
theorem dX5_init_39 : decode cX5_init 39 = .ok (.aload_n 0, 1) := dk_42 (dk_at dksX5_init_1 16 rfl rfl)
theorem dX5_init_40 : decode cX5_init 40 = .ok (.sipush 5457, 3) := dk_17 21 81 (dk_at dksX5_init_1 17 rfl rfl)
theorem dX5_init_43 : decode cX5_init 43 = .ok (.newarray .int, 2) := dk_188_10 (dk_at dksX5_init_1 20 rfl rfl)
theorem dX5_init_45 : decode cX5_init 45 = .ok (.putfield 23, 3) := dk_181 0 23 (dk_at dksX5_init_2 0 rfl rfl)
theorem dX5_init_48 : decode cX5_init 48 = .ok (.aload_n 0, 1) := dk_42 (dk_at dksX5_init_2 3 rfl rfl)
theorem dX5_init_49 : decode cX5_init 49 = .ok (.bipush 40, 2) := dk_16 40 (dk_at dksX5_init_2 4 rfl rfl)
theorem dX5_init_51 : decode cX5_init 51 = .ok (.newarray .char, 2) := dk_188_5 (dk_at dksX5_init_2 6 rfl rfl)
theorem dX5_init_53 : decode cX5_init 53 = .ok (.putfield 26, 3) := dk_181 0 26 (dk_at dksX5_init_2 8 rfl rfl)
theorem dX5_init_56 : decode cX5_init 56 = .ok (.aload_n 0, 1) := dk_42 (dk_at dksX5_init_2 11 rfl rfl)
theorem dX5_init_57 : decode cX5_init 57 = .ok (.bipush 60, 2) := dk_16 60 (dk_at dksX5_init_2 12 rfl rfl)
theorem dX5_init_59 : decode cX5_init 59 = .ok (.newarray .char, 2) := dk_188_5 (dk_at dksX5_init_2 14 rfl rfl)
theorem dX5_init_61 : decode cX5_init 61 = .ok (.putfield 30, 3) := dk_181 0 30 (dk_at dksX5_init_2 16 rfl rfl)
theorem dX5_init_64 : decode cX5_init 64 = .ok (.aload_n 0, 1) := dk_42 (dk_at dksX5_init_2 19 rfl rfl)
theorem dX5_init_65 : decode cX5_init 65 = .ok (.ldc 33, 2) := dk_18 33 (dk_at dksX5_init_2 20 rfl rfl)
theorem dX5_init_67 : decode cX5_init 67 = .ok (.putfield 35, 3) := dk_181 0 35 (dk_at dksX5_init_3 0 rfl rfl)
theorem dX5_init_70 : decode cX5_init 70 = .ok (.aload_n 0, 1) := dk_42 (dk_at dksX5_init_3 3 rfl rfl)
theorem dX5_init_71 : decode cX5_init 71 = .ok (.iconst 3, 1) := dk_6 (dk_at dksX5_init_3 4 rfl rfl)
theorem dX5_init_72 : decode cX5_init 72 = .ok (.newarray .int, 2) := dk_188_10 (dk_at dksX5_init_3 5 rfl rfl)
theorem dX5_init_74 : decode cX5_init 74 = .ok (.putfield 39, 3) := dk_181 0 39 (dk_at dksX5_init_3 7 rfl rfl)
theorem dX5_init_77 : decode cX5_init 77 = .ok (.aload_n 0, 1) := dk_42 (dk_at dksX5_init_3 10 rfl rfl)
theorem dX5_init_78 : decode cX5_init 78 = .ok (.iconst (-1), 1) := dk_2 (dk_at dksX5_init_3 11 rfl rfl)
theorem dX5_init_79 : decode cX5_init 79 = .ok (.putfield 42, 3) := dk_181 0 42 (dk_at dksX5_init_3 12 rfl rfl)
theorem dX5_init_82 : decode cX5_init 82 = .ok (.return_, 1) := dk_177 (dk_at dksX5_init_3 15 rfl rfl)
abbrev cX5_thrown : ByteArray := prog_25_method_2_code
theorem dX5_thrown_0 : decode cX5_thrown 0 = .ok (.aload_n 0, 1) := by decide +kernel
theorem dX5_thrown_1 : decode cX5_thrown 1 = .ok (.getfield 46, 3) := by decide +kernel
theorem dX5_thrown_4 : decode cX5_thrown 4 = .ok (.ireturn, 1) := by decide +kernel
abbrev cX5_cook : ByteArray := prog_25_method_40_code
def dkwX5_cook_3 : List UInt8 := [132, 3, 1, 167, 255, 240, 42, 28, 3, 27, 182, 0, 115, 42, 28, 182, 0, 155, 172]
abbrev dktX5_cook_3 : List UInt8 := dkwX5_cook_3 ++ []
def dkwX5_cook_2 : List UInt8 := [180, 0, 9, 4, 92, 46, 4, 96, 79, 3, 62, 29, 16, 15, 162, 0, 16, 42, 28, 29, 3, 182, 0, 115]
abbrev dktX5_cook_2 : List UInt8 := dkwX5_cook_2 ++ dktX5_cook_3
def dkwX5_cook_1 : List UInt8 := [46, 61, 28, 16, 6, 160, 0, 17, 42, 42, 4, 16, 6, 182, 0, 152, 4, 100, 182, 0, 149, 172, 42]
abbrev dktX5_cook_1 : List UInt8 := dkwX5_cook_1 ++ dktX5_cook_2
def dkwX5_cook_0 : List UInt8 := [42, 182, 0, 146, 27, 4, 8, 184, 0, 62, 154, 0, 9, 42, 4, 182, 0, 149, 172, 42, 180, 0, 9, 4]
abbrev dktX5_cook_0 : List UInt8 := dkwX5_cook_0 ++ dktX5_cook_1
theorem dksX5_cook_0 : cX5_cook.data.toList.drop 0 = dktX5_cook_0 := by decide +kernel
theorem dksX5_cook_1 : cX5_cook.data.toList.drop 24 = dktX5_cook_1 := dk_seg dksX5_cook_0 24 rfl rfl
theorem dksX5_cook_2 : cX5_cook.data.toList.drop 47 = dktX5_cook_2 := dk_seg dksX5_cook_1 23 rfl rfl
theorem dksX5_cook_3 : cX5_cook.data.toList.drop 71 = dktX5_cook_3 := dk_seg dksX5_cook_2 24 rfl rfl
theorem dX5_cook_0 : decode cX5_cook 0 = .ok (.aload_n 0, 1) := dk_42 (dk_at dksX5_cook_0 0 rfl rfl)
theorem dX5_cook_1 : decode cX5_cook 1 = .ok (.invokevirtual 146, 3) := dk_182 0 146 (dk_at dksX5_cook_0 1 rfl rfl)
theorem dX5_cook_4 : decode cX5_cook 4 = .ok (.iload_n 1, 1) := dk_27 (dk_at dksX5_cook_0 4 rfl rfl)
theorem dX5_cook_5 : decode cX5_cook 5 = .ok (.iconst 1, 1) := dk_4 (dk_at dksX5_cook_0 5 rfl rfl)
theorem dX5_cook_6 : decode cX5_cook 6 = .ok (.iconst 5, 1) := dk_8 (dk_at dksX5_cook_0 6 rfl rfl)
theorem dX5_cook_7 : decode cX5_cook 7 = .ok (.invokestatic 62, 3) := dk_184 0 62 (dk_at dksX5_cook_0 7 rfl rfl)
theorem dX5_cook_10 : decode cX5_cook 10 = .ok (.ifCond .ne 9, 3) := dk_154 0 9 (dk_at dksX5_cook_0 10 rfl rfl)
theorem dX5_cook_13 : decode cX5_cook 13 = .ok (.aload_n 0, 1) := dk_42 (dk_at dksX5_cook_0 13 rfl rfl)
theorem dX5_cook_14 : decode cX5_cook 14 = .ok (.iconst 1, 1) := dk_4 (dk_at dksX5_cook_0 14 rfl rfl)
theorem dX5_cook_15 : decode cX5_cook 15 = .ok (.invokevirtual 149, 3) := dk_182 0 149 (dk_at dksX5_cook_0 15 rfl rfl)
theorem dX5_cook_18 : decode cX5_cook 18 = .ok (.ireturn, 1) := dk_172 (dk_at dksX5_cook_0 18 rfl rfl)
theorem dX5_cook_19 : decode cX5_cook 19 = .ok (.aload_n 0, 1) := dk_42 (dk_at dksX5_cook_0 19 rfl rfl)
theorem dX5_cook_20 : decode cX5_cook 20 = .ok (.getfield 9, 3) := dk_180 0 9 (dk_at dksX5_cook_0 20 rfl rfl)
theorem dX5_cook_23 : decode cX5_cook 23 = .ok (.iconst 1, 1) := dk_4 (dk_at dksX5_cook_0 23 rfl rfl)
theorem dX5_cook_24 : decode cX5_cook 24 = .ok (.iaload, 1) := dk_46 (dk_at dksX5_cook_1 0 rfl rfl)
theorem dX5_cook_25 : decode cX5_cook 25 = .ok (.istore_n 2, 1) := dk_61 (dk_at dksX5_cook_1 1 rfl rfl)
theorem dX5_cook_26 : decode cX5_cook 26 = .ok (.iload_n 2, 1) := dk_28 (dk_at dksX5_cook_1 2 rfl rfl)
theorem dX5_cook_27 : decode cX5_cook 27 = .ok (.bipush 6, 2) := dk_16 6 (dk_at dksX5_cook_1 3 rfl rfl)
theorem dX5_cook_29 : decode cX5_cook 29 = .ok (.if_icmp .ne 17, 3) := dk_160 0 17 (dk_at dksX5_cook_1 5 rfl rfl)
theorem dX5_cook_32 : decode cX5_cook 32 = .ok (.aload_n 0, 1) := dk_42 (dk_at dksX5_cook_1 8 rfl rfl)
theorem dX5_cook_33 : decode cX5_cook 33 = .ok (.aload_n 0, 1) := dk_42 (dk_at dksX5_cook_1 9 rfl rfl)
theorem dX5_cook_34 : decode cX5_cook 34 = .ok (.iconst 1, 1) := dk_4 (dk_at dksX5_cook_1 10 rfl rfl)
theorem dX5_cook_35 : decode cX5_cook 35 = .ok (.bipush 6, 2) := dk_16 6 (dk_at dksX5_cook_1 11 rfl rfl)
theorem dX5_cook_37 : decode cX5_cook 37 = .ok (.invokevirtual 152, 3) := dk_182 0 152 (dk_at dksX5_cook_1 13 rfl rfl)
theorem dX5_cook_40 : decode cX5_cook 40 = .ok (.iconst 1, 1) := dk_4 (dk_at dksX5_cook_1 16 rfl rfl)
theorem dX5_cook_41 : decode cX5_cook 41 = .ok (.isub, 1) := dk_100 (dk_at dksX5_cook_1 17 rfl rfl)
theorem dX5_cook_42 : decode cX5_cook 42 = .ok (.invokevirtual 149, 3) := dk_182 0 149 (dk_at dksX5_cook_1 18 rfl rfl)
theorem dX5_cook_45 : decode cX5_cook 45 = .ok (.ireturn, 1) := dk_172 (dk_at dksX5_cook_1 21 rfl rfl)
theorem dX5_cook_46 : decode cX5_cook 46 = .ok (.aload_n 0, 1) := dk_42 (dk_at dksX5_cook_1 22 rfl rfl)
theorem dX5_cook_47 : decode cX5_cook 47 = .ok (.getfield 9, 3) := dk_180 0 9 (dk_at dksX5_cook_2 0 rfl rfl)
theorem dX5_cook_50 : decode cX5_cook 50 = .ok (.iconst 1, 1) := dk_4 (dk_at dksX5_cook_2 3 rfl rfl)
theorem dX5_cook_51 : decode cX5_cook 51 = .ok (.dup2, 1) := dk_92 (dk_at dksX5_cook_2 4 rfl rfl)
theorem dX5_cook_52 : decode cX5_cook 52 = .ok (.iaload, 1) := dk_46 (dk_at dksX5_cook_2 5 rfl rfl)
theorem dX5_cook_53 : decode cX5_cook 53 = .ok (.iconst 1, 1) := dk_4 (dk_at dksX5_cook_2 6 rfl rfl)
theorem dX5_cook_54 : decode cX5_cook 54 = .ok (.iadd, 1) := dk_96 (dk_at dksX5_cook_2 7 rfl rfl)
theorem dX5_cook_55 : decode cX5_cook 55 = .ok (.iastore, 1) := dk_79 (dk_at dksX5_cook_2 8 rfl rfl)
theorem dX5_cook_56 : decode cX5_cook 56 = .ok (.iconst 0, 1) := dk_3 (dk_at dksX5_cook_2 9 rfl rfl)
theorem dX5_cook_57 : decode cX5_cook 57 = .ok (.istore_n 3, 1) := dk_62 (dk_at dksX5_cook_2 10 rfl rfl)
theorem dX5_cook_58 : decode cX5_cook 58 = .ok (.iload_n 3, 1) := dk_29 (dk_at dksX5_cook_2 11 rfl rfl)
theorem dX5_cook_59 : decode cX5_cook 59 = .ok (.bipush 15, 2) := dk_16 15 (dk_at dksX5_cook_2 12 rfl rfl)
theorem dX5_cook_61 : decode cX5_cook 61 = .ok (.if_icmp .ge 16, 3) := dk_162 0 16 (dk_at dksX5_cook_2 14 rfl rfl)
theorem dX5_cook_64 : decode cX5_cook 64 = .ok (.aload_n 0, 1) := dk_42 (dk_at dksX5_cook_2 17 rfl rfl)
theorem dX5_cook_65 : decode cX5_cook 65 = .ok (.iload_n 2, 1) := dk_28 (dk_at dksX5_cook_2 18 rfl rfl)
theorem dX5_cook_66 : decode cX5_cook 66 = .ok (.iload_n 3, 1) := dk_29 (dk_at dksX5_cook_2 19 rfl rfl)
theorem dX5_cook_67 : decode cX5_cook 67 = .ok (.iconst 0, 1) := dk_3 (dk_at dksX5_cook_2 20 rfl rfl)
theorem dX5_cook_68 : decode cX5_cook 68 = .ok (.invokevirtual 115, 3) := dk_182 0 115 (dk_at dksX5_cook_2 21 rfl rfl)
theorem dX5_cook_71 : decode cX5_cook 71 = .ok (.iinc 3 1, 3) := dk_132 3 1 (dk_at dksX5_cook_3 0 rfl rfl)
theorem dX5_cook_74 : decode cX5_cook 74 = .ok (.goto (-16), 3) := dk_167 255 240 (dk_at dksX5_cook_3 3 rfl rfl)
theorem dX5_cook_77 : decode cX5_cook 77 = .ok (.aload_n 0, 1) := dk_42 (dk_at dksX5_cook_3 6 rfl rfl)
theorem dX5_cook_78 : decode cX5_cook 78 = .ok (.iload_n 2, 1) := dk_28 (dk_at dksX5_cook_3 7 rfl rfl)
theorem dX5_cook_79 : decode cX5_cook 79 = .ok (.iconst 0, 1) := dk_3 (dk_at dksX5_cook_3 8 rfl rfl)
theorem dX5_cook_80 : decode cX5_cook 80 = .ok (.iload_n 1, 1) := dk_27 (dk_at dksX5_cook_3 9 rfl rfl)
theorem dX5_cook_81 : decode cX5_cook 81 = .ok (.invokevirtual 115, 3) := dk_182 0 115 (dk_at dksX5_cook_3 10 rfl rfl)
theorem dX5_cook_84 : decode cX5_cook 84 = .ok (.aload_n 0, 1) := dk_42 (dk_at dksX5_cook_3 13 rfl rfl)
theorem dX5_cook_85 : decode cX5_cook 85 = .ok (.iload_n 2, 1) := dk_28 (dk_at dksX5_cook_3 14 rfl rfl)
theorem dX5_cook_86 : decode cX5_cook 86 = .ok (.invokevirtual 155, 3) := dk_182 0 155 (dk_at dksX5_cook_3 15 rfl rfl)
theorem dX5_cook_89 : decode cX5_cook 89 = .ok (.ireturn, 1) := dk_172 (dk_at dksX5_cook_3 18 rfl rfl)
abbrev cX5_tries : ByteArray := prog_25_method_5_code
def dkwX5_tries_1 : List UInt8 := [46, 79, 132, 1, 1, 167, 255, 234, 177]
abbrev dktX5_tries_1 : List UInt8 := dkwX5_tries_1 ++ []
def dkwX5_tries_0 : List UInt8 := [42, 3, 181, 0, 46, 3, 60, 27, 17, 21, 81, 162, 0, 21, 42, 180, 0, 13, 27, 42, 180, 0, 9, 27]
abbrev dktX5_tries_0 : List UInt8 := dkwX5_tries_0 ++ dktX5_tries_1
theorem dksX5_tries_0 : cX5_tries.data.toList.drop 0 = dktX5_tries_0 := by decide +kernel
theorem dksX5_tries_1 : cX5_tries.data.toList.drop 24 = dktX5_tries_1 := dk_seg dksX5_tries_0 24 rfl rfl
theorem dX5_tries_0 : decode cX5_tries 0 = .ok (.aload_n 0, 1) := dk_42 (dk_at dksX5_tries_0 0 rfl rfl)
theorem dX5_tries_1 : decode cX5_tries 1 = .ok (.iconst 0, 1) := dk_3 (dk_at dksX5_tries_0 1 rfl rfl)
theorem dX5_tries_2 : decode cX5_tries 2 = .ok (.putfield 46, 3) := dk_181 0 46 (dk_at dksX5_tries_0 2 rfl rfl)
theorem dX5_tries_5 : decode cX5_tries 5 = .ok (.iconst 0, 1) := dk_3 (dk_at dksX5_tries_0 5 rfl rfl)
theorem dX5_tries_6 : decode cX5_tries 6 = .ok (.istore_n 1, 1) := dk_60 (dk_at dksX5_tries_0 6 rfl rfl)
theorem dX5_tries_7 : decode cX5_tries 7 = .ok (.iload_n 1, 1) := dk_27 (dk_at dksX5_tries_0 7 rfl rfl)
theorem dX5_tries_8 : decode cX5_tries 8 = .ok (.sipush 5457, 3) := dk_17 21 81 (dk_at dksX5_tries_0 8 rfl rfl)
theorem dX5_tries_11 : decode cX5_tries 11 = .ok (.if_icmp .ge 21, 3) := dk_162 0 21 (dk_at dksX5_tries_0 11 rfl rfl)
theorem dX5_tries_14 : decode cX5_tries 14 = .ok (.aload_n 0, 1) := dk_42 (dk_at dksX5_tries_0 14 rfl rfl)
theorem dX5_tries_15 : decode cX5_tries 15 = .ok (.getfield 13, 3) := dk_180 0 13 (dk_at dksX5_tries_0 15 rfl rfl)
theorem dX5_tries_18 : decode cX5_tries 18 = .ok (.iload_n 1, 1) := dk_27 (dk_at dksX5_tries_0 18 rfl rfl)
theorem dX5_tries_19 : decode cX5_tries 19 = .ok (.aload_n 0, 1) := dk_42 (dk_at dksX5_tries_0 19 rfl rfl)
theorem dX5_tries_20 : decode cX5_tries 20 = .ok (.getfield 9, 3) := dk_180 0 9 (dk_at dksX5_tries_0 20 rfl rfl)
theorem dX5_tries_23 : decode cX5_tries 23 = .ok (.iload_n 1, 1) := dk_27 (dk_at dksX5_tries_0 23 rfl rfl)
theorem dX5_tries_24 : decode cX5_tries 24 = .ok (.iaload, 1) := dk_46 (dk_at dksX5_tries_1 0 rfl rfl)
theorem dX5_tries_25 : decode cX5_tries 25 = .ok (.iastore, 1) := dk_79 (dk_at dksX5_tries_1 1 rfl rfl)
theorem dX5_tries_26 : decode cX5_tries 26 = .ok (.iinc 1 1, 3) := dk_132 1 1 (dk_at dksX5_tries_1 2 rfl rfl)
theorem dX5_tries_29 : decode cX5_tries 29 = .ok (.goto (-22), 3) := dk_167 255 234 (dk_at dksX5_tries_1 5 rfl rfl)
theorem dX5_tries_32 : decode cX5_tries 32 = .ok (.return_, 1) := dk_177 (dk_at dksX5_tries_1 8 rfl rfl)
abbrev cX5_in : ByteArray := prog_25_method_4_code
def dkwX5_in_0 : List UInt8 := [26, 27, 161, 0, 12, 26, 28, 163, 0, 7, 4, 167, 0, 4, 3, 172]
abbrev dktX5_in_0 : List UInt8 := dkwX5_in_0 ++ []
theorem dksX5_in_0 : cX5_in.data.toList.drop 0 = dktX5_in_0 := by decide +kernel
theorem dX5_in_0 : decode cX5_in 0 = .ok (.iload_n 0, 1) := dk_26 (dk_at dksX5_in_0 0 rfl rfl)
theorem dX5_in_1 : decode cX5_in 1 = .ok (.iload_n 1, 1) := dk_27 (dk_at dksX5_in_0 1 rfl rfl)
theorem dX5_in_2 : decode cX5_in 2 = .ok (.if_icmp .lt 12, 3) := dk_161 0 12 (dk_at dksX5_in_0 2 rfl rfl)
theorem dX5_in_5 : decode cX5_in 5 = .ok (.iload_n 0, 1) := dk_26 (dk_at dksX5_in_0 5 rfl rfl)
theorem dX5_in_6 : decode cX5_in 6 = .ok (.iload_n 2, 1) := dk_28 (dk_at dksX5_in_0 6 rfl rfl)
theorem dX5_in_7 : decode cX5_in 7 = .ok (.if_icmp .gt 7, 3) := dk_163 0 7 (dk_at dksX5_in_0 7 rfl rfl)
theorem dX5_in_10 : decode cX5_in 10 = .ok (.iconst 1, 1) := dk_4 (dk_at dksX5_in_0 10 rfl rfl)
theorem dX5_in_11 : decode cX5_in 11 = .ok (.goto 4, 3) := dk_167 0 4 (dk_at dksX5_in_0 11 rfl rfl)
theorem dX5_in_14 : decode cX5_in 14 = .ok (.iconst 0, 1) := dk_3 (dk_at dksX5_in_0 14 rfl rfl)
theorem dX5_in_15 : decode cX5_in 15 = .ok (.ireturn, 1) := dk_172 (dk_at dksX5_in_0 15 rfl rfl)
abbrev cX5_raises : ByteArray := prog_25_method_3_code
def dkwX5_raises_0 : List UInt8 := [42, 27, 181, 0, 46, 3, 172]
abbrev dktX5_raises_0 : List UInt8 := dkwX5_raises_0 ++ []
theorem dksX5_raises_0 : cX5_raises.data.toList.drop 0 = dktX5_raises_0 := by decide +kernel
theorem dX5_raises_0 : decode cX5_raises 0 = .ok (.aload_n 0, 1) := dk_42 (dk_at dksX5_raises_0 0 rfl rfl)
theorem dX5_raises_1 : decode cX5_raises 1 = .ok (.iload_n 1, 1) := dk_27 (dk_at dksX5_raises_0 1 rfl rfl)
theorem dX5_raises_2 : decode cX5_raises 2 = .ok (.putfield 46, 3) := dk_181 0 46 (dk_at dksX5_raises_0 2 rfl rfl)
theorem dX5_raises_5 : decode cX5_raises 5 = .ok (.iconst 0, 1) := dk_3 (dk_at dksX5_raises_0 5 rfl rfl)
theorem dX5_raises_6 : decode cX5_raises 6 = .ok (.ireturn, 1) := dk_172 (dk_at dksX5_raises_0 6 rfl rfl)
abbrev cX5_refuses : ByteArray := prog_25_method_11_code
def dkwX5_refuses_0 : List UInt8 := [42, 27, 181, 0, 56, 42, 28, 181, 0, 59, 6, 172]
abbrev dktX5_refuses_0 : List UInt8 := dkwX5_refuses_0 ++ []
theorem dksX5_refuses_0 : cX5_refuses.data.toList.drop 0 = dktX5_refuses_0 := by decide +kernel
theorem dX5_refuses_0 : decode cX5_refuses 0 = .ok (.aload_n 0, 1) := dk_42 (dk_at dksX5_refuses_0 0 rfl rfl)
theorem dX5_refuses_1 : decode cX5_refuses 1 = .ok (.iload_n 1, 1) := dk_27 (dk_at dksX5_refuses_0 1 rfl rfl)
theorem dX5_refuses_2 : decode cX5_refuses 2 = .ok (.putfield 56, 3) := dk_181 0 56 (dk_at dksX5_refuses_0 2 rfl rfl)
theorem dX5_refuses_5 : decode cX5_refuses 5 = .ok (.aload_n 0, 1) := dk_42 (dk_at dksX5_refuses_0 5 rfl rfl)
theorem dX5_refuses_6 : decode cX5_refuses 6 = .ok (.iload_n 2, 1) := dk_28 (dk_at dksX5_refuses_0 6 rfl rfl)
theorem dX5_refuses_7 : decode cX5_refuses 7 = .ok (.putfield 59, 3) := dk_181 0 59 (dk_at dksX5_refuses_0 7 rfl rfl)
theorem dX5_refuses_10 : decode cX5_refuses 10 = .ok (.iconst 3, 1) := dk_6 (dk_at dksX5_refuses_0 10 rfl rfl)
theorem dX5_refuses_11 : decode cX5_refuses 11 = .ok (.ireturn, 1) := dk_172 (dk_at dksX5_refuses_0 11 rfl rfl)
abbrev cX5_setsCook : ByteArray := prog_25_method_15_code
def dkwX5_setsCook_0 : List UInt8 := [42, 180, 0, 9, 16, 7, 16, 15, 27, 104, 96, 28, 96, 29, 79, 177]
abbrev dktX5_setsCook_0 : List UInt8 := dkwX5_setsCook_0 ++ []
theorem dksX5_setsCook_0 : cX5_setsCook.data.toList.drop 0 = dktX5_setsCook_0 := by decide +kernel
theorem dX5_setsCook_0 : decode cX5_setsCook 0 = .ok (.aload_n 0, 1) := dk_42 (dk_at dksX5_setsCook_0 0 rfl rfl)
theorem dX5_setsCook_1 : decode cX5_setsCook 1 = .ok (.getfield 9, 3) := dk_180 0 9 (dk_at dksX5_setsCook_0 1 rfl rfl)
theorem dX5_setsCook_4 : decode cX5_setsCook 4 = .ok (.bipush 7, 2) := dk_16 7 (dk_at dksX5_setsCook_0 4 rfl rfl)
theorem dX5_setsCook_6 : decode cX5_setsCook 6 = .ok (.bipush 15, 2) := dk_16 15 (dk_at dksX5_setsCook_0 6 rfl rfl)
theorem dX5_setsCook_8 : decode cX5_setsCook 8 = .ok (.iload_n 1, 1) := dk_27 (dk_at dksX5_setsCook_0 8 rfl rfl)
theorem dX5_setsCook_9 : decode cX5_setsCook 9 = .ok (.imul, 1) := dk_104 (dk_at dksX5_setsCook_0 9 rfl rfl)
theorem dX5_setsCook_10 : decode cX5_setsCook 10 = .ok (.iadd, 1) := dk_96 (dk_at dksX5_setsCook_0 10 rfl rfl)
theorem dX5_setsCook_11 : decode cX5_setsCook 11 = .ok (.iload_n 2, 1) := dk_28 (dk_at dksX5_setsCook_0 11 rfl rfl)
theorem dX5_setsCook_12 : decode cX5_setsCook 12 = .ok (.iadd, 1) := dk_96 (dk_at dksX5_setsCook_0 12 rfl rfl)
theorem dX5_setsCook_13 : decode cX5_setsCook 13 = .ok (.iload_n 3, 1) := dk_29 (dk_at dksX5_setsCook_0 13 rfl rfl)
theorem dX5_setsCook_14 : decode cX5_setsCook 14 = .ok (.iastore, 1) := dk_79 (dk_at dksX5_setsCook_0 14 rfl rfl)
theorem dX5_setsCook_15 : decode cX5_setsCook 15 = .ok (.return_, 1) := dk_177 (dk_at dksX5_setsCook_0 15 rfl rfl)
abbrev cX5_keeps : ByteArray := prog_25_method_7_code
def dkwX5_keeps_4 : List UInt8 := [181, 0, 49, 27, 172]
abbrev dktX5_keeps_4 : List UInt8 := dkwX5_keeps_4 ++ []
def dkwX5_keeps_3 : List UInt8 := [28, 96, 42, 180, 0, 13, 28, 46, 79, 132, 2, 1, 167, 255, 225, 42, 89, 180, 0, 49, 4, 96]
abbrev dktX5_keeps_3 : List UInt8 := dkwX5_keeps_3 ++ dktX5_keeps_4
def dkwX5_keeps_2 : List UInt8 := [181, 0, 49, 3, 61, 28, 17, 21, 81, 162, 0, 30, 42, 180, 0, 20, 17, 21, 81, 42, 180, 0, 49, 104]
abbrev dktX5_keeps_2 : List UInt8 := dkwX5_keeps_2 ++ dktX5_keeps_3
def dkwX5_keeps_1 : List UInt8 := [180, 0, 20, 17, 21, 81, 28, 96, 46, 79, 132, 2, 1, 167, 255, 231, 42, 89, 180, 0, 49, 4, 100]
abbrev dktX5_keeps_1 : List UInt8 := dkwX5_keeps_1 ++ dktX5_keeps_2
def dkwX5_keeps_0 : List UInt8 := [42, 180, 0, 49, 16, 8, 160, 0, 43, 3, 61, 28, 18, 52, 162, 0, 25, 42, 180, 0, 20, 28, 42]
abbrev dktX5_keeps_0 : List UInt8 := dkwX5_keeps_0 ++ dktX5_keeps_1
theorem dksX5_keeps_0 : cX5_keeps.data.toList.drop 0 = dktX5_keeps_0 := by decide +kernel
theorem dksX5_keeps_1 : cX5_keeps.data.toList.drop 23 = dktX5_keeps_1 := dk_seg dksX5_keeps_0 23 rfl rfl
theorem dksX5_keeps_2 : cX5_keeps.data.toList.drop 46 = dktX5_keeps_2 := dk_seg dksX5_keeps_1 23 rfl rfl
theorem dksX5_keeps_3 : cX5_keeps.data.toList.drop 70 = dktX5_keeps_3 := dk_seg dksX5_keeps_2 24 rfl rfl
theorem dksX5_keeps_4 : cX5_keeps.data.toList.drop 92 = dktX5_keeps_4 := dk_seg dksX5_keeps_3 22 rfl rfl
theorem dX5_keeps_0 : decode cX5_keeps 0 = .ok (.aload_n 0, 1) := dk_42 (dk_at dksX5_keeps_0 0 rfl rfl)
theorem dX5_keeps_1 : decode cX5_keeps 1 = .ok (.getfield 49, 3) := dk_180 0 49 (dk_at dksX5_keeps_0 1 rfl rfl)
theorem dX5_keeps_4 : decode cX5_keeps 4 = .ok (.bipush 8, 2) := dk_16 8 (dk_at dksX5_keeps_0 4 rfl rfl)
theorem dX5_keeps_6 : decode cX5_keeps 6 = .ok (.if_icmp .ne 43, 3) := dk_160 0 43 (dk_at dksX5_keeps_0 6 rfl rfl)
theorem dX5_keeps_9 : decode cX5_keeps 9 = .ok (.iconst 0, 1) := dk_3 (dk_at dksX5_keeps_0 9 rfl rfl)
theorem dX5_keeps_10 : decode cX5_keeps 10 = .ok (.istore_n 2, 1) := dk_61 (dk_at dksX5_keeps_0 10 rfl rfl)
theorem dX5_keeps_11 : decode cX5_keeps 11 = .ok (.iload_n 2, 1) := dk_28 (dk_at dksX5_keeps_0 11 rfl rfl)
theorem dX5_keeps_12 : decode cX5_keeps 12 = .ok (.ldc 52, 2) := dk_18 52 (dk_at dksX5_keeps_0 12 rfl rfl)
theorem dX5_keeps_14 : decode cX5_keeps 14 = .ok (.if_icmp .ge 25, 3) := dk_162 0 25 (dk_at dksX5_keeps_0 14 rfl rfl)
theorem dX5_keeps_17 : decode cX5_keeps 17 = .ok (.aload_n 0, 1) := dk_42 (dk_at dksX5_keeps_0 17 rfl rfl)
theorem dX5_keeps_18 : decode cX5_keeps 18 = .ok (.getfield 20, 3) := dk_180 0 20 (dk_at dksX5_keeps_0 18 rfl rfl)
theorem dX5_keeps_21 : decode cX5_keeps 21 = .ok (.iload_n 2, 1) := dk_28 (dk_at dksX5_keeps_0 21 rfl rfl)
theorem dX5_keeps_22 : decode cX5_keeps 22 = .ok (.aload_n 0, 1) := dk_42 (dk_at dksX5_keeps_0 22 rfl rfl)
theorem dX5_keeps_23 : decode cX5_keeps 23 = .ok (.getfield 20, 3) := dk_180 0 20 (dk_at dksX5_keeps_1 0 rfl rfl)
theorem dX5_keeps_26 : decode cX5_keeps 26 = .ok (.sipush 5457, 3) := dk_17 21 81 (dk_at dksX5_keeps_1 3 rfl rfl)
theorem dX5_keeps_29 : decode cX5_keeps 29 = .ok (.iload_n 2, 1) := dk_28 (dk_at dksX5_keeps_1 6 rfl rfl)
theorem dX5_keeps_30 : decode cX5_keeps 30 = .ok (.iadd, 1) := dk_96 (dk_at dksX5_keeps_1 7 rfl rfl)
theorem dX5_keeps_31 : decode cX5_keeps 31 = .ok (.iaload, 1) := dk_46 (dk_at dksX5_keeps_1 8 rfl rfl)
theorem dX5_keeps_32 : decode cX5_keeps 32 = .ok (.iastore, 1) := dk_79 (dk_at dksX5_keeps_1 9 rfl rfl)
theorem dX5_keeps_33 : decode cX5_keeps 33 = .ok (.iinc 2 1, 3) := dk_132 2 1 (dk_at dksX5_keeps_1 10 rfl rfl)
theorem dX5_keeps_36 : decode cX5_keeps 36 = .ok (.goto (-25), 3) := dk_167 255 231 (dk_at dksX5_keeps_1 13 rfl rfl)
theorem dX5_keeps_39 : decode cX5_keeps 39 = .ok (.aload_n 0, 1) := dk_42 (dk_at dksX5_keeps_1 16 rfl rfl)
theorem dX5_keeps_40 : decode cX5_keeps 40 = .ok (.dup, 1) := dk_89 (dk_at dksX5_keeps_1 17 rfl rfl)
theorem dX5_keeps_41 : decode cX5_keeps 41 = .ok (.getfield 49, 3) := dk_180 0 49 (dk_at dksX5_keeps_1 18 rfl rfl)
theorem dX5_keeps_44 : decode cX5_keeps 44 = .ok (.iconst 1, 1) := dk_4 (dk_at dksX5_keeps_1 21 rfl rfl)
theorem dX5_keeps_45 : decode cX5_keeps 45 = .ok (.isub, 1) := dk_100 (dk_at dksX5_keeps_1 22 rfl rfl)
theorem dX5_keeps_46 : decode cX5_keeps 46 = .ok (.putfield 49, 3) := dk_181 0 49 (dk_at dksX5_keeps_2 0 rfl rfl)
theorem dX5_keeps_49 : decode cX5_keeps 49 = .ok (.iconst 0, 1) := dk_3 (dk_at dksX5_keeps_2 3 rfl rfl)
theorem dX5_keeps_50 : decode cX5_keeps 50 = .ok (.istore_n 2, 1) := dk_61 (dk_at dksX5_keeps_2 4 rfl rfl)
theorem dX5_keeps_51 : decode cX5_keeps 51 = .ok (.iload_n 2, 1) := dk_28 (dk_at dksX5_keeps_2 5 rfl rfl)
theorem dX5_keeps_52 : decode cX5_keeps 52 = .ok (.sipush 5457, 3) := dk_17 21 81 (dk_at dksX5_keeps_2 6 rfl rfl)
theorem dX5_keeps_55 : decode cX5_keeps 55 = .ok (.if_icmp .ge 30, 3) := dk_162 0 30 (dk_at dksX5_keeps_2 9 rfl rfl)
theorem dX5_keeps_58 : decode cX5_keeps 58 = .ok (.aload_n 0, 1) := dk_42 (dk_at dksX5_keeps_2 12 rfl rfl)
theorem dX5_keeps_59 : decode cX5_keeps 59 = .ok (.getfield 20, 3) := dk_180 0 20 (dk_at dksX5_keeps_2 13 rfl rfl)
theorem dX5_keeps_62 : decode cX5_keeps 62 = .ok (.sipush 5457, 3) := dk_17 21 81 (dk_at dksX5_keeps_2 16 rfl rfl)
theorem dX5_keeps_65 : decode cX5_keeps 65 = .ok (.aload_n 0, 1) := dk_42 (dk_at dksX5_keeps_2 19 rfl rfl)
theorem dX5_keeps_66 : decode cX5_keeps 66 = .ok (.getfield 49, 3) := dk_180 0 49 (dk_at dksX5_keeps_2 20 rfl rfl)
theorem dX5_keeps_69 : decode cX5_keeps 69 = .ok (.imul, 1) := dk_104 (dk_at dksX5_keeps_2 23 rfl rfl)
theorem dX5_keeps_70 : decode cX5_keeps 70 = .ok (.iload_n 2, 1) := dk_28 (dk_at dksX5_keeps_3 0 rfl rfl)
theorem dX5_keeps_71 : decode cX5_keeps 71 = .ok (.iadd, 1) := dk_96 (dk_at dksX5_keeps_3 1 rfl rfl)
theorem dX5_keeps_72 : decode cX5_keeps 72 = .ok (.aload_n 0, 1) := dk_42 (dk_at dksX5_keeps_3 2 rfl rfl)
theorem dX5_keeps_73 : decode cX5_keeps 73 = .ok (.getfield 13, 3) := dk_180 0 13 (dk_at dksX5_keeps_3 3 rfl rfl)
theorem dX5_keeps_76 : decode cX5_keeps 76 = .ok (.iload_n 2, 1) := dk_28 (dk_at dksX5_keeps_3 6 rfl rfl)
theorem dX5_keeps_77 : decode cX5_keeps 77 = .ok (.iaload, 1) := dk_46 (dk_at dksX5_keeps_3 7 rfl rfl)
theorem dX5_keeps_78 : decode cX5_keeps 78 = .ok (.iastore, 1) := dk_79 (dk_at dksX5_keeps_3 8 rfl rfl)
theorem dX5_keeps_79 : decode cX5_keeps 79 = .ok (.iinc 2 1, 3) := dk_132 2 1 (dk_at dksX5_keeps_3 9 rfl rfl)
theorem dX5_keeps_82 : decode cX5_keeps 82 = .ok (.goto (-31), 3) := dk_167 255 225 (dk_at dksX5_keeps_3 12 rfl rfl)
theorem dX5_keeps_85 : decode cX5_keeps 85 = .ok (.aload_n 0, 1) := dk_42 (dk_at dksX5_keeps_3 15 rfl rfl)
theorem dX5_keeps_86 : decode cX5_keeps 86 = .ok (.dup, 1) := dk_89 (dk_at dksX5_keeps_3 16 rfl rfl)
theorem dX5_keeps_87 : decode cX5_keeps 87 = .ok (.getfield 49, 3) := dk_180 0 49 (dk_at dksX5_keeps_3 17 rfl rfl)
theorem dX5_keeps_90 : decode cX5_keeps 90 = .ok (.iconst 1, 1) := dk_4 (dk_at dksX5_keeps_3 20 rfl rfl)
theorem dX5_keeps_91 : decode cX5_keeps 91 = .ok (.iadd, 1) := dk_96 (dk_at dksX5_keeps_3 21 rfl rfl)
theorem dX5_keeps_92 : decode cX5_keeps 92 = .ok (.putfield 49, 3) := dk_181 0 49 (dk_at dksX5_keeps_4 0 rfl rfl)
theorem dX5_keeps_95 : decode cX5_keeps 95 = .ok (.iload_n 1, 1) := dk_27 (dk_at dksX5_keeps_4 3 rfl rfl)
theorem dX5_keeps_96 : decode cX5_keeps 96 = .ok (.ireturn, 1) := dk_172 (dk_at dksX5_keeps_4 4 rfl rfl)
abbrev cX5_stock : ByteArray := prog_25_method_41_code
def dkwX5_stock_4 : List UInt8 := [28, 96, 182, 0, 66, 29, 96, 182, 0, 115, 42, 21, 4, 182, 0, 155, 172]
abbrev dktX5_stock_4 : List UInt8 := dkwX5_stock_4 ++ []
def dkwX5_stock_3 : List UInt8 := [182, 0, 149, 172, 42, 27, 6, 28, 96, 21, 4, 182, 0, 115, 42, 27, 16, 7, 28, 96, 42, 27, 16, 7]
abbrev dktX5_stock_3 : List UInt8 := dkwX5_stock_3 ++ dktX5_stock_4
def dkwX5_stock_2 : List UInt8 := [182, 0, 66, 29, 96, 54, 4, 21, 4, 16, 50, 164, 0, 15, 42, 42, 5, 21, 4, 182, 0, 152]
abbrev dktX5_stock_2 : List UInt8 := dkwX5_stock_2 ++ dktX5_stock_3
def dkwX5_stock_1 : List UInt8 := [153, 0, 13, 29, 4, 16, 50, 184, 0, 62, 154, 0, 9, 42, 5, 182, 0, 149, 172, 42, 27, 6, 28, 96]
abbrev dktX5_stock_1 : List UInt8 := dkwX5_stock_1 ++ dktX5_stock_2
def dkwX5_stock_0 : List UInt8 := [42, 182, 0, 146, 42, 27, 182, 0, 158, 154, 0, 9, 42, 4, 182, 0, 149, 172, 28, 3, 6, 184, 0, 62]
abbrev dktX5_stock_0 : List UInt8 := dkwX5_stock_0 ++ dktX5_stock_1
theorem dksX5_stock_0 : cX5_stock.data.toList.drop 0 = dktX5_stock_0 := by decide +kernel
theorem dksX5_stock_1 : cX5_stock.data.toList.drop 24 = dktX5_stock_1 := dk_seg dksX5_stock_0 24 rfl rfl
theorem dksX5_stock_2 : cX5_stock.data.toList.drop 48 = dktX5_stock_2 := dk_seg dksX5_stock_1 24 rfl rfl
theorem dksX5_stock_3 : cX5_stock.data.toList.drop 70 = dktX5_stock_3 := dk_seg dksX5_stock_2 22 rfl rfl
theorem dksX5_stock_4 : cX5_stock.data.toList.drop 94 = dktX5_stock_4 := dk_seg dksX5_stock_3 24 rfl rfl
theorem dX5_stock_0 : decode cX5_stock 0 = .ok (.aload_n 0, 1) := dk_42 (dk_at dksX5_stock_0 0 rfl rfl)
theorem dX5_stock_1 : decode cX5_stock 1 = .ok (.invokevirtual 146, 3) := dk_182 0 146 (dk_at dksX5_stock_0 1 rfl rfl)
theorem dX5_stock_4 : decode cX5_stock 4 = .ok (.aload_n 0, 1) := dk_42 (dk_at dksX5_stock_0 4 rfl rfl)
theorem dX5_stock_5 : decode cX5_stock 5 = .ok (.iload_n 1, 1) := dk_27 (dk_at dksX5_stock_0 5 rfl rfl)
theorem dX5_stock_6 : decode cX5_stock 6 = .ok (.invokevirtual 158, 3) := dk_182 0 158 (dk_at dksX5_stock_0 6 rfl rfl)
theorem dX5_stock_9 : decode cX5_stock 9 = .ok (.ifCond .ne 9, 3) := dk_154 0 9 (dk_at dksX5_stock_0 9 rfl rfl)
theorem dX5_stock_12 : decode cX5_stock 12 = .ok (.aload_n 0, 1) := dk_42 (dk_at dksX5_stock_0 12 rfl rfl)
theorem dX5_stock_13 : decode cX5_stock 13 = .ok (.iconst 1, 1) := dk_4 (dk_at dksX5_stock_0 13 rfl rfl)
theorem dX5_stock_14 : decode cX5_stock 14 = .ok (.invokevirtual 149, 3) := dk_182 0 149 (dk_at dksX5_stock_0 14 rfl rfl)
theorem dX5_stock_17 : decode cX5_stock 17 = .ok (.ireturn, 1) := dk_172 (dk_at dksX5_stock_0 17 rfl rfl)
theorem dX5_stock_18 : decode cX5_stock 18 = .ok (.iload_n 2, 1) := dk_28 (dk_at dksX5_stock_0 18 rfl rfl)
theorem dX5_stock_19 : decode cX5_stock 19 = .ok (.iconst 0, 1) := dk_3 (dk_at dksX5_stock_0 19 rfl rfl)
theorem dX5_stock_20 : decode cX5_stock 20 = .ok (.iconst 3, 1) := dk_6 (dk_at dksX5_stock_0 20 rfl rfl)
theorem dX5_stock_21 : decode cX5_stock 21 = .ok (.invokestatic 62, 3) := dk_184 0 62 (dk_at dksX5_stock_0 21 rfl rfl)
theorem dX5_stock_24 : decode cX5_stock 24 = .ok (.ifCond .eq 13, 3) := dk_153 0 13 (dk_at dksX5_stock_1 0 rfl rfl)
theorem dX5_stock_27 : decode cX5_stock 27 = .ok (.iload_n 3, 1) := dk_29 (dk_at dksX5_stock_1 3 rfl rfl)
theorem dX5_stock_28 : decode cX5_stock 28 = .ok (.iconst 1, 1) := dk_4 (dk_at dksX5_stock_1 4 rfl rfl)
theorem dX5_stock_29 : decode cX5_stock 29 = .ok (.bipush 50, 2) := dk_16 50 (dk_at dksX5_stock_1 5 rfl rfl)
theorem dX5_stock_31 : decode cX5_stock 31 = .ok (.invokestatic 62, 3) := dk_184 0 62 (dk_at dksX5_stock_1 7 rfl rfl)
theorem dX5_stock_34 : decode cX5_stock 34 = .ok (.ifCond .ne 9, 3) := dk_154 0 9 (dk_at dksX5_stock_1 10 rfl rfl)
theorem dX5_stock_37 : decode cX5_stock 37 = .ok (.aload_n 0, 1) := dk_42 (dk_at dksX5_stock_1 13 rfl rfl)
theorem dX5_stock_38 : decode cX5_stock 38 = .ok (.iconst 2, 1) := dk_5 (dk_at dksX5_stock_1 14 rfl rfl)
theorem dX5_stock_39 : decode cX5_stock 39 = .ok (.invokevirtual 149, 3) := dk_182 0 149 (dk_at dksX5_stock_1 15 rfl rfl)
theorem dX5_stock_42 : decode cX5_stock 42 = .ok (.ireturn, 1) := dk_172 (dk_at dksX5_stock_1 18 rfl rfl)
theorem dX5_stock_43 : decode cX5_stock 43 = .ok (.aload_n 0, 1) := dk_42 (dk_at dksX5_stock_1 19 rfl rfl)
theorem dX5_stock_44 : decode cX5_stock 44 = .ok (.iload_n 1, 1) := dk_27 (dk_at dksX5_stock_1 20 rfl rfl)
theorem dX5_stock_45 : decode cX5_stock 45 = .ok (.iconst 3, 1) := dk_6 (dk_at dksX5_stock_1 21 rfl rfl)
theorem dX5_stock_46 : decode cX5_stock 46 = .ok (.iload_n 2, 1) := dk_28 (dk_at dksX5_stock_1 22 rfl rfl)
theorem dX5_stock_47 : decode cX5_stock 47 = .ok (.iadd, 1) := dk_96 (dk_at dksX5_stock_1 23 rfl rfl)
theorem dX5_stock_48 : decode cX5_stock 48 = .ok (.invokevirtual 66, 3) := dk_182 0 66 (dk_at dksX5_stock_2 0 rfl rfl)
theorem dX5_stock_51 : decode cX5_stock 51 = .ok (.iload_n 3, 1) := dk_29 (dk_at dksX5_stock_2 3 rfl rfl)
theorem dX5_stock_52 : decode cX5_stock 52 = .ok (.iadd, 1) := dk_96 (dk_at dksX5_stock_2 4 rfl rfl)
theorem dX5_stock_53 : decode cX5_stock 53 = .ok (.istore 4, 2) := dk_54 4 (dk_at dksX5_stock_2 5 rfl rfl)
theorem dX5_stock_55 : decode cX5_stock 55 = .ok (.iload 4, 2) := dk_21 4 (dk_at dksX5_stock_2 7 rfl rfl)
theorem dX5_stock_57 : decode cX5_stock 57 = .ok (.bipush 50, 2) := dk_16 50 (dk_at dksX5_stock_2 9 rfl rfl)
theorem dX5_stock_59 : decode cX5_stock 59 = .ok (.if_icmp .le 15, 3) := dk_164 0 15 (dk_at dksX5_stock_2 11 rfl rfl)
theorem dX5_stock_62 : decode cX5_stock 62 = .ok (.aload_n 0, 1) := dk_42 (dk_at dksX5_stock_2 14 rfl rfl)
theorem dX5_stock_63 : decode cX5_stock 63 = .ok (.aload_n 0, 1) := dk_42 (dk_at dksX5_stock_2 15 rfl rfl)
theorem dX5_stock_64 : decode cX5_stock 64 = .ok (.iconst 2, 1) := dk_5 (dk_at dksX5_stock_2 16 rfl rfl)
theorem dX5_stock_65 : decode cX5_stock 65 = .ok (.iload 4, 2) := dk_21 4 (dk_at dksX5_stock_2 17 rfl rfl)
theorem dX5_stock_67 : decode cX5_stock 67 = .ok (.invokevirtual 152, 3) := dk_182 0 152 (dk_at dksX5_stock_2 19 rfl rfl)
theorem dX5_stock_70 : decode cX5_stock 70 = .ok (.invokevirtual 149, 3) := dk_182 0 149 (dk_at dksX5_stock_3 0 rfl rfl)
theorem dX5_stock_73 : decode cX5_stock 73 = .ok (.ireturn, 1) := dk_172 (dk_at dksX5_stock_3 3 rfl rfl)
theorem dX5_stock_74 : decode cX5_stock 74 = .ok (.aload_n 0, 1) := dk_42 (dk_at dksX5_stock_3 4 rfl rfl)
theorem dX5_stock_75 : decode cX5_stock 75 = .ok (.iload_n 1, 1) := dk_27 (dk_at dksX5_stock_3 5 rfl rfl)
theorem dX5_stock_76 : decode cX5_stock 76 = .ok (.iconst 3, 1) := dk_6 (dk_at dksX5_stock_3 6 rfl rfl)
theorem dX5_stock_77 : decode cX5_stock 77 = .ok (.iload_n 2, 1) := dk_28 (dk_at dksX5_stock_3 7 rfl rfl)
theorem dX5_stock_78 : decode cX5_stock 78 = .ok (.iadd, 1) := dk_96 (dk_at dksX5_stock_3 8 rfl rfl)
theorem dX5_stock_79 : decode cX5_stock 79 = .ok (.iload 4, 2) := dk_21 4 (dk_at dksX5_stock_3 9 rfl rfl)
theorem dX5_stock_81 : decode cX5_stock 81 = .ok (.invokevirtual 115, 3) := dk_182 0 115 (dk_at dksX5_stock_3 11 rfl rfl)
theorem dX5_stock_84 : decode cX5_stock 84 = .ok (.aload_n 0, 1) := dk_42 (dk_at dksX5_stock_3 14 rfl rfl)
theorem dX5_stock_85 : decode cX5_stock 85 = .ok (.iload_n 1, 1) := dk_27 (dk_at dksX5_stock_3 15 rfl rfl)
theorem dX5_stock_86 : decode cX5_stock 86 = .ok (.bipush 7, 2) := dk_16 7 (dk_at dksX5_stock_3 16 rfl rfl)
theorem dX5_stock_88 : decode cX5_stock 88 = .ok (.iload_n 2, 1) := dk_28 (dk_at dksX5_stock_3 18 rfl rfl)
theorem dX5_stock_89 : decode cX5_stock 89 = .ok (.iadd, 1) := dk_96 (dk_at dksX5_stock_3 19 rfl rfl)
theorem dX5_stock_90 : decode cX5_stock 90 = .ok (.aload_n 0, 1) := dk_42 (dk_at dksX5_stock_3 20 rfl rfl)
theorem dX5_stock_91 : decode cX5_stock 91 = .ok (.iload_n 1, 1) := dk_27 (dk_at dksX5_stock_3 21 rfl rfl)
theorem dX5_stock_92 : decode cX5_stock 92 = .ok (.bipush 7, 2) := dk_16 7 (dk_at dksX5_stock_3 22 rfl rfl)
theorem dX5_stock_94 : decode cX5_stock 94 = .ok (.iload_n 2, 1) := dk_28 (dk_at dksX5_stock_4 0 rfl rfl)
theorem dX5_stock_95 : decode cX5_stock 95 = .ok (.iadd, 1) := dk_96 (dk_at dksX5_stock_4 1 rfl rfl)
theorem dX5_stock_96 : decode cX5_stock 96 = .ok (.invokevirtual 66, 3) := dk_182 0 66 (dk_at dksX5_stock_4 2 rfl rfl)
theorem dX5_stock_99 : decode cX5_stock 99 = .ok (.iload_n 3, 1) := dk_29 (dk_at dksX5_stock_4 5 rfl rfl)
theorem dX5_stock_100 : decode cX5_stock 100 = .ok (.iadd, 1) := dk_96 (dk_at dksX5_stock_4 6 rfl rfl)
theorem dX5_stock_101 : decode cX5_stock 101 = .ok (.invokevirtual 115, 3) := dk_182 0 115 (dk_at dksX5_stock_4 7 rfl rfl)
theorem dX5_stock_104 : decode cX5_stock 104 = .ok (.aload_n 0, 1) := dk_42 (dk_at dksX5_stock_4 10 rfl rfl)
theorem dX5_stock_105 : decode cX5_stock 105 = .ok (.iload 4, 2) := dk_21 4 (dk_at dksX5_stock_4 11 rfl rfl)
theorem dX5_stock_107 : decode cX5_stock 107 = .ok (.invokevirtual 155, 3) := dk_182 0 155 (dk_at dksX5_stock_4 13 rfl rfl)
theorem dX5_stock_110 : decode cX5_stock 110 = .ok (.ireturn, 1) := dk_172 (dk_at dksX5_stock_4 16 rfl rfl)
abbrev cX5_isCook : ByteArray := prog_25_method_12_code
def dkwX5_isCook_0 : List UInt8 := [27, 3, 42, 180, 0, 9, 4, 46, 4, 100, 184, 0, 62, 172]
abbrev dktX5_isCook_0 : List UInt8 := dkwX5_isCook_0 ++ []
theorem dksX5_isCook_0 : cX5_isCook.data.toList.drop 0 = dktX5_isCook_0 := by decide +kernel
theorem dX5_isCook_0 : decode cX5_isCook 0 = .ok (.iload_n 1, 1) := dk_27 (dk_at dksX5_isCook_0 0 rfl rfl)
theorem dX5_isCook_1 : decode cX5_isCook 1 = .ok (.iconst 0, 1) := dk_3 (dk_at dksX5_isCook_0 1 rfl rfl)
theorem dX5_isCook_2 : decode cX5_isCook 2 = .ok (.aload_n 0, 1) := dk_42 (dk_at dksX5_isCook_0 2 rfl rfl)
theorem dX5_isCook_3 : decode cX5_isCook 3 = .ok (.getfield 9, 3) := dk_180 0 9 (dk_at dksX5_isCook_0 3 rfl rfl)
theorem dX5_isCook_6 : decode cX5_isCook 6 = .ok (.iconst 1, 1) := dk_4 (dk_at dksX5_isCook_0 6 rfl rfl)
theorem dX5_isCook_7 : decode cX5_isCook 7 = .ok (.iaload, 1) := dk_46 (dk_at dksX5_isCook_0 7 rfl rfl)
theorem dX5_isCook_8 : decode cX5_isCook 8 = .ok (.iconst 1, 1) := dk_4 (dk_at dksX5_isCook_0 8 rfl rfl)
theorem dX5_isCook_9 : decode cX5_isCook 9 = .ok (.isub, 1) := dk_100 (dk_at dksX5_isCook_0 9 rfl rfl)
theorem dX5_isCook_10 : decode cX5_isCook 10 = .ok (.invokestatic 62, 3) := dk_184 0 62 (dk_at dksX5_isCook_0 10 rfl rfl)
theorem dX5_isCook_13 : decode cX5_isCook 13 = .ok (.ireturn, 1) := dk_172 (dk_at dksX5_isCook_0 13 rfl rfl)
abbrev cX5_cook_2 : ByteArray := prog_25_method_14_code
def dkwX5_cook_2_0 : List UInt8 := [42, 180, 0, 9, 16, 7, 16, 15, 27, 104, 96, 28, 96, 46, 172]
abbrev dktX5_cook_2_0 : List UInt8 := dkwX5_cook_2_0 ++ []
theorem dksX5_cook_2_0 : cX5_cook_2.data.toList.drop 0 = dktX5_cook_2_0 := by decide +kernel
theorem dX5_cook_2_0 : decode cX5_cook_2 0 = .ok (.aload_n 0, 1) := dk_42 (dk_at dksX5_cook_2_0 0 rfl rfl)
theorem dX5_cook_2_1 : decode cX5_cook_2 1 = .ok (.getfield 9, 3) := dk_180 0 9 (dk_at dksX5_cook_2_0 1 rfl rfl)
theorem dX5_cook_2_4 : decode cX5_cook_2 4 = .ok (.bipush 7, 2) := dk_16 7 (dk_at dksX5_cook_2_0 4 rfl rfl)
theorem dX5_cook_2_6 : decode cX5_cook_2 6 = .ok (.bipush 15, 2) := dk_16 15 (dk_at dksX5_cook_2_0 6 rfl rfl)
theorem dX5_cook_2_8 : decode cX5_cook_2 8 = .ok (.iload_n 1, 1) := dk_27 (dk_at dksX5_cook_2_0 8 rfl rfl)
theorem dX5_cook_2_9 : decode cX5_cook_2 9 = .ok (.imul, 1) := dk_104 (dk_at dksX5_cook_2_0 9 rfl rfl)
theorem dX5_cook_2_10 : decode cX5_cook_2 10 = .ok (.iadd, 1) := dk_96 (dk_at dksX5_cook_2_0 10 rfl rfl)
theorem dX5_cook_2_11 : decode cX5_cook_2 11 = .ok (.iload_n 2, 1) := dk_28 (dk_at dksX5_cook_2_0 11 rfl rfl)
theorem dX5_cook_2_12 : decode cX5_cook_2 12 = .ok (.iadd, 1) := dk_96 (dk_at dksX5_cook_2_0 12 rfl rfl)
theorem dX5_cook_2_13 : decode cX5_cook_2 13 = .ok (.iaload, 1) := dk_46 (dk_at dksX5_cook_2_0 13 rfl rfl)
theorem dX5_cook_2_14 : decode cX5_cook_2 14 = .ok (.ireturn, 1) := dk_172 (dk_at dksX5_cook_2_0 14 rfl rfl)
abbrev cX5_cookOf : ByteArray := prog_25_method_43_code
def dkwX5_cookOf_4 : List UInt8 := [182, 0, 66, 172, 42, 5, 182, 0, 149, 172]
abbrev dktX5_cookOf_4 : List UInt8 := dkwX5_cookOf_4 ++ []
def dkwX5_cookOf_3 : List UInt8 := [6, 6, 182, 0, 161, 172, 42, 27, 5, 7, 182, 0, 161, 172, 42, 27, 182, 0, 164, 172, 42, 27, 5]
abbrev dktX5_cookOf_3 : List UInt8 := dkwX5_cookOf_3 ++ dktX5_cookOf_4
def dkwX5_cookOf_2 : List UInt8 := [42, 27, 3, 182, 0, 66, 172, 42, 27, 4, 182, 0, 66, 172, 42, 27, 4, 4, 182, 0, 161, 172, 42, 27]
abbrev dktX5_cookOf_2 : List UInt8 := dkwX5_cookOf_2 ++ dktX5_cookOf_3
def dkwX5_cookOf_1 : List UInt8 := [170, 0, 0, 0, 0, 0, 0, 95, 0, 0, 0, 0, 0, 0, 0, 6, 0, 0, 0, 44, 0, 0, 0, 51, 0, 0, 0, 58, 0, 0, 0, 66, 0, 0, 0, 74, 0, 0, 0, 82, 0, 0, 0, 88]
abbrev dktX5_cookOf_1 : List UInt8 := dkwX5_cookOf_1 ++ dktX5_cookOf_2
def dkwX5_cookOf_0 : List UInt8 := [42, 3, 181, 0, 46, 42, 27, 182, 0, 158, 154, 0, 9, 42, 4, 182, 0, 149, 172, 28]
abbrev dktX5_cookOf_0 : List UInt8 := dkwX5_cookOf_0 ++ dktX5_cookOf_1
theorem dksX5_cookOf_0 : cX5_cookOf.data.toList.drop 0 = dktX5_cookOf_0 := by decide +kernel
theorem dksX5_cookOf_1 : cX5_cookOf.data.toList.drop 20 = dktX5_cookOf_1 := dk_seg dksX5_cookOf_0 20 rfl rfl
theorem dksX5_cookOf_2 : cX5_cookOf.data.toList.drop 64 = dktX5_cookOf_2 := dk_seg dksX5_cookOf_1 44 rfl rfl
theorem dksX5_cookOf_3 : cX5_cookOf.data.toList.drop 88 = dktX5_cookOf_3 := dk_seg dksX5_cookOf_2 24 rfl rfl
theorem dksX5_cookOf_4 : cX5_cookOf.data.toList.drop 111 = dktX5_cookOf_4 := dk_seg dksX5_cookOf_3 23 rfl rfl
theorem dX5_cookOf_0 : decode cX5_cookOf 0 = .ok (.aload_n 0, 1) := dk_42 (dk_at dksX5_cookOf_0 0 rfl rfl)
theorem dX5_cookOf_1 : decode cX5_cookOf 1 = .ok (.iconst 0, 1) := dk_3 (dk_at dksX5_cookOf_0 1 rfl rfl)
theorem dX5_cookOf_2 : decode cX5_cookOf 2 = .ok (.putfield 46, 3) := dk_181 0 46 (dk_at dksX5_cookOf_0 2 rfl rfl)
theorem dX5_cookOf_5 : decode cX5_cookOf 5 = .ok (.aload_n 0, 1) := dk_42 (dk_at dksX5_cookOf_0 5 rfl rfl)
theorem dX5_cookOf_6 : decode cX5_cookOf 6 = .ok (.iload_n 1, 1) := dk_27 (dk_at dksX5_cookOf_0 6 rfl rfl)
theorem dX5_cookOf_7 : decode cX5_cookOf 7 = .ok (.invokevirtual 158, 3) := dk_182 0 158 (dk_at dksX5_cookOf_0 7 rfl rfl)
theorem dX5_cookOf_10 : decode cX5_cookOf 10 = .ok (.ifCond .ne 9, 3) := dk_154 0 9 (dk_at dksX5_cookOf_0 10 rfl rfl)
theorem dX5_cookOf_13 : decode cX5_cookOf 13 = .ok (.aload_n 0, 1) := dk_42 (dk_at dksX5_cookOf_0 13 rfl rfl)
theorem dX5_cookOf_14 : decode cX5_cookOf 14 = .ok (.iconst 1, 1) := dk_4 (dk_at dksX5_cookOf_0 14 rfl rfl)
theorem dX5_cookOf_15 : decode cX5_cookOf 15 = .ok (.invokevirtual 149, 3) := dk_182 0 149 (dk_at dksX5_cookOf_0 15 rfl rfl)
theorem dX5_cookOf_18 : decode cX5_cookOf 18 = .ok (.ireturn, 1) := dk_172 (dk_at dksX5_cookOf_0 18 rfl rfl)
theorem dX5_cookOf_19 : decode cX5_cookOf 19 = .ok (.iload_n 2, 1) := dk_28 (dk_at dksX5_cookOf_0 19 rfl rfl)
theorem dX5_cookOf_20 : decode cX5_cookOf 20 = .ok (.tableswitch 95 0 6 #[44, 51, 58, 66, 74, 82, 88], 44) := by decide +kernel
theorem dX5_cookOf_64 : decode cX5_cookOf 64 = .ok (.aload_n 0, 1) := dk_42 (dk_at dksX5_cookOf_2 0 rfl rfl)
theorem dX5_cookOf_65 : decode cX5_cookOf 65 = .ok (.iload_n 1, 1) := dk_27 (dk_at dksX5_cookOf_2 1 rfl rfl)
theorem dX5_cookOf_66 : decode cX5_cookOf 66 = .ok (.iconst 0, 1) := dk_3 (dk_at dksX5_cookOf_2 2 rfl rfl)
theorem dX5_cookOf_67 : decode cX5_cookOf 67 = .ok (.invokevirtual 66, 3) := dk_182 0 66 (dk_at dksX5_cookOf_2 3 rfl rfl)
theorem dX5_cookOf_70 : decode cX5_cookOf 70 = .ok (.ireturn, 1) := dk_172 (dk_at dksX5_cookOf_2 6 rfl rfl)
theorem dX5_cookOf_71 : decode cX5_cookOf 71 = .ok (.aload_n 0, 1) := dk_42 (dk_at dksX5_cookOf_2 7 rfl rfl)
theorem dX5_cookOf_72 : decode cX5_cookOf 72 = .ok (.iload_n 1, 1) := dk_27 (dk_at dksX5_cookOf_2 8 rfl rfl)
theorem dX5_cookOf_73 : decode cX5_cookOf 73 = .ok (.iconst 1, 1) := dk_4 (dk_at dksX5_cookOf_2 9 rfl rfl)
theorem dX5_cookOf_74 : decode cX5_cookOf 74 = .ok (.invokevirtual 66, 3) := dk_182 0 66 (dk_at dksX5_cookOf_2 10 rfl rfl)
theorem dX5_cookOf_77 : decode cX5_cookOf 77 = .ok (.ireturn, 1) := dk_172 (dk_at dksX5_cookOf_2 13 rfl rfl)
theorem dX5_cookOf_78 : decode cX5_cookOf 78 = .ok (.aload_n 0, 1) := dk_42 (dk_at dksX5_cookOf_2 14 rfl rfl)
theorem dX5_cookOf_79 : decode cX5_cookOf 79 = .ok (.iload_n 1, 1) := dk_27 (dk_at dksX5_cookOf_2 15 rfl rfl)
theorem dX5_cookOf_80 : decode cX5_cookOf 80 = .ok (.iconst 1, 1) := dk_4 (dk_at dksX5_cookOf_2 16 rfl rfl)
theorem dX5_cookOf_81 : decode cX5_cookOf 81 = .ok (.iconst 1, 1) := dk_4 (dk_at dksX5_cookOf_2 17 rfl rfl)
theorem dX5_cookOf_82 : decode cX5_cookOf 82 = .ok (.invokevirtual 161, 3) := dk_182 0 161 (dk_at dksX5_cookOf_2 18 rfl rfl)
theorem dX5_cookOf_85 : decode cX5_cookOf 85 = .ok (.ireturn, 1) := dk_172 (dk_at dksX5_cookOf_2 21 rfl rfl)
theorem dX5_cookOf_86 : decode cX5_cookOf 86 = .ok (.aload_n 0, 1) := dk_42 (dk_at dksX5_cookOf_2 22 rfl rfl)
theorem dX5_cookOf_87 : decode cX5_cookOf 87 = .ok (.iload_n 1, 1) := dk_27 (dk_at dksX5_cookOf_2 23 rfl rfl)
theorem dX5_cookOf_88 : decode cX5_cookOf 88 = .ok (.iconst 3, 1) := dk_6 (dk_at dksX5_cookOf_3 0 rfl rfl)
theorem dX5_cookOf_89 : decode cX5_cookOf 89 = .ok (.iconst 3, 1) := dk_6 (dk_at dksX5_cookOf_3 1 rfl rfl)
theorem dX5_cookOf_90 : decode cX5_cookOf 90 = .ok (.invokevirtual 161, 3) := dk_182 0 161 (dk_at dksX5_cookOf_3 2 rfl rfl)
theorem dX5_cookOf_93 : decode cX5_cookOf 93 = .ok (.ireturn, 1) := dk_172 (dk_at dksX5_cookOf_3 5 rfl rfl)
theorem dX5_cookOf_94 : decode cX5_cookOf 94 = .ok (.aload_n 0, 1) := dk_42 (dk_at dksX5_cookOf_3 6 rfl rfl)
theorem dX5_cookOf_95 : decode cX5_cookOf 95 = .ok (.iload_n 1, 1) := dk_27 (dk_at dksX5_cookOf_3 7 rfl rfl)
theorem dX5_cookOf_96 : decode cX5_cookOf 96 = .ok (.iconst 2, 1) := dk_5 (dk_at dksX5_cookOf_3 8 rfl rfl)
theorem dX5_cookOf_97 : decode cX5_cookOf 97 = .ok (.iconst 4, 1) := dk_7 (dk_at dksX5_cookOf_3 9 rfl rfl)
theorem dX5_cookOf_98 : decode cX5_cookOf 98 = .ok (.invokevirtual 161, 3) := dk_182 0 161 (dk_at dksX5_cookOf_3 10 rfl rfl)
theorem dX5_cookOf_101 : decode cX5_cookOf 101 = .ok (.ireturn, 1) := dk_172 (dk_at dksX5_cookOf_3 13 rfl rfl)
theorem dX5_cookOf_102 : decode cX5_cookOf 102 = .ok (.aload_n 0, 1) := dk_42 (dk_at dksX5_cookOf_3 14 rfl rfl)
theorem dX5_cookOf_103 : decode cX5_cookOf 103 = .ok (.iload_n 1, 1) := dk_27 (dk_at dksX5_cookOf_3 15 rfl rfl)
theorem dX5_cookOf_104 : decode cX5_cookOf 104 = .ok (.invokevirtual 164, 3) := dk_182 0 164 (dk_at dksX5_cookOf_3 16 rfl rfl)
theorem dX5_cookOf_107 : decode cX5_cookOf 107 = .ok (.ireturn, 1) := dk_172 (dk_at dksX5_cookOf_3 19 rfl rfl)
theorem dX5_cookOf_108 : decode cX5_cookOf 108 = .ok (.aload_n 0, 1) := dk_42 (dk_at dksX5_cookOf_3 20 rfl rfl)
theorem dX5_cookOf_109 : decode cX5_cookOf 109 = .ok (.iload_n 1, 1) := dk_27 (dk_at dksX5_cookOf_3 21 rfl rfl)
theorem dX5_cookOf_110 : decode cX5_cookOf 110 = .ok (.iconst 2, 1) := dk_5 (dk_at dksX5_cookOf_3 22 rfl rfl)
theorem dX5_cookOf_111 : decode cX5_cookOf 111 = .ok (.invokevirtual 66, 3) := dk_182 0 66 (dk_at dksX5_cookOf_4 0 rfl rfl)
theorem dX5_cookOf_114 : decode cX5_cookOf 114 = .ok (.ireturn, 1) := dk_172 (dk_at dksX5_cookOf_4 3 rfl rfl)
theorem dX5_cookOf_115 : decode cX5_cookOf 115 = .ok (.aload_n 0, 1) := dk_42 (dk_at dksX5_cookOf_4 4 rfl rfl)
theorem dX5_cookOf_116 : decode cX5_cookOf 116 = .ok (.iconst 2, 1) := dk_5 (dk_at dksX5_cookOf_4 5 rfl rfl)
theorem dX5_cookOf_117 : decode cX5_cookOf 117 = .ok (.invokevirtual 149, 3) := dk_182 0 149 (dk_at dksX5_cookOf_4 6 rfl rfl)
theorem dX5_cookOf_120 : decode cX5_cookOf 120 = .ok (.ireturn, 1) := dk_172 (dk_at dksX5_cookOf_4 9 rfl rfl)
abbrev cX5_dishesOf : ByteArray := prog_25_method_25_code
def dkwX5_dishesOf_2 : List UInt8 := [160, 0, 6, 132, 4, 1, 132, 5, 1, 167, 255, 207, 21, 4, 172]
abbrev dktX5_dishesOf_2 : List UInt8 := dkwX5_dishesOf_2 ++ []
def dkwX5_dishesOf_1 : List UInt8 := [153, 0, 28, 42, 21, 5, 27, 182, 0, 81, 28, 159, 0, 14, 42, 21, 5, 27, 182, 0, 81, 29]
abbrev dktX5_dishesOf_1 : List UInt8 := dkwX5_dishesOf_1 ++ dktX5_dishesOf_2
def dkwX5_dishesOf_0 : List UInt8 := [3, 54, 4, 3, 54, 5, 21, 5, 42, 180, 0, 9, 5, 46, 162, 0, 44, 42, 21, 5, 27, 182, 0, 77]
abbrev dktX5_dishesOf_0 : List UInt8 := dkwX5_dishesOf_0 ++ dktX5_dishesOf_1
theorem dksX5_dishesOf_0 : cX5_dishesOf.data.toList.drop 0 = dktX5_dishesOf_0 := by decide +kernel
theorem dksX5_dishesOf_1 : cX5_dishesOf.data.toList.drop 24 = dktX5_dishesOf_1 := dk_seg dksX5_dishesOf_0 24 rfl rfl
theorem dksX5_dishesOf_2 : cX5_dishesOf.data.toList.drop 46 = dktX5_dishesOf_2 := dk_seg dksX5_dishesOf_1 22 rfl rfl
theorem dX5_dishesOf_0 : decode cX5_dishesOf 0 = .ok (.iconst 0, 1) := dk_3 (dk_at dksX5_dishesOf_0 0 rfl rfl)
theorem dX5_dishesOf_1 : decode cX5_dishesOf 1 = .ok (.istore 4, 2) := dk_54 4 (dk_at dksX5_dishesOf_0 1 rfl rfl)
theorem dX5_dishesOf_3 : decode cX5_dishesOf 3 = .ok (.iconst 0, 1) := dk_3 (dk_at dksX5_dishesOf_0 3 rfl rfl)
theorem dX5_dishesOf_4 : decode cX5_dishesOf 4 = .ok (.istore 5, 2) := dk_54 5 (dk_at dksX5_dishesOf_0 4 rfl rfl)
theorem dX5_dishesOf_6 : decode cX5_dishesOf 6 = .ok (.iload 5, 2) := dk_21 5 (dk_at dksX5_dishesOf_0 6 rfl rfl)
theorem dX5_dishesOf_8 : decode cX5_dishesOf 8 = .ok (.aload_n 0, 1) := dk_42 (dk_at dksX5_dishesOf_0 8 rfl rfl)
theorem dX5_dishesOf_9 : decode cX5_dishesOf 9 = .ok (.getfield 9, 3) := dk_180 0 9 (dk_at dksX5_dishesOf_0 9 rfl rfl)
theorem dX5_dishesOf_12 : decode cX5_dishesOf 12 = .ok (.iconst 2, 1) := dk_5 (dk_at dksX5_dishesOf_0 12 rfl rfl)
theorem dX5_dishesOf_13 : decode cX5_dishesOf 13 = .ok (.iaload, 1) := dk_46 (dk_at dksX5_dishesOf_0 13 rfl rfl)
theorem dX5_dishesOf_14 : decode cX5_dishesOf 14 = .ok (.if_icmp .ge 44, 3) := dk_162 0 44 (dk_at dksX5_dishesOf_0 14 rfl rfl)
theorem dX5_dishesOf_17 : decode cX5_dishesOf 17 = .ok (.aload_n 0, 1) := dk_42 (dk_at dksX5_dishesOf_0 17 rfl rfl)
theorem dX5_dishesOf_18 : decode cX5_dishesOf 18 = .ok (.iload 5, 2) := dk_21 5 (dk_at dksX5_dishesOf_0 18 rfl rfl)
theorem dX5_dishesOf_20 : decode cX5_dishesOf 20 = .ok (.iload_n 1, 1) := dk_27 (dk_at dksX5_dishesOf_0 20 rfl rfl)
theorem dX5_dishesOf_21 : decode cX5_dishesOf 21 = .ok (.invokevirtual 77, 3) := dk_182 0 77 (dk_at dksX5_dishesOf_0 21 rfl rfl)
theorem dX5_dishesOf_24 : decode cX5_dishesOf 24 = .ok (.ifCond .eq 28, 3) := dk_153 0 28 (dk_at dksX5_dishesOf_1 0 rfl rfl)
theorem dX5_dishesOf_27 : decode cX5_dishesOf 27 = .ok (.aload_n 0, 1) := dk_42 (dk_at dksX5_dishesOf_1 3 rfl rfl)
theorem dX5_dishesOf_28 : decode cX5_dishesOf 28 = .ok (.iload 5, 2) := dk_21 5 (dk_at dksX5_dishesOf_1 4 rfl rfl)
theorem dX5_dishesOf_30 : decode cX5_dishesOf 30 = .ok (.iload_n 1, 1) := dk_27 (dk_at dksX5_dishesOf_1 6 rfl rfl)
theorem dX5_dishesOf_31 : decode cX5_dishesOf 31 = .ok (.invokevirtual 81, 3) := dk_182 0 81 (dk_at dksX5_dishesOf_1 7 rfl rfl)
theorem dX5_dishesOf_34 : decode cX5_dishesOf 34 = .ok (.iload_n 2, 1) := dk_28 (dk_at dksX5_dishesOf_1 10 rfl rfl)
theorem dX5_dishesOf_35 : decode cX5_dishesOf 35 = .ok (.if_icmp .eq 14, 3) := dk_159 0 14 (dk_at dksX5_dishesOf_1 11 rfl rfl)
theorem dX5_dishesOf_38 : decode cX5_dishesOf 38 = .ok (.aload_n 0, 1) := dk_42 (dk_at dksX5_dishesOf_1 14 rfl rfl)
theorem dX5_dishesOf_39 : decode cX5_dishesOf 39 = .ok (.iload 5, 2) := dk_21 5 (dk_at dksX5_dishesOf_1 15 rfl rfl)
theorem dX5_dishesOf_41 : decode cX5_dishesOf 41 = .ok (.iload_n 1, 1) := dk_27 (dk_at dksX5_dishesOf_1 17 rfl rfl)
theorem dX5_dishesOf_42 : decode cX5_dishesOf 42 = .ok (.invokevirtual 81, 3) := dk_182 0 81 (dk_at dksX5_dishesOf_1 18 rfl rfl)
theorem dX5_dishesOf_45 : decode cX5_dishesOf 45 = .ok (.iload_n 3, 1) := dk_29 (dk_at dksX5_dishesOf_1 21 rfl rfl)
theorem dX5_dishesOf_46 : decode cX5_dishesOf 46 = .ok (.if_icmp .ne 6, 3) := dk_160 0 6 (dk_at dksX5_dishesOf_2 0 rfl rfl)
theorem dX5_dishesOf_49 : decode cX5_dishesOf 49 = .ok (.iinc 4 1, 3) := dk_132 4 1 (dk_at dksX5_dishesOf_2 3 rfl rfl)
theorem dX5_dishesOf_52 : decode cX5_dishesOf 52 = .ok (.iinc 5 1, 3) := dk_132 5 1 (dk_at dksX5_dishesOf_2 6 rfl rfl)
theorem dX5_dishesOf_55 : decode cX5_dishesOf 55 = .ok (.goto (-49), 3) := dk_167 255 207 (dk_at dksX5_dishesOf_2 9 rfl rfl)
theorem dX5_dishesOf_58 : decode cX5_dishesOf 58 = .ok (.iload 4, 2) := dk_21 4 (dk_at dksX5_dishesOf_2 12 rfl rfl)
theorem dX5_dishesOf_60 : decode cX5_dishesOf 60 = .ok (.ireturn, 1) := dk_172 (dk_at dksX5_dishesOf_2 14 rfl rfl)
abbrev cX5_isDish : ByteArray := prog_25_method_20_code
def dkwX5_isDish_0 : List UInt8 := [42, 27, 7, 7, 28, 104, 96, 182, 0, 70, 158, 0, 7, 4, 167, 0, 4, 3, 172]
abbrev dktX5_isDish_0 : List UInt8 := dkwX5_isDish_0 ++ []
theorem dksX5_isDish_0 : cX5_isDish.data.toList.drop 0 = dktX5_isDish_0 := by decide +kernel
theorem dX5_isDish_0 : decode cX5_isDish 0 = .ok (.aload_n 0, 1) := dk_42 (dk_at dksX5_isDish_0 0 rfl rfl)
theorem dX5_isDish_1 : decode cX5_isDish 1 = .ok (.iload_n 1, 1) := dk_27 (dk_at dksX5_isDish_0 1 rfl rfl)
theorem dX5_isDish_2 : decode cX5_isDish 2 = .ok (.iconst 4, 1) := dk_7 (dk_at dksX5_isDish_0 2 rfl rfl)
theorem dX5_isDish_3 : decode cX5_isDish 3 = .ok (.iconst 4, 1) := dk_7 (dk_at dksX5_isDish_0 3 rfl rfl)
theorem dX5_isDish_4 : decode cX5_isDish 4 = .ok (.iload_n 2, 1) := dk_28 (dk_at dksX5_isDish_0 4 rfl rfl)
theorem dX5_isDish_5 : decode cX5_isDish 5 = .ok (.imul, 1) := dk_104 (dk_at dksX5_isDish_0 5 rfl rfl)
theorem dX5_isDish_6 : decode cX5_isDish 6 = .ok (.iadd, 1) := dk_96 (dk_at dksX5_isDish_0 6 rfl rfl)
theorem dX5_isDish_7 : decode cX5_isDish 7 = .ok (.invokevirtual 70, 3) := dk_182 0 70 (dk_at dksX5_isDish_0 7 rfl rfl)
theorem dX5_isDish_10 : decode cX5_isDish 10 = .ok (.ifCond .le 7, 3) := dk_158 0 7 (dk_at dksX5_isDish_0 10 rfl rfl)
theorem dX5_isDish_13 : decode cX5_isDish 13 = .ok (.iconst 1, 1) := dk_4 (dk_at dksX5_isDish_0 13 rfl rfl)
theorem dX5_isDish_14 : decode cX5_isDish 14 = .ok (.goto 4, 3) := dk_167 0 4 (dk_at dksX5_isDish_0 14 rfl rfl)
theorem dX5_isDish_17 : decode cX5_isDish 17 = .ok (.iconst 0, 1) := dk_3 (dk_at dksX5_isDish_0 17 rfl rfl)
theorem dX5_isDish_18 : decode cX5_isDish 18 = .ok (.ireturn, 1) := dk_172 (dk_at dksX5_isDish_0 18 rfl rfl)
abbrev cX5_course : ByteArray := prog_25_method_17_code
def dkwX5_course_0 : List UInt8 := [42, 180, 0, 9, 16, 97, 16, 28, 27, 104, 96, 28, 96, 46, 172]
abbrev dktX5_course_0 : List UInt8 := dkwX5_course_0 ++ []
theorem dksX5_course_0 : cX5_course.data.toList.drop 0 = dktX5_course_0 := by decide +kernel
theorem dX5_course_0 : decode cX5_course 0 = .ok (.aload_n 0, 1) := dk_42 (dk_at dksX5_course_0 0 rfl rfl)
theorem dX5_course_1 : decode cX5_course 1 = .ok (.getfield 9, 3) := dk_180 0 9 (dk_at dksX5_course_0 1 rfl rfl)
theorem dX5_course_4 : decode cX5_course 4 = .ok (.bipush 97, 2) := dk_16 97 (dk_at dksX5_course_0 4 rfl rfl)
theorem dX5_course_6 : decode cX5_course 6 = .ok (.bipush 28, 2) := dk_16 28 (dk_at dksX5_course_0 6 rfl rfl)
theorem dX5_course_8 : decode cX5_course 8 = .ok (.iload_n 1, 1) := dk_27 (dk_at dksX5_course_0 8 rfl rfl)
theorem dX5_course_9 : decode cX5_course 9 = .ok (.imul, 1) := dk_104 (dk_at dksX5_course_0 9 rfl rfl)
theorem dX5_course_10 : decode cX5_course 10 = .ok (.iadd, 1) := dk_96 (dk_at dksX5_course_0 10 rfl rfl)
theorem dX5_course_11 : decode cX5_course 11 = .ok (.iload_n 2, 1) := dk_28 (dk_at dksX5_course_0 11 rfl rfl)
theorem dX5_course_12 : decode cX5_course 12 = .ok (.iadd, 1) := dk_96 (dk_at dksX5_course_0 12 rfl rfl)
theorem dX5_course_13 : decode cX5_course 13 = .ok (.iaload, 1) := dk_46 (dk_at dksX5_course_0 13 rfl rfl)
theorem dX5_course_14 : decode cX5_course 14 = .ok (.ireturn, 1) := dk_172 (dk_at dksX5_course_0 14 rfl rfl)
abbrev cX5_howDish : ByteArray := prog_25_method_22_code
def dkwX5_howDish_0 : List UInt8 := [42, 27, 28, 5, 182, 0, 73, 172]
abbrev dktX5_howDish_0 : List UInt8 := dkwX5_howDish_0 ++ []
theorem dksX5_howDish_0 : cX5_howDish.data.toList.drop 0 = dktX5_howDish_0 := by decide +kernel
theorem dX5_howDish_0 : decode cX5_howDish 0 = .ok (.aload_n 0, 1) := dk_42 (dk_at dksX5_howDish_0 0 rfl rfl)
theorem dX5_howDish_1 : decode cX5_howDish 1 = .ok (.iload_n 1, 1) := dk_27 (dk_at dksX5_howDish_0 1 rfl rfl)
theorem dX5_howDish_2 : decode cX5_howDish 2 = .ok (.iload_n 2, 1) := dk_28 (dk_at dksX5_howDish_0 2 rfl rfl)
theorem dX5_howDish_3 : decode cX5_howDish 3 = .ok (.iconst 2, 1) := dk_5 (dk_at dksX5_howDish_0 3 rfl rfl)
theorem dX5_howDish_4 : decode cX5_howDish 4 = .ok (.invokevirtual 73, 3) := dk_182 0 73 (dk_at dksX5_howDish_0 4 rfl rfl)
theorem dX5_howDish_7 : decode cX5_howDish 7 = .ok (.ireturn, 1) := dk_172 (dk_at dksX5_howDish_0 7 rfl rfl)
abbrev cX5_dish : ByteArray := prog_25_method_21_code
def dkwX5_dish_0 : List UInt8 := [42, 27, 7, 7, 28, 104, 96, 29, 96, 182, 0, 70, 172]
abbrev dktX5_dish_0 : List UInt8 := dkwX5_dish_0 ++ []
theorem dksX5_dish_0 : cX5_dish.data.toList.drop 0 = dktX5_dish_0 := by decide +kernel
theorem dX5_dish_0 : decode cX5_dish 0 = .ok (.aload_n 0, 1) := dk_42 (dk_at dksX5_dish_0 0 rfl rfl)
theorem dX5_dish_1 : decode cX5_dish 1 = .ok (.iload_n 1, 1) := dk_27 (dk_at dksX5_dish_0 1 rfl rfl)
theorem dX5_dish_2 : decode cX5_dish 2 = .ok (.iconst 4, 1) := dk_7 (dk_at dksX5_dish_0 2 rfl rfl)
theorem dX5_dish_3 : decode cX5_dish 3 = .ok (.iconst 4, 1) := dk_7 (dk_at dksX5_dish_0 3 rfl rfl)
theorem dX5_dish_4 : decode cX5_dish 4 = .ok (.iload_n 2, 1) := dk_28 (dk_at dksX5_dish_0 4 rfl rfl)
theorem dX5_dish_5 : decode cX5_dish 5 = .ok (.imul, 1) := dk_104 (dk_at dksX5_dish_0 5 rfl rfl)
theorem dX5_dish_6 : decode cX5_dish 6 = .ok (.iadd, 1) := dk_96 (dk_at dksX5_dish_0 6 rfl rfl)
theorem dX5_dish_7 : decode cX5_dish 7 = .ok (.iload_n 3, 1) := dk_29 (dk_at dksX5_dish_0 7 rfl rfl)
theorem dX5_dish_8 : decode cX5_dish 8 = .ok (.iadd, 1) := dk_96 (dk_at dksX5_dish_0 8 rfl rfl)
theorem dX5_dish_9 : decode cX5_dish 9 = .ok (.invokevirtual 70, 3) := dk_182 0 70 (dk_at dksX5_dish_0 9 rfl rfl)
theorem dX5_dish_12 : decode cX5_dish 12 = .ok (.ireturn, 1) := dk_172 (dk_at dksX5_dish_0 12 rfl rfl)
abbrev cX5_served : ByteArray := prog_25_method_42_code
def dkwX5_served_1 : List UInt8 := [167, 255, 236, 28, 172]
abbrev dktX5_served_1 : List UInt8 := dkwX5_served_1 ++ []
def dkwX5_served_0 : List UInt8 := [3, 61, 3, 62, 29, 7, 162, 0, 21, 28, 42, 27, 16, 11, 29, 96, 182, 0, 66, 96, 61, 132, 3, 1]
abbrev dktX5_served_0 : List UInt8 := dkwX5_served_0 ++ dktX5_served_1
theorem dksX5_served_0 : cX5_served.data.toList.drop 0 = dktX5_served_0 := by decide +kernel
theorem dksX5_served_1 : cX5_served.data.toList.drop 24 = dktX5_served_1 := dk_seg dksX5_served_0 24 rfl rfl
theorem dX5_served_0 : decode cX5_served 0 = .ok (.iconst 0, 1) := dk_3 (dk_at dksX5_served_0 0 rfl rfl)
theorem dX5_served_1 : decode cX5_served 1 = .ok (.istore_n 2, 1) := dk_61 (dk_at dksX5_served_0 1 rfl rfl)
theorem dX5_served_2 : decode cX5_served 2 = .ok (.iconst 0, 1) := dk_3 (dk_at dksX5_served_0 2 rfl rfl)
theorem dX5_served_3 : decode cX5_served 3 = .ok (.istore_n 3, 1) := dk_62 (dk_at dksX5_served_0 3 rfl rfl)
theorem dX5_served_4 : decode cX5_served 4 = .ok (.iload_n 3, 1) := dk_29 (dk_at dksX5_served_0 4 rfl rfl)
theorem dX5_served_5 : decode cX5_served 5 = .ok (.iconst 4, 1) := dk_7 (dk_at dksX5_served_0 5 rfl rfl)
theorem dX5_served_6 : decode cX5_served 6 = .ok (.if_icmp .ge 21, 3) := dk_162 0 21 (dk_at dksX5_served_0 6 rfl rfl)
theorem dX5_served_9 : decode cX5_served 9 = .ok (.iload_n 2, 1) := dk_28 (dk_at dksX5_served_0 9 rfl rfl)
theorem dX5_served_10 : decode cX5_served 10 = .ok (.aload_n 0, 1) := dk_42 (dk_at dksX5_served_0 10 rfl rfl)
theorem dX5_served_11 : decode cX5_served 11 = .ok (.iload_n 1, 1) := dk_27 (dk_at dksX5_served_0 11 rfl rfl)
theorem dX5_served_12 : decode cX5_served 12 = .ok (.bipush 11, 2) := dk_16 11 (dk_at dksX5_served_0 12 rfl rfl)
theorem dX5_served_14 : decode cX5_served 14 = .ok (.iload_n 3, 1) := dk_29 (dk_at dksX5_served_0 14 rfl rfl)
theorem dX5_served_15 : decode cX5_served 15 = .ok (.iadd, 1) := dk_96 (dk_at dksX5_served_0 15 rfl rfl)
theorem dX5_served_16 : decode cX5_served 16 = .ok (.invokevirtual 66, 3) := dk_182 0 66 (dk_at dksX5_served_0 16 rfl rfl)
theorem dX5_served_19 : decode cX5_served 19 = .ok (.iadd, 1) := dk_96 (dk_at dksX5_served_0 19 rfl rfl)
theorem dX5_served_20 : decode cX5_served 20 = .ok (.istore_n 2, 1) := dk_61 (dk_at dksX5_served_0 20 rfl rfl)
theorem dX5_served_21 : decode cX5_served 21 = .ok (.iinc 3 1, 3) := dk_132 3 1 (dk_at dksX5_served_0 21 rfl rfl)
theorem dX5_served_24 : decode cX5_served 24 = .ok (.goto (-20), 3) := dk_167 255 236 (dk_at dksX5_served_1 0 rfl rfl)
theorem dX5_served_27 : decode cX5_served 27 = .ok (.iload_n 2, 1) := dk_28 (dk_at dksX5_served_1 3 rfl rfl)
theorem dX5_served_28 : decode cX5_served 28 = .ok (.ireturn, 1) := dk_172 (dk_at dksX5_served_1 4 rfl rfl)
abbrev cX5_course_2 : ByteArray := prog_25_method_44_code
def dkwX5_course_2_3 : List UInt8 := [27, 5, 2, 182, 0, 95, 42, 27, 182, 0, 155, 172]
abbrev dktX5_course_2_3 : List UInt8 := dkwX5_course_2_3 ++ []
def dkwX5_course_2_2 : List UInt8 := [162, 0, 16, 42, 27, 28, 3, 182, 0, 95, 132, 2, 1, 167, 255, 240, 42, 27, 4, 2, 182, 0, 95, 42]
abbrev dktX5_course_2_2 : List UInt8 := dkwX5_course_2_2 ++ dktX5_course_2_3
def dkwX5_course_2_1 : List UInt8 := [182, 0, 152, 5, 100, 182, 0, 149, 172, 42, 180, 0, 9, 5, 92, 46, 4, 96, 79, 3, 61, 28, 16, 28]
abbrev dktX5_course_2_1 : List UInt8 := dkwX5_course_2_1 ++ dktX5_course_2_2
def dkwX5_course_2_0 : List UInt8 := [42, 182, 0, 146, 42, 180, 0, 9, 5, 46, 60, 27, 16, 8, 160, 0, 17, 42, 42, 4, 16, 8]
abbrev dktX5_course_2_0 : List UInt8 := dkwX5_course_2_0 ++ dktX5_course_2_1
theorem dksX5_course_2_0 : cX5_course_2.data.toList.drop 0 = dktX5_course_2_0 := by decide +kernel
theorem dksX5_course_2_1 : cX5_course_2.data.toList.drop 22 = dktX5_course_2_1 := dk_seg dksX5_course_2_0 22 rfl rfl
theorem dksX5_course_2_2 : cX5_course_2.data.toList.drop 46 = dktX5_course_2_2 := dk_seg dksX5_course_2_1 24 rfl rfl
theorem dksX5_course_2_3 : cX5_course_2.data.toList.drop 70 = dktX5_course_2_3 := dk_seg dksX5_course_2_2 24 rfl rfl
theorem dX5_course_2_0 : decode cX5_course_2 0 = .ok (.aload_n 0, 1) := dk_42 (dk_at dksX5_course_2_0 0 rfl rfl)
theorem dX5_course_2_1 : decode cX5_course_2 1 = .ok (.invokevirtual 146, 3) := dk_182 0 146 (dk_at dksX5_course_2_0 1 rfl rfl)
theorem dX5_course_2_4 : decode cX5_course_2 4 = .ok (.aload_n 0, 1) := dk_42 (dk_at dksX5_course_2_0 4 rfl rfl)
theorem dX5_course_2_5 : decode cX5_course_2 5 = .ok (.getfield 9, 3) := dk_180 0 9 (dk_at dksX5_course_2_0 5 rfl rfl)
theorem dX5_course_2_8 : decode cX5_course_2 8 = .ok (.iconst 2, 1) := dk_5 (dk_at dksX5_course_2_0 8 rfl rfl)
theorem dX5_course_2_9 : decode cX5_course_2 9 = .ok (.iaload, 1) := dk_46 (dk_at dksX5_course_2_0 9 rfl rfl)
theorem dX5_course_2_10 : decode cX5_course_2 10 = .ok (.istore_n 1, 1) := dk_60 (dk_at dksX5_course_2_0 10 rfl rfl)
theorem dX5_course_2_11 : decode cX5_course_2 11 = .ok (.iload_n 1, 1) := dk_27 (dk_at dksX5_course_2_0 11 rfl rfl)
theorem dX5_course_2_12 : decode cX5_course_2 12 = .ok (.bipush 8, 2) := dk_16 8 (dk_at dksX5_course_2_0 12 rfl rfl)
theorem dX5_course_2_14 : decode cX5_course_2 14 = .ok (.if_icmp .ne 17, 3) := dk_160 0 17 (dk_at dksX5_course_2_0 14 rfl rfl)
theorem dX5_course_2_17 : decode cX5_course_2 17 = .ok (.aload_n 0, 1) := dk_42 (dk_at dksX5_course_2_0 17 rfl rfl)
theorem dX5_course_2_18 : decode cX5_course_2 18 = .ok (.aload_n 0, 1) := dk_42 (dk_at dksX5_course_2_0 18 rfl rfl)
theorem dX5_course_2_19 : decode cX5_course_2 19 = .ok (.iconst 1, 1) := dk_4 (dk_at dksX5_course_2_0 19 rfl rfl)
theorem dX5_course_2_20 : decode cX5_course_2 20 = .ok (.bipush 8, 2) := dk_16 8 (dk_at dksX5_course_2_0 20 rfl rfl)
theorem dX5_course_2_22 : decode cX5_course_2 22 = .ok (.invokevirtual 152, 3) := dk_182 0 152 (dk_at dksX5_course_2_1 0 rfl rfl)
theorem dX5_course_2_25 : decode cX5_course_2 25 = .ok (.iconst 2, 1) := dk_5 (dk_at dksX5_course_2_1 3 rfl rfl)
theorem dX5_course_2_26 : decode cX5_course_2 26 = .ok (.isub, 1) := dk_100 (dk_at dksX5_course_2_1 4 rfl rfl)
theorem dX5_course_2_27 : decode cX5_course_2 27 = .ok (.invokevirtual 149, 3) := dk_182 0 149 (dk_at dksX5_course_2_1 5 rfl rfl)
theorem dX5_course_2_30 : decode cX5_course_2 30 = .ok (.ireturn, 1) := dk_172 (dk_at dksX5_course_2_1 8 rfl rfl)
theorem dX5_course_2_31 : decode cX5_course_2 31 = .ok (.aload_n 0, 1) := dk_42 (dk_at dksX5_course_2_1 9 rfl rfl)
theorem dX5_course_2_32 : decode cX5_course_2 32 = .ok (.getfield 9, 3) := dk_180 0 9 (dk_at dksX5_course_2_1 10 rfl rfl)
theorem dX5_course_2_35 : decode cX5_course_2 35 = .ok (.iconst 2, 1) := dk_5 (dk_at dksX5_course_2_1 13 rfl rfl)
theorem dX5_course_2_36 : decode cX5_course_2 36 = .ok (.dup2, 1) := dk_92 (dk_at dksX5_course_2_1 14 rfl rfl)
theorem dX5_course_2_37 : decode cX5_course_2 37 = .ok (.iaload, 1) := dk_46 (dk_at dksX5_course_2_1 15 rfl rfl)
theorem dX5_course_2_38 : decode cX5_course_2 38 = .ok (.iconst 1, 1) := dk_4 (dk_at dksX5_course_2_1 16 rfl rfl)
theorem dX5_course_2_39 : decode cX5_course_2 39 = .ok (.iadd, 1) := dk_96 (dk_at dksX5_course_2_1 17 rfl rfl)
theorem dX5_course_2_40 : decode cX5_course_2 40 = .ok (.iastore, 1) := dk_79 (dk_at dksX5_course_2_1 18 rfl rfl)
theorem dX5_course_2_41 : decode cX5_course_2 41 = .ok (.iconst 0, 1) := dk_3 (dk_at dksX5_course_2_1 19 rfl rfl)
theorem dX5_course_2_42 : decode cX5_course_2 42 = .ok (.istore_n 2, 1) := dk_61 (dk_at dksX5_course_2_1 20 rfl rfl)
theorem dX5_course_2_43 : decode cX5_course_2 43 = .ok (.iload_n 2, 1) := dk_28 (dk_at dksX5_course_2_1 21 rfl rfl)
theorem dX5_course_2_44 : decode cX5_course_2 44 = .ok (.bipush 28, 2) := dk_16 28 (dk_at dksX5_course_2_1 22 rfl rfl)
theorem dX5_course_2_46 : decode cX5_course_2 46 = .ok (.if_icmp .ge 16, 3) := dk_162 0 16 (dk_at dksX5_course_2_2 0 rfl rfl)
theorem dX5_course_2_49 : decode cX5_course_2 49 = .ok (.aload_n 0, 1) := dk_42 (dk_at dksX5_course_2_2 3 rfl rfl)
theorem dX5_course_2_50 : decode cX5_course_2 50 = .ok (.iload_n 1, 1) := dk_27 (dk_at dksX5_course_2_2 4 rfl rfl)
theorem dX5_course_2_51 : decode cX5_course_2 51 = .ok (.iload_n 2, 1) := dk_28 (dk_at dksX5_course_2_2 5 rfl rfl)
theorem dX5_course_2_52 : decode cX5_course_2 52 = .ok (.iconst 0, 1) := dk_3 (dk_at dksX5_course_2_2 6 rfl rfl)
theorem dX5_course_2_53 : decode cX5_course_2 53 = .ok (.invokevirtual 95, 3) := dk_182 0 95 (dk_at dksX5_course_2_2 7 rfl rfl)
theorem dX5_course_2_56 : decode cX5_course_2 56 = .ok (.iinc 2 1, 3) := dk_132 2 1 (dk_at dksX5_course_2_2 10 rfl rfl)
theorem dX5_course_2_59 : decode cX5_course_2 59 = .ok (.goto (-16), 3) := dk_167 255 240 (dk_at dksX5_course_2_2 13 rfl rfl)
theorem dX5_course_2_62 : decode cX5_course_2 62 = .ok (.aload_n 0, 1) := dk_42 (dk_at dksX5_course_2_2 16 rfl rfl)
theorem dX5_course_2_63 : decode cX5_course_2 63 = .ok (.iload_n 1, 1) := dk_27 (dk_at dksX5_course_2_2 17 rfl rfl)
theorem dX5_course_2_64 : decode cX5_course_2 64 = .ok (.iconst 1, 1) := dk_4 (dk_at dksX5_course_2_2 18 rfl rfl)
theorem dX5_course_2_65 : decode cX5_course_2 65 = .ok (.iconst (-1), 1) := dk_2 (dk_at dksX5_course_2_2 19 rfl rfl)
theorem dX5_course_2_66 : decode cX5_course_2 66 = .ok (.invokevirtual 95, 3) := dk_182 0 95 (dk_at dksX5_course_2_2 20 rfl rfl)
theorem dX5_course_2_69 : decode cX5_course_2 69 = .ok (.aload_n 0, 1) := dk_42 (dk_at dksX5_course_2_2 23 rfl rfl)
theorem dX5_course_2_70 : decode cX5_course_2 70 = .ok (.iload_n 1, 1) := dk_27 (dk_at dksX5_course_2_3 0 rfl rfl)
theorem dX5_course_2_71 : decode cX5_course_2 71 = .ok (.iconst 2, 1) := dk_5 (dk_at dksX5_course_2_3 1 rfl rfl)
theorem dX5_course_2_72 : decode cX5_course_2 72 = .ok (.iconst (-1), 1) := dk_2 (dk_at dksX5_course_2_3 2 rfl rfl)
theorem dX5_course_2_73 : decode cX5_course_2 73 = .ok (.invokevirtual 95, 3) := dk_182 0 95 (dk_at dksX5_course_2_3 3 rfl rfl)
theorem dX5_course_2_76 : decode cX5_course_2 76 = .ok (.aload_n 0, 1) := dk_42 (dk_at dksX5_course_2_3 6 rfl rfl)
theorem dX5_course_2_77 : decode cX5_course_2 77 = .ok (.iload_n 1, 1) := dk_27 (dk_at dksX5_course_2_3 7 rfl rfl)
theorem dX5_course_2_78 : decode cX5_course_2 78 = .ok (.invokevirtual 155, 3) := dk_182 0 155 (dk_at dksX5_course_2_3 8 rfl rfl)
theorem dX5_course_2_81 : decode cX5_course_2 81 = .ok (.ireturn, 1) := dk_172 (dk_at dksX5_course_2_3 11 rfl rfl)
abbrev cX5_setsCourse : ByteArray := prog_25_method_18_code
def dkwX5_setsCourse_0 : List UInt8 := [42, 180, 0, 9, 16, 97, 16, 28, 27, 104, 96, 28, 96, 29, 79, 177]
abbrev dktX5_setsCourse_0 : List UInt8 := dkwX5_setsCourse_0 ++ []
theorem dksX5_setsCourse_0 : cX5_setsCourse.data.toList.drop 0 = dktX5_setsCourse_0 := by decide +kernel
theorem dX5_setsCourse_0 : decode cX5_setsCourse 0 = .ok (.aload_n 0, 1) := dk_42 (dk_at dksX5_setsCourse_0 0 rfl rfl)
theorem dX5_setsCourse_1 : decode cX5_setsCourse 1 = .ok (.getfield 9, 3) := dk_180 0 9 (dk_at dksX5_setsCourse_0 1 rfl rfl)
theorem dX5_setsCourse_4 : decode cX5_setsCourse 4 = .ok (.bipush 97, 2) := dk_16 97 (dk_at dksX5_setsCourse_0 4 rfl rfl)
theorem dX5_setsCourse_6 : decode cX5_setsCourse 6 = .ok (.bipush 28, 2) := dk_16 28 (dk_at dksX5_setsCourse_0 6 rfl rfl)
theorem dX5_setsCourse_8 : decode cX5_setsCourse 8 = .ok (.iload_n 1, 1) := dk_27 (dk_at dksX5_setsCourse_0 8 rfl rfl)
theorem dX5_setsCourse_9 : decode cX5_setsCourse 9 = .ok (.imul, 1) := dk_104 (dk_at dksX5_setsCourse_0 9 rfl rfl)
theorem dX5_setsCourse_10 : decode cX5_setsCourse 10 = .ok (.iadd, 1) := dk_96 (dk_at dksX5_setsCourse_0 10 rfl rfl)
theorem dX5_setsCourse_11 : decode cX5_setsCourse 11 = .ok (.iload_n 2, 1) := dk_28 (dk_at dksX5_setsCourse_0 11 rfl rfl)
theorem dX5_setsCourse_12 : decode cX5_setsCourse 12 = .ok (.iadd, 1) := dk_96 (dk_at dksX5_setsCourse_0 12 rfl rfl)
theorem dX5_setsCourse_13 : decode cX5_setsCourse 13 = .ok (.iload_n 3, 1) := dk_29 (dk_at dksX5_setsCourse_0 13 rfl rfl)
theorem dX5_setsCourse_14 : decode cX5_setsCourse 14 = .ok (.iastore, 1) := dk_79 (dk_at dksX5_setsCourse_0 14 rfl rfl)
theorem dX5_setsCourse_15 : decode cX5_setsCourse 15 = .ok (.return_, 1) := dk_177 (dk_at dksX5_setsCourse_0 15 rfl rfl)
abbrev cX5_dish_2 : ByteArray := prog_25_method_45_code
def dkwX5_dish_2_6 : List UInt8 := [182, 0, 95, 42, 27, 21, 5, 6, 96, 2, 182, 0, 95, 42, 42, 27, 182, 0, 137, 182, 0, 155, 172]
abbrev dktX5_dish_2_6 : List UInt8 := dkwX5_dish_2_6 ++ []
def dkwX5_dish_2_5 : List UInt8 := [4, 96, 182, 0, 95, 42, 27, 21, 5, 4, 96, 21, 4, 182, 0, 95, 42, 27, 21, 5, 5, 96, 3]
abbrev dktX5_dish_2_5 : List UInt8 := dkwX5_dish_2_5 ++ dktX5_dish_2_6
def dkwX5_dish_2_4 : List UInt8 := [182, 0, 73, 4, 100, 182, 0, 152, 182, 0, 149, 172, 7, 7, 28, 104, 96, 54, 5, 42, 27, 21, 5, 29]
abbrev dktX5_dish_2_4 : List UInt8 := dkwX5_dish_2_4 ++ dktX5_dish_2_5
def dkwX5_dish_2_3 : List UInt8 := [182, 0, 152, 182, 0, 149, 172, 42, 27, 28, 182, 0, 77, 153, 0, 22, 42, 42, 7, 42, 27, 28, 3]
abbrev dktX5_dish_2_3 : List UInt8 := dkwX5_dish_2_3 ++ dktX5_dish_2_4
def dkwX5_dish_2_2 : List UInt8 := [42, 5, 182, 0, 149, 172, 42, 27, 182, 0, 84, 153, 0, 18, 42, 42, 6, 42, 27, 182, 0, 84]
abbrev dktX5_dish_2_2 : List UInt8 := dkwX5_dish_2_2 ++ dktX5_dish_2_3
def dkwX5_dish_2_1 : List UInt8 := [182, 0, 149, 172, 29, 3, 6, 184, 0, 62, 153, 0, 14, 21, 4, 4, 16, 20, 184, 0, 62, 154, 0, 9]
abbrev dktX5_dish_2_1 : List UInt8 := dkwX5_dish_2_1 ++ dktX5_dish_2_2
def dkwX5_dish_2_0 : List UInt8 := [42, 182, 0, 146, 42, 27, 182, 0, 167, 153, 0, 11, 42, 28, 182, 0, 158, 154, 0, 9, 42, 4]
abbrev dktX5_dish_2_0 : List UInt8 := dkwX5_dish_2_0 ++ dktX5_dish_2_1
theorem dksX5_dish_2_0 : cX5_dish_2.data.toList.drop 0 = dktX5_dish_2_0 := by decide +kernel
theorem dksX5_dish_2_1 : cX5_dish_2.data.toList.drop 22 = dktX5_dish_2_1 := dk_seg dksX5_dish_2_0 22 rfl rfl
theorem dksX5_dish_2_2 : cX5_dish_2.data.toList.drop 46 = dktX5_dish_2_2 := dk_seg dksX5_dish_2_1 24 rfl rfl
theorem dksX5_dish_2_3 : cX5_dish_2.data.toList.drop 68 = dktX5_dish_2_3 := dk_seg dksX5_dish_2_2 22 rfl rfl
theorem dksX5_dish_2_4 : cX5_dish_2.data.toList.drop 91 = dktX5_dish_2_4 := dk_seg dksX5_dish_2_3 23 rfl rfl
theorem dksX5_dish_2_5 : cX5_dish_2.data.toList.drop 115 = dktX5_dish_2_5 := dk_seg dksX5_dish_2_4 24 rfl rfl
theorem dksX5_dish_2_6 : cX5_dish_2.data.toList.drop 138 = dktX5_dish_2_6 := dk_seg dksX5_dish_2_5 23 rfl rfl
theorem dX5_dish_2_0 : decode cX5_dish_2 0 = .ok (.aload_n 0, 1) := dk_42 (dk_at dksX5_dish_2_0 0 rfl rfl)
theorem dX5_dish_2_1 : decode cX5_dish_2 1 = .ok (.invokevirtual 146, 3) := dk_182 0 146 (dk_at dksX5_dish_2_0 1 rfl rfl)
theorem dX5_dish_2_4 : decode cX5_dish_2 4 = .ok (.aload_n 0, 1) := dk_42 (dk_at dksX5_dish_2_0 4 rfl rfl)
theorem dX5_dish_2_5 : decode cX5_dish_2 5 = .ok (.iload_n 1, 1) := dk_27 (dk_at dksX5_dish_2_0 5 rfl rfl)
theorem dX5_dish_2_6 : decode cX5_dish_2 6 = .ok (.invokevirtual 167, 3) := dk_182 0 167 (dk_at dksX5_dish_2_0 6 rfl rfl)
theorem dX5_dish_2_9 : decode cX5_dish_2 9 = .ok (.ifCond .eq 11, 3) := dk_153 0 11 (dk_at dksX5_dish_2_0 9 rfl rfl)
theorem dX5_dish_2_12 : decode cX5_dish_2 12 = .ok (.aload_n 0, 1) := dk_42 (dk_at dksX5_dish_2_0 12 rfl rfl)
theorem dX5_dish_2_13 : decode cX5_dish_2 13 = .ok (.iload_n 2, 1) := dk_28 (dk_at dksX5_dish_2_0 13 rfl rfl)
theorem dX5_dish_2_14 : decode cX5_dish_2 14 = .ok (.invokevirtual 158, 3) := dk_182 0 158 (dk_at dksX5_dish_2_0 14 rfl rfl)
theorem dX5_dish_2_17 : decode cX5_dish_2 17 = .ok (.ifCond .ne 9, 3) := dk_154 0 9 (dk_at dksX5_dish_2_0 17 rfl rfl)
theorem dX5_dish_2_20 : decode cX5_dish_2 20 = .ok (.aload_n 0, 1) := dk_42 (dk_at dksX5_dish_2_0 20 rfl rfl)
theorem dX5_dish_2_21 : decode cX5_dish_2 21 = .ok (.iconst 1, 1) := dk_4 (dk_at dksX5_dish_2_0 21 rfl rfl)
theorem dX5_dish_2_22 : decode cX5_dish_2 22 = .ok (.invokevirtual 149, 3) := dk_182 0 149 (dk_at dksX5_dish_2_1 0 rfl rfl)
theorem dX5_dish_2_25 : decode cX5_dish_2 25 = .ok (.ireturn, 1) := dk_172 (dk_at dksX5_dish_2_1 3 rfl rfl)
theorem dX5_dish_2_26 : decode cX5_dish_2 26 = .ok (.iload_n 3, 1) := dk_29 (dk_at dksX5_dish_2_1 4 rfl rfl)
theorem dX5_dish_2_27 : decode cX5_dish_2 27 = .ok (.iconst 0, 1) := dk_3 (dk_at dksX5_dish_2_1 5 rfl rfl)
theorem dX5_dish_2_28 : decode cX5_dish_2 28 = .ok (.iconst 3, 1) := dk_6 (dk_at dksX5_dish_2_1 6 rfl rfl)
theorem dX5_dish_2_29 : decode cX5_dish_2 29 = .ok (.invokestatic 62, 3) := dk_184 0 62 (dk_at dksX5_dish_2_1 7 rfl rfl)
theorem dX5_dish_2_32 : decode cX5_dish_2 32 = .ok (.ifCond .eq 14, 3) := dk_153 0 14 (dk_at dksX5_dish_2_1 10 rfl rfl)
theorem dX5_dish_2_35 : decode cX5_dish_2 35 = .ok (.iload 4, 2) := dk_21 4 (dk_at dksX5_dish_2_1 13 rfl rfl)
theorem dX5_dish_2_37 : decode cX5_dish_2 37 = .ok (.iconst 1, 1) := dk_4 (dk_at dksX5_dish_2_1 15 rfl rfl)
theorem dX5_dish_2_38 : decode cX5_dish_2 38 = .ok (.bipush 20, 2) := dk_16 20 (dk_at dksX5_dish_2_1 16 rfl rfl)
theorem dX5_dish_2_40 : decode cX5_dish_2 40 = .ok (.invokestatic 62, 3) := dk_184 0 62 (dk_at dksX5_dish_2_1 18 rfl rfl)
theorem dX5_dish_2_43 : decode cX5_dish_2 43 = .ok (.ifCond .ne 9, 3) := dk_154 0 9 (dk_at dksX5_dish_2_1 21 rfl rfl)
theorem dX5_dish_2_46 : decode cX5_dish_2 46 = .ok (.aload_n 0, 1) := dk_42 (dk_at dksX5_dish_2_2 0 rfl rfl)
theorem dX5_dish_2_47 : decode cX5_dish_2 47 = .ok (.iconst 2, 1) := dk_5 (dk_at dksX5_dish_2_2 1 rfl rfl)
theorem dX5_dish_2_48 : decode cX5_dish_2 48 = .ok (.invokevirtual 149, 3) := dk_182 0 149 (dk_at dksX5_dish_2_2 2 rfl rfl)
theorem dX5_dish_2_51 : decode cX5_dish_2 51 = .ok (.ireturn, 1) := dk_172 (dk_at dksX5_dish_2_2 5 rfl rfl)
theorem dX5_dish_2_52 : decode cX5_dish_2 52 = .ok (.aload_n 0, 1) := dk_42 (dk_at dksX5_dish_2_2 6 rfl rfl)
theorem dX5_dish_2_53 : decode cX5_dish_2 53 = .ok (.iload_n 1, 1) := dk_27 (dk_at dksX5_dish_2_2 7 rfl rfl)
theorem dX5_dish_2_54 : decode cX5_dish_2 54 = .ok (.invokevirtual 84, 3) := dk_182 0 84 (dk_at dksX5_dish_2_2 8 rfl rfl)
theorem dX5_dish_2_57 : decode cX5_dish_2 57 = .ok (.ifCond .eq 18, 3) := dk_153 0 18 (dk_at dksX5_dish_2_2 11 rfl rfl)
theorem dX5_dish_2_60 : decode cX5_dish_2 60 = .ok (.aload_n 0, 1) := dk_42 (dk_at dksX5_dish_2_2 14 rfl rfl)
theorem dX5_dish_2_61 : decode cX5_dish_2 61 = .ok (.aload_n 0, 1) := dk_42 (dk_at dksX5_dish_2_2 15 rfl rfl)
theorem dX5_dish_2_62 : decode cX5_dish_2 62 = .ok (.iconst 3, 1) := dk_6 (dk_at dksX5_dish_2_2 16 rfl rfl)
theorem dX5_dish_2_63 : decode cX5_dish_2 63 = .ok (.aload_n 0, 1) := dk_42 (dk_at dksX5_dish_2_2 17 rfl rfl)
theorem dX5_dish_2_64 : decode cX5_dish_2 64 = .ok (.iload_n 1, 1) := dk_27 (dk_at dksX5_dish_2_2 18 rfl rfl)
theorem dX5_dish_2_65 : decode cX5_dish_2 65 = .ok (.invokevirtual 84, 3) := dk_182 0 84 (dk_at dksX5_dish_2_2 19 rfl rfl)
theorem dX5_dish_2_68 : decode cX5_dish_2 68 = .ok (.invokevirtual 152, 3) := dk_182 0 152 (dk_at dksX5_dish_2_3 0 rfl rfl)
theorem dX5_dish_2_71 : decode cX5_dish_2 71 = .ok (.invokevirtual 149, 3) := dk_182 0 149 (dk_at dksX5_dish_2_3 3 rfl rfl)
theorem dX5_dish_2_74 : decode cX5_dish_2 74 = .ok (.ireturn, 1) := dk_172 (dk_at dksX5_dish_2_3 6 rfl rfl)
theorem dX5_dish_2_75 : decode cX5_dish_2 75 = .ok (.aload_n 0, 1) := dk_42 (dk_at dksX5_dish_2_3 7 rfl rfl)
theorem dX5_dish_2_76 : decode cX5_dish_2 76 = .ok (.iload_n 1, 1) := dk_27 (dk_at dksX5_dish_2_3 8 rfl rfl)
theorem dX5_dish_2_77 : decode cX5_dish_2 77 = .ok (.iload_n 2, 1) := dk_28 (dk_at dksX5_dish_2_3 9 rfl rfl)
theorem dX5_dish_2_78 : decode cX5_dish_2 78 = .ok (.invokevirtual 77, 3) := dk_182 0 77 (dk_at dksX5_dish_2_3 10 rfl rfl)
theorem dX5_dish_2_81 : decode cX5_dish_2 81 = .ok (.ifCond .eq 22, 3) := dk_153 0 22 (dk_at dksX5_dish_2_3 13 rfl rfl)
theorem dX5_dish_2_84 : decode cX5_dish_2 84 = .ok (.aload_n 0, 1) := dk_42 (dk_at dksX5_dish_2_3 16 rfl rfl)
theorem dX5_dish_2_85 : decode cX5_dish_2 85 = .ok (.aload_n 0, 1) := dk_42 (dk_at dksX5_dish_2_3 17 rfl rfl)
theorem dX5_dish_2_86 : decode cX5_dish_2 86 = .ok (.iconst 4, 1) := dk_7 (dk_at dksX5_dish_2_3 18 rfl rfl)
theorem dX5_dish_2_87 : decode cX5_dish_2 87 = .ok (.aload_n 0, 1) := dk_42 (dk_at dksX5_dish_2_3 19 rfl rfl)
theorem dX5_dish_2_88 : decode cX5_dish_2 88 = .ok (.iload_n 1, 1) := dk_27 (dk_at dksX5_dish_2_3 20 rfl rfl)
theorem dX5_dish_2_89 : decode cX5_dish_2 89 = .ok (.iload_n 2, 1) := dk_28 (dk_at dksX5_dish_2_3 21 rfl rfl)
theorem dX5_dish_2_90 : decode cX5_dish_2 90 = .ok (.iconst 0, 1) := dk_3 (dk_at dksX5_dish_2_3 22 rfl rfl)
theorem dX5_dish_2_91 : decode cX5_dish_2 91 = .ok (.invokevirtual 73, 3) := dk_182 0 73 (dk_at dksX5_dish_2_4 0 rfl rfl)
theorem dX5_dish_2_94 : decode cX5_dish_2 94 = .ok (.iconst 1, 1) := dk_4 (dk_at dksX5_dish_2_4 3 rfl rfl)
theorem dX5_dish_2_95 : decode cX5_dish_2 95 = .ok (.isub, 1) := dk_100 (dk_at dksX5_dish_2_4 4 rfl rfl)
theorem dX5_dish_2_96 : decode cX5_dish_2 96 = .ok (.invokevirtual 152, 3) := dk_182 0 152 (dk_at dksX5_dish_2_4 5 rfl rfl)
theorem dX5_dish_2_99 : decode cX5_dish_2 99 = .ok (.invokevirtual 149, 3) := dk_182 0 149 (dk_at dksX5_dish_2_4 8 rfl rfl)
theorem dX5_dish_2_102 : decode cX5_dish_2 102 = .ok (.ireturn, 1) := dk_172 (dk_at dksX5_dish_2_4 11 rfl rfl)
theorem dX5_dish_2_103 : decode cX5_dish_2 103 = .ok (.iconst 4, 1) := dk_7 (dk_at dksX5_dish_2_4 12 rfl rfl)
theorem dX5_dish_2_104 : decode cX5_dish_2 104 = .ok (.iconst 4, 1) := dk_7 (dk_at dksX5_dish_2_4 13 rfl rfl)
theorem dX5_dish_2_105 : decode cX5_dish_2 105 = .ok (.iload_n 2, 1) := dk_28 (dk_at dksX5_dish_2_4 14 rfl rfl)
theorem dX5_dish_2_106 : decode cX5_dish_2 106 = .ok (.imul, 1) := dk_104 (dk_at dksX5_dish_2_4 15 rfl rfl)
theorem dX5_dish_2_107 : decode cX5_dish_2 107 = .ok (.iadd, 1) := dk_96 (dk_at dksX5_dish_2_4 16 rfl rfl)
theorem dX5_dish_2_108 : decode cX5_dish_2 108 = .ok (.istore 5, 2) := dk_54 5 (dk_at dksX5_dish_2_4 17 rfl rfl)
theorem dX5_dish_2_110 : decode cX5_dish_2 110 = .ok (.aload_n 0, 1) := dk_42 (dk_at dksX5_dish_2_4 19 rfl rfl)
theorem dX5_dish_2_111 : decode cX5_dish_2 111 = .ok (.iload_n 1, 1) := dk_27 (dk_at dksX5_dish_2_4 20 rfl rfl)
theorem dX5_dish_2_112 : decode cX5_dish_2 112 = .ok (.iload 5, 2) := dk_21 5 (dk_at dksX5_dish_2_4 21 rfl rfl)
theorem dX5_dish_2_114 : decode cX5_dish_2 114 = .ok (.iload_n 3, 1) := dk_29 (dk_at dksX5_dish_2_4 23 rfl rfl)
theorem dX5_dish_2_115 : decode cX5_dish_2 115 = .ok (.iconst 1, 1) := dk_4 (dk_at dksX5_dish_2_5 0 rfl rfl)
theorem dX5_dish_2_116 : decode cX5_dish_2 116 = .ok (.iadd, 1) := dk_96 (dk_at dksX5_dish_2_5 1 rfl rfl)
theorem dX5_dish_2_117 : decode cX5_dish_2 117 = .ok (.invokevirtual 95, 3) := dk_182 0 95 (dk_at dksX5_dish_2_5 2 rfl rfl)
theorem dX5_dish_2_120 : decode cX5_dish_2 120 = .ok (.aload_n 0, 1) := dk_42 (dk_at dksX5_dish_2_5 5 rfl rfl)
theorem dX5_dish_2_121 : decode cX5_dish_2 121 = .ok (.iload_n 1, 1) := dk_27 (dk_at dksX5_dish_2_5 6 rfl rfl)
theorem dX5_dish_2_122 : decode cX5_dish_2 122 = .ok (.iload 5, 2) := dk_21 5 (dk_at dksX5_dish_2_5 7 rfl rfl)
theorem dX5_dish_2_124 : decode cX5_dish_2 124 = .ok (.iconst 1, 1) := dk_4 (dk_at dksX5_dish_2_5 9 rfl rfl)
theorem dX5_dish_2_125 : decode cX5_dish_2 125 = .ok (.iadd, 1) := dk_96 (dk_at dksX5_dish_2_5 10 rfl rfl)
theorem dX5_dish_2_126 : decode cX5_dish_2 126 = .ok (.iload 4, 2) := dk_21 4 (dk_at dksX5_dish_2_5 11 rfl rfl)
theorem dX5_dish_2_128 : decode cX5_dish_2 128 = .ok (.invokevirtual 95, 3) := dk_182 0 95 (dk_at dksX5_dish_2_5 13 rfl rfl)
theorem dX5_dish_2_131 : decode cX5_dish_2 131 = .ok (.aload_n 0, 1) := dk_42 (dk_at dksX5_dish_2_5 16 rfl rfl)
theorem dX5_dish_2_132 : decode cX5_dish_2 132 = .ok (.iload_n 1, 1) := dk_27 (dk_at dksX5_dish_2_5 17 rfl rfl)
theorem dX5_dish_2_133 : decode cX5_dish_2 133 = .ok (.iload 5, 2) := dk_21 5 (dk_at dksX5_dish_2_5 18 rfl rfl)
theorem dX5_dish_2_135 : decode cX5_dish_2 135 = .ok (.iconst 2, 1) := dk_5 (dk_at dksX5_dish_2_5 20 rfl rfl)
theorem dX5_dish_2_136 : decode cX5_dish_2 136 = .ok (.iadd, 1) := dk_96 (dk_at dksX5_dish_2_5 21 rfl rfl)
theorem dX5_dish_2_137 : decode cX5_dish_2 137 = .ok (.iconst 0, 1) := dk_3 (dk_at dksX5_dish_2_5 22 rfl rfl)
theorem dX5_dish_2_138 : decode cX5_dish_2 138 = .ok (.invokevirtual 95, 3) := dk_182 0 95 (dk_at dksX5_dish_2_6 0 rfl rfl)
theorem dX5_dish_2_141 : decode cX5_dish_2 141 = .ok (.aload_n 0, 1) := dk_42 (dk_at dksX5_dish_2_6 3 rfl rfl)
theorem dX5_dish_2_142 : decode cX5_dish_2 142 = .ok (.iload_n 1, 1) := dk_27 (dk_at dksX5_dish_2_6 4 rfl rfl)
theorem dX5_dish_2_143 : decode cX5_dish_2 143 = .ok (.iload 5, 2) := dk_21 5 (dk_at dksX5_dish_2_6 5 rfl rfl)
theorem dX5_dish_2_145 : decode cX5_dish_2 145 = .ok (.iconst 3, 1) := dk_6 (dk_at dksX5_dish_2_6 7 rfl rfl)
theorem dX5_dish_2_146 : decode cX5_dish_2 146 = .ok (.iadd, 1) := dk_96 (dk_at dksX5_dish_2_6 8 rfl rfl)
theorem dX5_dish_2_147 : decode cX5_dish_2 147 = .ok (.iconst (-1), 1) := dk_2 (dk_at dksX5_dish_2_6 9 rfl rfl)
theorem dX5_dish_2_148 : decode cX5_dish_2 148 = .ok (.invokevirtual 95, 3) := dk_182 0 95 (dk_at dksX5_dish_2_6 10 rfl rfl)
theorem dX5_dish_2_151 : decode cX5_dish_2 151 = .ok (.aload_n 0, 1) := dk_42 (dk_at dksX5_dish_2_6 13 rfl rfl)
theorem dX5_dish_2_152 : decode cX5_dish_2 152 = .ok (.aload_n 0, 1) := dk_42 (dk_at dksX5_dish_2_6 14 rfl rfl)
theorem dX5_dish_2_153 : decode cX5_dish_2 153 = .ok (.iload_n 1, 1) := dk_27 (dk_at dksX5_dish_2_6 15 rfl rfl)
theorem dX5_dish_2_154 : decode cX5_dish_2 154 = .ok (.invokevirtual 137, 3) := dk_182 0 137 (dk_at dksX5_dish_2_6 16 rfl rfl)
theorem dX5_dish_2_157 : decode cX5_dish_2 157 = .ok (.invokevirtual 155, 3) := dk_182 0 155 (dk_at dksX5_dish_2_6 19 rfl rfl)
theorem dX5_dish_2_160 : decode cX5_dish_2 160 = .ok (.ireturn, 1) := dk_172 (dk_at dksX5_dish_2_6 22 rfl rfl)
abbrev cX5_isCourse : ByteArray := prog_25_method_13_code
def dkwX5_isCourse_0 : List UInt8 := [27, 3, 42, 180, 0, 9, 5, 46, 4, 100, 184, 0, 62, 172]
abbrev dktX5_isCourse_0 : List UInt8 := dkwX5_isCourse_0 ++ []
theorem dksX5_isCourse_0 : cX5_isCourse.data.toList.drop 0 = dktX5_isCourse_0 := by decide +kernel
theorem dX5_isCourse_0 : decode cX5_isCourse 0 = .ok (.iload_n 1, 1) := dk_27 (dk_at dksX5_isCourse_0 0 rfl rfl)
theorem dX5_isCourse_1 : decode cX5_isCourse 1 = .ok (.iconst 0, 1) := dk_3 (dk_at dksX5_isCourse_0 1 rfl rfl)
theorem dX5_isCourse_2 : decode cX5_isCourse 2 = .ok (.aload_n 0, 1) := dk_42 (dk_at dksX5_isCourse_0 2 rfl rfl)
theorem dX5_isCourse_3 : decode cX5_isCourse 3 = .ok (.getfield 9, 3) := dk_180 0 9 (dk_at dksX5_isCourse_0 3 rfl rfl)
theorem dX5_isCourse_6 : decode cX5_isCourse 6 = .ok (.iconst 2, 1) := dk_5 (dk_at dksX5_isCourse_0 6 rfl rfl)
theorem dX5_isCourse_7 : decode cX5_isCourse 7 = .ok (.iaload, 1) := dk_46 (dk_at dksX5_isCourse_0 7 rfl rfl)
theorem dX5_isCourse_8 : decode cX5_isCourse 8 = .ok (.iconst 1, 1) := dk_4 (dk_at dksX5_isCourse_0 8 rfl rfl)
theorem dX5_isCourse_9 : decode cX5_isCourse 9 = .ok (.isub, 1) := dk_100 (dk_at dksX5_isCourse_0 9 rfl rfl)
theorem dX5_isCourse_10 : decode cX5_isCourse 10 = .ok (.invokestatic 62, 3) := dk_184 0 62 (dk_at dksX5_isCourse_0 10 rfl rfl)
theorem dX5_isCourse_13 : decode cX5_isCourse 13 = .ok (.ireturn, 1) := dk_172 (dk_at dksX5_isCourse_0 13 rfl rfl)
abbrev cX5_how : ByteArray := prog_25_method_19_code
def dkwX5_how_0 : List UInt8 := [42, 27, 3, 182, 0, 70, 172]
abbrev dktX5_how_0 : List UInt8 := dkwX5_how_0 ++ []
theorem dksX5_how_0 : cX5_how.data.toList.drop 0 = dktX5_how_0 := by decide +kernel
theorem dX5_how_0 : decode cX5_how 0 = .ok (.aload_n 0, 1) := dk_42 (dk_at dksX5_how_0 0 rfl rfl)
theorem dX5_how_1 : decode cX5_how 1 = .ok (.iload_n 1, 1) := dk_27 (dk_at dksX5_how_0 1 rfl rfl)
theorem dX5_how_2 : decode cX5_how 2 = .ok (.iconst 0, 1) := dk_3 (dk_at dksX5_how_0 2 rfl rfl)
theorem dX5_how_3 : decode cX5_how 3 = .ok (.invokevirtual 70, 3) := dk_182 0 70 (dk_at dksX5_how_0 3 rfl rfl)
theorem dX5_how_6 : decode cX5_how 6 = .ok (.ireturn, 1) := dk_172 (dk_at dksX5_how_0 6 rfl rfl)
abbrev cX5_dishes : ByteArray := prog_25_method_23_code
def dkwX5_dishes_1 : List UInt8 := [132, 3, 1, 167, 255, 235, 28, 172]
abbrev dktX5_dishes_1 : List UInt8 := dkwX5_dishes_1 ++ []
def dkwX5_dishes_0 : List UInt8 := [3, 61, 3, 62, 29, 16, 6, 162, 0, 21, 42, 27, 29, 182, 0, 77, 153, 0, 6, 132, 2, 1]
abbrev dktX5_dishes_0 : List UInt8 := dkwX5_dishes_0 ++ dktX5_dishes_1
theorem dksX5_dishes_0 : cX5_dishes.data.toList.drop 0 = dktX5_dishes_0 := by decide +kernel
theorem dksX5_dishes_1 : cX5_dishes.data.toList.drop 22 = dktX5_dishes_1 := dk_seg dksX5_dishes_0 22 rfl rfl
theorem dX5_dishes_0 : decode cX5_dishes 0 = .ok (.iconst 0, 1) := dk_3 (dk_at dksX5_dishes_0 0 rfl rfl)
theorem dX5_dishes_1 : decode cX5_dishes 1 = .ok (.istore_n 2, 1) := dk_61 (dk_at dksX5_dishes_0 1 rfl rfl)
theorem dX5_dishes_2 : decode cX5_dishes 2 = .ok (.iconst 0, 1) := dk_3 (dk_at dksX5_dishes_0 2 rfl rfl)
theorem dX5_dishes_3 : decode cX5_dishes 3 = .ok (.istore_n 3, 1) := dk_62 (dk_at dksX5_dishes_0 3 rfl rfl)
theorem dX5_dishes_4 : decode cX5_dishes 4 = .ok (.iload_n 3, 1) := dk_29 (dk_at dksX5_dishes_0 4 rfl rfl)
theorem dX5_dishes_5 : decode cX5_dishes 5 = .ok (.bipush 6, 2) := dk_16 6 (dk_at dksX5_dishes_0 5 rfl rfl)
theorem dX5_dishes_7 : decode cX5_dishes 7 = .ok (.if_icmp .ge 21, 3) := dk_162 0 21 (dk_at dksX5_dishes_0 7 rfl rfl)
theorem dX5_dishes_10 : decode cX5_dishes 10 = .ok (.aload_n 0, 1) := dk_42 (dk_at dksX5_dishes_0 10 rfl rfl)
theorem dX5_dishes_11 : decode cX5_dishes 11 = .ok (.iload_n 1, 1) := dk_27 (dk_at dksX5_dishes_0 11 rfl rfl)
theorem dX5_dishes_12 : decode cX5_dishes 12 = .ok (.iload_n 3, 1) := dk_29 (dk_at dksX5_dishes_0 12 rfl rfl)
theorem dX5_dishes_13 : decode cX5_dishes 13 = .ok (.invokevirtual 77, 3) := dk_182 0 77 (dk_at dksX5_dishes_0 13 rfl rfl)
theorem dX5_dishes_16 : decode cX5_dishes 16 = .ok (.ifCond .eq 6, 3) := dk_153 0 6 (dk_at dksX5_dishes_0 16 rfl rfl)
theorem dX5_dishes_19 : decode cX5_dishes 19 = .ok (.iinc 2 1, 3) := dk_132 2 1 (dk_at dksX5_dishes_0 19 rfl rfl)
theorem dX5_dishes_22 : decode cX5_dishes 22 = .ok (.iinc 3 1, 3) := dk_132 3 1 (dk_at dksX5_dishes_1 0 rfl rfl)
theorem dX5_dishes_25 : decode cX5_dishes 25 = .ok (.goto (-21), 3) := dk_167 255 235 (dk_at dksX5_dishes_1 3 rfl rfl)
theorem dX5_dishes_28 : decode cX5_dishes 28 = .ok (.iload_n 2, 1) := dk_28 (dk_at dksX5_dishes_1 6 rfl rfl)
theorem dX5_dishes_29 : decode cX5_dishes 29 = .ok (.ireturn, 1) := dk_172 (dk_at dksX5_dishes_1 7 rfl rfl)
abbrev cX5_courseOf : ByteArray := prog_25_method_46_code
def dkwX5_courseOf_4 : List UInt8 := [182, 0, 70, 172, 42, 5, 182, 0, 149, 172]
abbrev dktX5_courseOf_4 : List UInt8 := dkwX5_courseOf_4 ++ []
def dkwX5_courseOf_3 : List UInt8 := [182, 0, 170, 172, 42, 27, 5, 7, 182, 0, 170, 172, 42, 27, 28, 7, 100, 182, 0, 70, 172, 42, 27, 6]
abbrev dktX5_courseOf_3 : List UInt8 := dkwX5_courseOf_3 ++ dktX5_courseOf_4
def dkwX5_courseOf_2 : List UInt8 := [42, 27, 182, 0, 84, 172, 42, 27, 182, 0, 137, 172, 42, 27, 4, 4, 182, 0, 170, 172, 42, 27, 6, 6]
abbrev dktX5_courseOf_2 : List UInt8 := dkwX5_courseOf_2 ++ dktX5_courseOf_3
def dkwX5_courseOf_1 : List UInt8 := [170, 0, 0, 0, 0, 0, 0, 100, 0, 0, 0, 0, 0, 0, 0, 7, 0, 0, 0, 48, 0, 0, 0, 54, 0, 0, 0, 60, 0, 0, 0, 68, 0, 0, 0, 76, 0, 0, 0, 84, 0, 0, 0, 84, 0, 0, 0, 93]
abbrev dktX5_courseOf_1 : List UInt8 := dkwX5_courseOf_1 ++ dktX5_courseOf_2
def dkwX5_courseOf_0 : List UInt8 := [42, 3, 181, 0, 46, 42, 27, 182, 0, 167, 154, 0, 9, 42, 4, 182, 0, 149, 172, 28]
abbrev dktX5_courseOf_0 : List UInt8 := dkwX5_courseOf_0 ++ dktX5_courseOf_1
theorem dksX5_courseOf_0 : cX5_courseOf.data.toList.drop 0 = dktX5_courseOf_0 := by decide +kernel
theorem dksX5_courseOf_1 : cX5_courseOf.data.toList.drop 20 = dktX5_courseOf_1 := dk_seg dksX5_courseOf_0 20 rfl rfl
theorem dksX5_courseOf_2 : cX5_courseOf.data.toList.drop 68 = dktX5_courseOf_2 := dk_seg dksX5_courseOf_1 48 rfl rfl
theorem dksX5_courseOf_3 : cX5_courseOf.data.toList.drop 92 = dktX5_courseOf_3 := dk_seg dksX5_courseOf_2 24 rfl rfl
theorem dksX5_courseOf_4 : cX5_courseOf.data.toList.drop 116 = dktX5_courseOf_4 := dk_seg dksX5_courseOf_3 24 rfl rfl
theorem dX5_courseOf_0 : decode cX5_courseOf 0 = .ok (.aload_n 0, 1) := dk_42 (dk_at dksX5_courseOf_0 0 rfl rfl)
theorem dX5_courseOf_1 : decode cX5_courseOf 1 = .ok (.iconst 0, 1) := dk_3 (dk_at dksX5_courseOf_0 1 rfl rfl)
theorem dX5_courseOf_2 : decode cX5_courseOf 2 = .ok (.putfield 46, 3) := dk_181 0 46 (dk_at dksX5_courseOf_0 2 rfl rfl)
theorem dX5_courseOf_5 : decode cX5_courseOf 5 = .ok (.aload_n 0, 1) := dk_42 (dk_at dksX5_courseOf_0 5 rfl rfl)
theorem dX5_courseOf_6 : decode cX5_courseOf 6 = .ok (.iload_n 1, 1) := dk_27 (dk_at dksX5_courseOf_0 6 rfl rfl)
theorem dX5_courseOf_7 : decode cX5_courseOf 7 = .ok (.invokevirtual 167, 3) := dk_182 0 167 (dk_at dksX5_courseOf_0 7 rfl rfl)
theorem dX5_courseOf_10 : decode cX5_courseOf 10 = .ok (.ifCond .ne 9, 3) := dk_154 0 9 (dk_at dksX5_courseOf_0 10 rfl rfl)
theorem dX5_courseOf_13 : decode cX5_courseOf 13 = .ok (.aload_n 0, 1) := dk_42 (dk_at dksX5_courseOf_0 13 rfl rfl)
theorem dX5_courseOf_14 : decode cX5_courseOf 14 = .ok (.iconst 1, 1) := dk_4 (dk_at dksX5_courseOf_0 14 rfl rfl)
theorem dX5_courseOf_15 : decode cX5_courseOf 15 = .ok (.invokevirtual 149, 3) := dk_182 0 149 (dk_at dksX5_courseOf_0 15 rfl rfl)
theorem dX5_courseOf_18 : decode cX5_courseOf 18 = .ok (.ireturn, 1) := dk_172 (dk_at dksX5_courseOf_0 18 rfl rfl)
theorem dX5_courseOf_19 : decode cX5_courseOf 19 = .ok (.iload_n 2, 1) := dk_28 (dk_at dksX5_courseOf_0 19 rfl rfl)
theorem dX5_courseOf_20 : decode cX5_courseOf 20 = .ok (.tableswitch 100 0 7 #[48, 54, 60, 68, 76, 84, 84, 93], 48) := by decide +kernel
theorem dX5_courseOf_68 : decode cX5_courseOf 68 = .ok (.aload_n 0, 1) := dk_42 (dk_at dksX5_courseOf_2 0 rfl rfl)
theorem dX5_courseOf_69 : decode cX5_courseOf 69 = .ok (.iload_n 1, 1) := dk_27 (dk_at dksX5_courseOf_2 1 rfl rfl)
theorem dX5_courseOf_70 : decode cX5_courseOf 70 = .ok (.invokevirtual 84, 3) := dk_182 0 84 (dk_at dksX5_courseOf_2 2 rfl rfl)
theorem dX5_courseOf_73 : decode cX5_courseOf 73 = .ok (.ireturn, 1) := dk_172 (dk_at dksX5_courseOf_2 5 rfl rfl)
theorem dX5_courseOf_74 : decode cX5_courseOf 74 = .ok (.aload_n 0, 1) := dk_42 (dk_at dksX5_courseOf_2 6 rfl rfl)
theorem dX5_courseOf_75 : decode cX5_courseOf 75 = .ok (.iload_n 1, 1) := dk_27 (dk_at dksX5_courseOf_2 7 rfl rfl)
theorem dX5_courseOf_76 : decode cX5_courseOf 76 = .ok (.invokevirtual 137, 3) := dk_182 0 137 (dk_at dksX5_courseOf_2 8 rfl rfl)
theorem dX5_courseOf_79 : decode cX5_courseOf 79 = .ok (.ireturn, 1) := dk_172 (dk_at dksX5_courseOf_2 11 rfl rfl)
theorem dX5_courseOf_80 : decode cX5_courseOf 80 = .ok (.aload_n 0, 1) := dk_42 (dk_at dksX5_courseOf_2 12 rfl rfl)
theorem dX5_courseOf_81 : decode cX5_courseOf 81 = .ok (.iload_n 1, 1) := dk_27 (dk_at dksX5_courseOf_2 13 rfl rfl)
theorem dX5_courseOf_82 : decode cX5_courseOf 82 = .ok (.iconst 1, 1) := dk_4 (dk_at dksX5_courseOf_2 14 rfl rfl)
theorem dX5_courseOf_83 : decode cX5_courseOf 83 = .ok (.iconst 1, 1) := dk_4 (dk_at dksX5_courseOf_2 15 rfl rfl)
theorem dX5_courseOf_84 : decode cX5_courseOf 84 = .ok (.invokevirtual 170, 3) := dk_182 0 170 (dk_at dksX5_courseOf_2 16 rfl rfl)
theorem dX5_courseOf_87 : decode cX5_courseOf 87 = .ok (.ireturn, 1) := dk_172 (dk_at dksX5_courseOf_2 19 rfl rfl)
theorem dX5_courseOf_88 : decode cX5_courseOf 88 = .ok (.aload_n 0, 1) := dk_42 (dk_at dksX5_courseOf_2 20 rfl rfl)
theorem dX5_courseOf_89 : decode cX5_courseOf 89 = .ok (.iload_n 1, 1) := dk_27 (dk_at dksX5_courseOf_2 21 rfl rfl)
theorem dX5_courseOf_90 : decode cX5_courseOf 90 = .ok (.iconst 3, 1) := dk_6 (dk_at dksX5_courseOf_2 22 rfl rfl)
theorem dX5_courseOf_91 : decode cX5_courseOf 91 = .ok (.iconst 3, 1) := dk_6 (dk_at dksX5_courseOf_2 23 rfl rfl)
theorem dX5_courseOf_92 : decode cX5_courseOf 92 = .ok (.invokevirtual 170, 3) := dk_182 0 170 (dk_at dksX5_courseOf_3 0 rfl rfl)
theorem dX5_courseOf_95 : decode cX5_courseOf 95 = .ok (.ireturn, 1) := dk_172 (dk_at dksX5_courseOf_3 3 rfl rfl)
theorem dX5_courseOf_96 : decode cX5_courseOf 96 = .ok (.aload_n 0, 1) := dk_42 (dk_at dksX5_courseOf_3 4 rfl rfl)
theorem dX5_courseOf_97 : decode cX5_courseOf 97 = .ok (.iload_n 1, 1) := dk_27 (dk_at dksX5_courseOf_3 5 rfl rfl)
theorem dX5_courseOf_98 : decode cX5_courseOf 98 = .ok (.iconst 2, 1) := dk_5 (dk_at dksX5_courseOf_3 6 rfl rfl)
theorem dX5_courseOf_99 : decode cX5_courseOf 99 = .ok (.iconst 4, 1) := dk_7 (dk_at dksX5_courseOf_3 7 rfl rfl)
theorem dX5_courseOf_100 : decode cX5_courseOf 100 = .ok (.invokevirtual 170, 3) := dk_182 0 170 (dk_at dksX5_courseOf_3 8 rfl rfl)
theorem dX5_courseOf_103 : decode cX5_courseOf 103 = .ok (.ireturn, 1) := dk_172 (dk_at dksX5_courseOf_3 11 rfl rfl)
theorem dX5_courseOf_104 : decode cX5_courseOf 104 = .ok (.aload_n 0, 1) := dk_42 (dk_at dksX5_courseOf_3 12 rfl rfl)
theorem dX5_courseOf_105 : decode cX5_courseOf 105 = .ok (.iload_n 1, 1) := dk_27 (dk_at dksX5_courseOf_3 13 rfl rfl)
theorem dX5_courseOf_106 : decode cX5_courseOf 106 = .ok (.iload_n 2, 1) := dk_28 (dk_at dksX5_courseOf_3 14 rfl rfl)
theorem dX5_courseOf_107 : decode cX5_courseOf 107 = .ok (.iconst 4, 1) := dk_7 (dk_at dksX5_courseOf_3 15 rfl rfl)
theorem dX5_courseOf_108 : decode cX5_courseOf 108 = .ok (.isub, 1) := dk_100 (dk_at dksX5_courseOf_3 16 rfl rfl)
theorem dX5_courseOf_109 : decode cX5_courseOf 109 = .ok (.invokevirtual 70, 3) := dk_182 0 70 (dk_at dksX5_courseOf_3 17 rfl rfl)
theorem dX5_courseOf_112 : decode cX5_courseOf 112 = .ok (.ireturn, 1) := dk_172 (dk_at dksX5_courseOf_3 20 rfl rfl)
theorem dX5_courseOf_113 : decode cX5_courseOf 113 = .ok (.aload_n 0, 1) := dk_42 (dk_at dksX5_courseOf_3 21 rfl rfl)
theorem dX5_courseOf_114 : decode cX5_courseOf 114 = .ok (.iload_n 1, 1) := dk_27 (dk_at dksX5_courseOf_3 22 rfl rfl)
theorem dX5_courseOf_115 : decode cX5_courseOf 115 = .ok (.iconst 3, 1) := dk_6 (dk_at dksX5_courseOf_3 23 rfl rfl)
theorem dX5_courseOf_116 : decode cX5_courseOf 116 = .ok (.invokevirtual 70, 3) := dk_182 0 70 (dk_at dksX5_courseOf_4 0 rfl rfl)
theorem dX5_courseOf_119 : decode cX5_courseOf 119 = .ok (.ireturn, 1) := dk_172 (dk_at dksX5_courseOf_4 3 rfl rfl)
theorem dX5_courseOf_120 : decode cX5_courseOf 120 = .ok (.aload_n 0, 1) := dk_42 (dk_at dksX5_courseOf_4 4 rfl rfl)
theorem dX5_courseOf_121 : decode cX5_courseOf 121 = .ok (.iconst 2, 1) := dk_5 (dk_at dksX5_courseOf_4 5 rfl rfl)
theorem dX5_courseOf_122 : decode cX5_courseOf 122 = .ok (.invokevirtual 149, 3) := dk_182 0 149 (dk_at dksX5_courseOf_4 6 rfl rfl)
theorem dX5_courseOf_125 : decode cX5_courseOf 125 = .ok (.ireturn, 1) := dk_172 (dk_at dksX5_courseOf_4 9 rfl rfl)
abbrev cX5_dishesThat : ByteArray := prog_25_method_24_code
def dkwX5_dishesThat_2 : List UInt8 := [132, 5, 1, 167, 255, 211, 21, 4, 172]
abbrev dktX5_dishesThat_2 : List UInt8 := dkwX5_dishesThat_2 ++ []
def dkwX5_dishesThat_1 : List UInt8 := [27, 21, 5, 182, 0, 81, 28, 159, 0, 14, 42, 27, 21, 5, 182, 0, 81, 29, 160, 0, 6, 132, 4, 1]
abbrev dktX5_dishesThat_1 : List UInt8 := dkwX5_dishesThat_1 ++ dktX5_dishesThat_2
def dkwX5_dishesThat_0 : List UInt8 := [3, 54, 4, 3, 54, 5, 21, 5, 16, 6, 162, 0, 44, 42, 27, 21, 5, 182, 0, 77, 153, 0, 28, 42]
abbrev dktX5_dishesThat_0 : List UInt8 := dkwX5_dishesThat_0 ++ dktX5_dishesThat_1
theorem dksX5_dishesThat_0 : cX5_dishesThat.data.toList.drop 0 = dktX5_dishesThat_0 := by decide +kernel
theorem dksX5_dishesThat_1 : cX5_dishesThat.data.toList.drop 24 = dktX5_dishesThat_1 := dk_seg dksX5_dishesThat_0 24 rfl rfl
theorem dksX5_dishesThat_2 : cX5_dishesThat.data.toList.drop 48 = dktX5_dishesThat_2 := dk_seg dksX5_dishesThat_1 24 rfl rfl
theorem dX5_dishesThat_0 : decode cX5_dishesThat 0 = .ok (.iconst 0, 1) := dk_3 (dk_at dksX5_dishesThat_0 0 rfl rfl)
theorem dX5_dishesThat_1 : decode cX5_dishesThat 1 = .ok (.istore 4, 2) := dk_54 4 (dk_at dksX5_dishesThat_0 1 rfl rfl)
theorem dX5_dishesThat_3 : decode cX5_dishesThat 3 = .ok (.iconst 0, 1) := dk_3 (dk_at dksX5_dishesThat_0 3 rfl rfl)
theorem dX5_dishesThat_4 : decode cX5_dishesThat 4 = .ok (.istore 5, 2) := dk_54 5 (dk_at dksX5_dishesThat_0 4 rfl rfl)
theorem dX5_dishesThat_6 : decode cX5_dishesThat 6 = .ok (.iload 5, 2) := dk_21 5 (dk_at dksX5_dishesThat_0 6 rfl rfl)
theorem dX5_dishesThat_8 : decode cX5_dishesThat 8 = .ok (.bipush 6, 2) := dk_16 6 (dk_at dksX5_dishesThat_0 8 rfl rfl)
theorem dX5_dishesThat_10 : decode cX5_dishesThat 10 = .ok (.if_icmp .ge 44, 3) := dk_162 0 44 (dk_at dksX5_dishesThat_0 10 rfl rfl)
theorem dX5_dishesThat_13 : decode cX5_dishesThat 13 = .ok (.aload_n 0, 1) := dk_42 (dk_at dksX5_dishesThat_0 13 rfl rfl)
theorem dX5_dishesThat_14 : decode cX5_dishesThat 14 = .ok (.iload_n 1, 1) := dk_27 (dk_at dksX5_dishesThat_0 14 rfl rfl)
theorem dX5_dishesThat_15 : decode cX5_dishesThat 15 = .ok (.iload 5, 2) := dk_21 5 (dk_at dksX5_dishesThat_0 15 rfl rfl)
theorem dX5_dishesThat_17 : decode cX5_dishesThat 17 = .ok (.invokevirtual 77, 3) := dk_182 0 77 (dk_at dksX5_dishesThat_0 17 rfl rfl)
theorem dX5_dishesThat_20 : decode cX5_dishesThat 20 = .ok (.ifCond .eq 28, 3) := dk_153 0 28 (dk_at dksX5_dishesThat_0 20 rfl rfl)
theorem dX5_dishesThat_23 : decode cX5_dishesThat 23 = .ok (.aload_n 0, 1) := dk_42 (dk_at dksX5_dishesThat_0 23 rfl rfl)
theorem dX5_dishesThat_24 : decode cX5_dishesThat 24 = .ok (.iload_n 1, 1) := dk_27 (dk_at dksX5_dishesThat_1 0 rfl rfl)
theorem dX5_dishesThat_25 : decode cX5_dishesThat 25 = .ok (.iload 5, 2) := dk_21 5 (dk_at dksX5_dishesThat_1 1 rfl rfl)
theorem dX5_dishesThat_27 : decode cX5_dishesThat 27 = .ok (.invokevirtual 81, 3) := dk_182 0 81 (dk_at dksX5_dishesThat_1 3 rfl rfl)
theorem dX5_dishesThat_30 : decode cX5_dishesThat 30 = .ok (.iload_n 2, 1) := dk_28 (dk_at dksX5_dishesThat_1 6 rfl rfl)
theorem dX5_dishesThat_31 : decode cX5_dishesThat 31 = .ok (.if_icmp .eq 14, 3) := dk_159 0 14 (dk_at dksX5_dishesThat_1 7 rfl rfl)
theorem dX5_dishesThat_34 : decode cX5_dishesThat 34 = .ok (.aload_n 0, 1) := dk_42 (dk_at dksX5_dishesThat_1 10 rfl rfl)
theorem dX5_dishesThat_35 : decode cX5_dishesThat 35 = .ok (.iload_n 1, 1) := dk_27 (dk_at dksX5_dishesThat_1 11 rfl rfl)
theorem dX5_dishesThat_36 : decode cX5_dishesThat 36 = .ok (.iload 5, 2) := dk_21 5 (dk_at dksX5_dishesThat_1 12 rfl rfl)
theorem dX5_dishesThat_38 : decode cX5_dishesThat 38 = .ok (.invokevirtual 81, 3) := dk_182 0 81 (dk_at dksX5_dishesThat_1 14 rfl rfl)
theorem dX5_dishesThat_41 : decode cX5_dishesThat 41 = .ok (.iload_n 3, 1) := dk_29 (dk_at dksX5_dishesThat_1 17 rfl rfl)
theorem dX5_dishesThat_42 : decode cX5_dishesThat 42 = .ok (.if_icmp .ne 6, 3) := dk_160 0 6 (dk_at dksX5_dishesThat_1 18 rfl rfl)
theorem dX5_dishesThat_45 : decode cX5_dishesThat 45 = .ok (.iinc 4 1, 3) := dk_132 4 1 (dk_at dksX5_dishesThat_1 21 rfl rfl)
theorem dX5_dishesThat_48 : decode cX5_dishesThat 48 = .ok (.iinc 5 1, 3) := dk_132 5 1 (dk_at dksX5_dishesThat_2 0 rfl rfl)
theorem dX5_dishesThat_51 : decode cX5_dishesThat 51 = .ok (.goto (-45), 3) := dk_167 255 211 (dk_at dksX5_dishesThat_2 3 rfl rfl)
theorem dX5_dishesThat_54 : decode cX5_dishesThat 54 = .ok (.iload 4, 2) := dk_21 4 (dk_at dksX5_dishesThat_2 6 rfl rfl)
theorem dX5_dishesThat_56 : decode cX5_dishesThat 56 = .ok (.ireturn, 1) := dk_172 (dk_at dksX5_dishesThat_2 8 rfl rfl)
abbrev cX5_dishOf : ByteArray := prog_25_method_47_code
def dkwX5_dishOf_3 : List UInt8 := [100, 167, 0, 10, 42, 27, 28, 29, 182, 0, 73, 172]
abbrev dktX5_dishOf_3 : List UInt8 := dkwX5_dishOf_3 ++ []
def dkwX5_dishOf_2 : List UInt8 := [182, 0, 77, 154, 0, 9, 42, 6, 182, 0, 149, 172, 29, 154, 0, 15, 42, 27, 28, 3, 182, 0, 73, 4]
abbrev dktX5_dishOf_2 : List UInt8 := dkwX5_dishOf_2 ++ dktX5_dishOf_3
def dkwX5_dishOf_1 : List UInt8 := [182, 0, 149, 172, 29, 3, 6, 184, 0, 62, 154, 0, 9, 42, 5, 182, 0, 149, 172, 42, 27, 28]
abbrev dktX5_dishOf_1 : List UInt8 := dkwX5_dishOf_1 ++ dktX5_dishOf_2
def dkwX5_dishOf_0 : List UInt8 := [42, 3, 181, 0, 46, 42, 27, 182, 0, 167, 153, 0, 11, 42, 28, 182, 0, 158, 154, 0, 9, 42, 4]
abbrev dktX5_dishOf_0 : List UInt8 := dkwX5_dishOf_0 ++ dktX5_dishOf_1
theorem dksX5_dishOf_0 : cX5_dishOf.data.toList.drop 0 = dktX5_dishOf_0 := by decide +kernel
theorem dksX5_dishOf_1 : cX5_dishOf.data.toList.drop 23 = dktX5_dishOf_1 := dk_seg dksX5_dishOf_0 23 rfl rfl
theorem dksX5_dishOf_2 : cX5_dishOf.data.toList.drop 45 = dktX5_dishOf_2 := dk_seg dksX5_dishOf_1 22 rfl rfl
theorem dksX5_dishOf_3 : cX5_dishOf.data.toList.drop 69 = dktX5_dishOf_3 := dk_seg dksX5_dishOf_2 24 rfl rfl
theorem dX5_dishOf_0 : decode cX5_dishOf 0 = .ok (.aload_n 0, 1) := dk_42 (dk_at dksX5_dishOf_0 0 rfl rfl)
theorem dX5_dishOf_1 : decode cX5_dishOf 1 = .ok (.iconst 0, 1) := dk_3 (dk_at dksX5_dishOf_0 1 rfl rfl)
theorem dX5_dishOf_2 : decode cX5_dishOf 2 = .ok (.putfield 46, 3) := dk_181 0 46 (dk_at dksX5_dishOf_0 2 rfl rfl)
theorem dX5_dishOf_5 : decode cX5_dishOf 5 = .ok (.aload_n 0, 1) := dk_42 (dk_at dksX5_dishOf_0 5 rfl rfl)
theorem dX5_dishOf_6 : decode cX5_dishOf 6 = .ok (.iload_n 1, 1) := dk_27 (dk_at dksX5_dishOf_0 6 rfl rfl)
theorem dX5_dishOf_7 : decode cX5_dishOf 7 = .ok (.invokevirtual 167, 3) := dk_182 0 167 (dk_at dksX5_dishOf_0 7 rfl rfl)
theorem dX5_dishOf_10 : decode cX5_dishOf 10 = .ok (.ifCond .eq 11, 3) := dk_153 0 11 (dk_at dksX5_dishOf_0 10 rfl rfl)
theorem dX5_dishOf_13 : decode cX5_dishOf 13 = .ok (.aload_n 0, 1) := dk_42 (dk_at dksX5_dishOf_0 13 rfl rfl)
theorem dX5_dishOf_14 : decode cX5_dishOf 14 = .ok (.iload_n 2, 1) := dk_28 (dk_at dksX5_dishOf_0 14 rfl rfl)
theorem dX5_dishOf_15 : decode cX5_dishOf 15 = .ok (.invokevirtual 158, 3) := dk_182 0 158 (dk_at dksX5_dishOf_0 15 rfl rfl)
theorem dX5_dishOf_18 : decode cX5_dishOf 18 = .ok (.ifCond .ne 9, 3) := dk_154 0 9 (dk_at dksX5_dishOf_0 18 rfl rfl)
theorem dX5_dishOf_21 : decode cX5_dishOf 21 = .ok (.aload_n 0, 1) := dk_42 (dk_at dksX5_dishOf_0 21 rfl rfl)
theorem dX5_dishOf_22 : decode cX5_dishOf 22 = .ok (.iconst 1, 1) := dk_4 (dk_at dksX5_dishOf_0 22 rfl rfl)
theorem dX5_dishOf_23 : decode cX5_dishOf 23 = .ok (.invokevirtual 149, 3) := dk_182 0 149 (dk_at dksX5_dishOf_1 0 rfl rfl)
theorem dX5_dishOf_26 : decode cX5_dishOf 26 = .ok (.ireturn, 1) := dk_172 (dk_at dksX5_dishOf_1 3 rfl rfl)
theorem dX5_dishOf_27 : decode cX5_dishOf 27 = .ok (.iload_n 3, 1) := dk_29 (dk_at dksX5_dishOf_1 4 rfl rfl)
theorem dX5_dishOf_28 : decode cX5_dishOf 28 = .ok (.iconst 0, 1) := dk_3 (dk_at dksX5_dishOf_1 5 rfl rfl)
theorem dX5_dishOf_29 : decode cX5_dishOf 29 = .ok (.iconst 3, 1) := dk_6 (dk_at dksX5_dishOf_1 6 rfl rfl)
theorem dX5_dishOf_30 : decode cX5_dishOf 30 = .ok (.invokestatic 62, 3) := dk_184 0 62 (dk_at dksX5_dishOf_1 7 rfl rfl)
theorem dX5_dishOf_33 : decode cX5_dishOf 33 = .ok (.ifCond .ne 9, 3) := dk_154 0 9 (dk_at dksX5_dishOf_1 10 rfl rfl)
theorem dX5_dishOf_36 : decode cX5_dishOf 36 = .ok (.aload_n 0, 1) := dk_42 (dk_at dksX5_dishOf_1 13 rfl rfl)
theorem dX5_dishOf_37 : decode cX5_dishOf 37 = .ok (.iconst 2, 1) := dk_5 (dk_at dksX5_dishOf_1 14 rfl rfl)
theorem dX5_dishOf_38 : decode cX5_dishOf 38 = .ok (.invokevirtual 149, 3) := dk_182 0 149 (dk_at dksX5_dishOf_1 15 rfl rfl)
theorem dX5_dishOf_41 : decode cX5_dishOf 41 = .ok (.ireturn, 1) := dk_172 (dk_at dksX5_dishOf_1 18 rfl rfl)
theorem dX5_dishOf_42 : decode cX5_dishOf 42 = .ok (.aload_n 0, 1) := dk_42 (dk_at dksX5_dishOf_1 19 rfl rfl)
theorem dX5_dishOf_43 : decode cX5_dishOf 43 = .ok (.iload_n 1, 1) := dk_27 (dk_at dksX5_dishOf_1 20 rfl rfl)
theorem dX5_dishOf_44 : decode cX5_dishOf 44 = .ok (.iload_n 2, 1) := dk_28 (dk_at dksX5_dishOf_1 21 rfl rfl)
theorem dX5_dishOf_45 : decode cX5_dishOf 45 = .ok (.invokevirtual 77, 3) := dk_182 0 77 (dk_at dksX5_dishOf_2 0 rfl rfl)
theorem dX5_dishOf_48 : decode cX5_dishOf 48 = .ok (.ifCond .ne 9, 3) := dk_154 0 9 (dk_at dksX5_dishOf_2 3 rfl rfl)
theorem dX5_dishOf_51 : decode cX5_dishOf 51 = .ok (.aload_n 0, 1) := dk_42 (dk_at dksX5_dishOf_2 6 rfl rfl)
theorem dX5_dishOf_52 : decode cX5_dishOf 52 = .ok (.iconst 3, 1) := dk_6 (dk_at dksX5_dishOf_2 7 rfl rfl)
theorem dX5_dishOf_53 : decode cX5_dishOf 53 = .ok (.invokevirtual 149, 3) := dk_182 0 149 (dk_at dksX5_dishOf_2 8 rfl rfl)
theorem dX5_dishOf_56 : decode cX5_dishOf 56 = .ok (.ireturn, 1) := dk_172 (dk_at dksX5_dishOf_2 11 rfl rfl)
theorem dX5_dishOf_57 : decode cX5_dishOf 57 = .ok (.iload_n 3, 1) := dk_29 (dk_at dksX5_dishOf_2 12 rfl rfl)
theorem dX5_dishOf_58 : decode cX5_dishOf 58 = .ok (.ifCond .ne 15, 3) := dk_154 0 15 (dk_at dksX5_dishOf_2 13 rfl rfl)
theorem dX5_dishOf_61 : decode cX5_dishOf 61 = .ok (.aload_n 0, 1) := dk_42 (dk_at dksX5_dishOf_2 16 rfl rfl)
theorem dX5_dishOf_62 : decode cX5_dishOf 62 = .ok (.iload_n 1, 1) := dk_27 (dk_at dksX5_dishOf_2 17 rfl rfl)
theorem dX5_dishOf_63 : decode cX5_dishOf 63 = .ok (.iload_n 2, 1) := dk_28 (dk_at dksX5_dishOf_2 18 rfl rfl)
theorem dX5_dishOf_64 : decode cX5_dishOf 64 = .ok (.iconst 0, 1) := dk_3 (dk_at dksX5_dishOf_2 19 rfl rfl)
theorem dX5_dishOf_65 : decode cX5_dishOf 65 = .ok (.invokevirtual 73, 3) := dk_182 0 73 (dk_at dksX5_dishOf_2 20 rfl rfl)
theorem dX5_dishOf_68 : decode cX5_dishOf 68 = .ok (.iconst 1, 1) := dk_4 (dk_at dksX5_dishOf_2 23 rfl rfl)
theorem dX5_dishOf_69 : decode cX5_dishOf 69 = .ok (.isub, 1) := dk_100 (dk_at dksX5_dishOf_3 0 rfl rfl)
theorem dX5_dishOf_70 : decode cX5_dishOf 70 = .ok (.goto 10, 3) := dk_167 0 10 (dk_at dksX5_dishOf_3 1 rfl rfl)
theorem dX5_dishOf_73 : decode cX5_dishOf 73 = .ok (.aload_n 0, 1) := dk_42 (dk_at dksX5_dishOf_3 4 rfl rfl)
theorem dX5_dishOf_74 : decode cX5_dishOf 74 = .ok (.iload_n 1, 1) := dk_27 (dk_at dksX5_dishOf_3 5 rfl rfl)
theorem dX5_dishOf_75 : decode cX5_dishOf 75 = .ok (.iload_n 2, 1) := dk_28 (dk_at dksX5_dishOf_3 6 rfl rfl)
theorem dX5_dishOf_76 : decode cX5_dishOf 76 = .ok (.iload_n 3, 1) := dk_29 (dk_at dksX5_dishOf_3 7 rfl rfl)
theorem dX5_dishOf_77 : decode cX5_dishOf 77 = .ok (.invokevirtual 73, 3) := dk_182 0 73 (dk_at dksX5_dishOf_3 8 rfl rfl)
theorem dX5_dishOf_80 : decode cX5_dishOf 80 = .ok (.ireturn, 1) := dk_172 (dk_at dksX5_dishOf_3 11 rfl rfl)
abbrev cX5_has : ByteArray := prog_25_method_48_code
def dkwX5_has_2 : List UInt8 := [167, 0, 11, 42, 27, 6, 28, 96, 182, 0, 66, 172]
abbrev dktX5_has_2 : List UInt8 := dkwX5_has_2 ++ []
def dkwX5_has_1 : List UInt8 := [184, 0, 62, 154, 0, 9, 42, 5, 182, 0, 149, 172, 29, 153, 0, 12, 42, 27, 28, 182, 0, 121]
abbrev dktX5_has_1 : List UInt8 := dkwX5_has_1 ++ dktX5_has_2
def dkwX5_has_0 : List UInt8 := [42, 3, 181, 0, 46, 42, 27, 182, 0, 158, 154, 0, 9, 42, 4, 182, 0, 149, 172, 28, 3, 6]
abbrev dktX5_has_0 : List UInt8 := dkwX5_has_0 ++ dktX5_has_1
theorem dksX5_has_0 : cX5_has.data.toList.drop 0 = dktX5_has_0 := by decide +kernel
theorem dksX5_has_1 : cX5_has.data.toList.drop 22 = dktX5_has_1 := dk_seg dksX5_has_0 22 rfl rfl
theorem dksX5_has_2 : cX5_has.data.toList.drop 44 = dktX5_has_2 := dk_seg dksX5_has_1 22 rfl rfl
theorem dX5_has_0 : decode cX5_has 0 = .ok (.aload_n 0, 1) := dk_42 (dk_at dksX5_has_0 0 rfl rfl)
theorem dX5_has_1 : decode cX5_has 1 = .ok (.iconst 0, 1) := dk_3 (dk_at dksX5_has_0 1 rfl rfl)
theorem dX5_has_2 : decode cX5_has 2 = .ok (.putfield 46, 3) := dk_181 0 46 (dk_at dksX5_has_0 2 rfl rfl)
theorem dX5_has_5 : decode cX5_has 5 = .ok (.aload_n 0, 1) := dk_42 (dk_at dksX5_has_0 5 rfl rfl)
theorem dX5_has_6 : decode cX5_has 6 = .ok (.iload_n 1, 1) := dk_27 (dk_at dksX5_has_0 6 rfl rfl)
theorem dX5_has_7 : decode cX5_has 7 = .ok (.invokevirtual 158, 3) := dk_182 0 158 (dk_at dksX5_has_0 7 rfl rfl)
theorem dX5_has_10 : decode cX5_has 10 = .ok (.ifCond .ne 9, 3) := dk_154 0 9 (dk_at dksX5_has_0 10 rfl rfl)
theorem dX5_has_13 : decode cX5_has 13 = .ok (.aload_n 0, 1) := dk_42 (dk_at dksX5_has_0 13 rfl rfl)
theorem dX5_has_14 : decode cX5_has 14 = .ok (.iconst 1, 1) := dk_4 (dk_at dksX5_has_0 14 rfl rfl)
theorem dX5_has_15 : decode cX5_has 15 = .ok (.invokevirtual 149, 3) := dk_182 0 149 (dk_at dksX5_has_0 15 rfl rfl)
theorem dX5_has_18 : decode cX5_has 18 = .ok (.ireturn, 1) := dk_172 (dk_at dksX5_has_0 18 rfl rfl)
theorem dX5_has_19 : decode cX5_has 19 = .ok (.iload_n 2, 1) := dk_28 (dk_at dksX5_has_0 19 rfl rfl)
theorem dX5_has_20 : decode cX5_has 20 = .ok (.iconst 0, 1) := dk_3 (dk_at dksX5_has_0 20 rfl rfl)
theorem dX5_has_21 : decode cX5_has 21 = .ok (.iconst 3, 1) := dk_6 (dk_at dksX5_has_0 21 rfl rfl)
theorem dX5_has_22 : decode cX5_has 22 = .ok (.invokestatic 62, 3) := dk_184 0 62 (dk_at dksX5_has_1 0 rfl rfl)
theorem dX5_has_25 : decode cX5_has 25 = .ok (.ifCond .ne 9, 3) := dk_154 0 9 (dk_at dksX5_has_1 3 rfl rfl)
theorem dX5_has_28 : decode cX5_has 28 = .ok (.aload_n 0, 1) := dk_42 (dk_at dksX5_has_1 6 rfl rfl)
theorem dX5_has_29 : decode cX5_has 29 = .ok (.iconst 2, 1) := dk_5 (dk_at dksX5_has_1 7 rfl rfl)
theorem dX5_has_30 : decode cX5_has 30 = .ok (.invokevirtual 149, 3) := dk_182 0 149 (dk_at dksX5_has_1 8 rfl rfl)
theorem dX5_has_33 : decode cX5_has 33 = .ok (.ireturn, 1) := dk_172 (dk_at dksX5_has_1 11 rfl rfl)
theorem dX5_has_34 : decode cX5_has 34 = .ok (.iload_n 3, 1) := dk_29 (dk_at dksX5_has_1 12 rfl rfl)
theorem dX5_has_35 : decode cX5_has 35 = .ok (.ifCond .eq 12, 3) := dk_153 0 12 (dk_at dksX5_has_1 13 rfl rfl)
theorem dX5_has_38 : decode cX5_has 38 = .ok (.aload_n 0, 1) := dk_42 (dk_at dksX5_has_1 16 rfl rfl)
theorem dX5_has_39 : decode cX5_has 39 = .ok (.iload_n 1, 1) := dk_27 (dk_at dksX5_has_1 17 rfl rfl)
theorem dX5_has_40 : decode cX5_has 40 = .ok (.iload_n 2, 1) := dk_28 (dk_at dksX5_has_1 18 rfl rfl)
theorem dX5_has_41 : decode cX5_has 41 = .ok (.invokevirtual 121, 3) := dk_182 0 121 (dk_at dksX5_has_1 19 rfl rfl)
theorem dX5_has_44 : decode cX5_has 44 = .ok (.goto 11, 3) := dk_167 0 11 (dk_at dksX5_has_2 0 rfl rfl)
theorem dX5_has_47 : decode cX5_has 47 = .ok (.aload_n 0, 1) := dk_42 (dk_at dksX5_has_2 3 rfl rfl)
theorem dX5_has_48 : decode cX5_has 48 = .ok (.iload_n 1, 1) := dk_27 (dk_at dksX5_has_2 4 rfl rfl)
theorem dX5_has_49 : decode cX5_has 49 = .ok (.iconst 3, 1) := dk_6 (dk_at dksX5_has_2 5 rfl rfl)
theorem dX5_has_50 : decode cX5_has 50 = .ok (.iload_n 2, 1) := dk_28 (dk_at dksX5_has_2 6 rfl rfl)
theorem dX5_has_51 : decode cX5_has 51 = .ok (.iadd, 1) := dk_96 (dk_at dksX5_has_2 7 rfl rfl)
theorem dX5_has_52 : decode cX5_has 52 = .ok (.invokevirtual 66, 3) := dk_182 0 66 (dk_at dksX5_has_2 8 rfl rfl)
theorem dX5_has_55 : decode cX5_has 55 = .ok (.ireturn, 1) := dk_172 (dk_at dksX5_has_2 11 rfl rfl)
abbrev cX5_free : ByteArray := prog_25_method_32_code
def dkwX5_free_3 : List UInt8 := [167, 255, 196, 29, 172]
abbrev dktX5_free_3 : List UInt8 := dkwX5_free_3 ++ []
def dkwX5_free_2 : List UInt8 := [3, 182, 0, 73, 28, 4, 96, 160, 0, 14, 29, 42, 21, 4, 27, 4, 182, 0, 73, 100, 62, 132, 4, 1]
abbrev dktX5_free_2 : List UInt8 := dkwX5_free_2 ++ dktX5_free_3
def dkwX5_free_1 : List UInt8 := [21, 4, 27, 182, 0, 77, 153, 0, 39, 42, 21, 4, 27, 182, 0, 81, 4, 160, 0, 28, 42, 21, 4, 27]
abbrev dktX5_free_1 : List UInt8 := dkwX5_free_1 ++ dktX5_free_2
def dkwX5_free_0 : List UInt8 := [42, 27, 6, 28, 96, 182, 0, 66, 62, 3, 54, 4, 21, 4, 42, 180, 0, 9, 5, 46, 162, 0, 55, 42]
abbrev dktX5_free_0 : List UInt8 := dkwX5_free_0 ++ dktX5_free_1
theorem dksX5_free_0 : cX5_free.data.toList.drop 0 = dktX5_free_0 := by decide +kernel
theorem dksX5_free_1 : cX5_free.data.toList.drop 24 = dktX5_free_1 := dk_seg dksX5_free_0 24 rfl rfl
theorem dksX5_free_2 : cX5_free.data.toList.drop 48 = dktX5_free_2 := dk_seg dksX5_free_1 24 rfl rfl
theorem dksX5_free_3 : cX5_free.data.toList.drop 72 = dktX5_free_3 := dk_seg dksX5_free_2 24 rfl rfl
theorem dX5_free_0 : decode cX5_free 0 = .ok (.aload_n 0, 1) := dk_42 (dk_at dksX5_free_0 0 rfl rfl)
theorem dX5_free_1 : decode cX5_free 1 = .ok (.iload_n 1, 1) := dk_27 (dk_at dksX5_free_0 1 rfl rfl)
theorem dX5_free_2 : decode cX5_free 2 = .ok (.iconst 3, 1) := dk_6 (dk_at dksX5_free_0 2 rfl rfl)
theorem dX5_free_3 : decode cX5_free 3 = .ok (.iload_n 2, 1) := dk_28 (dk_at dksX5_free_0 3 rfl rfl)
theorem dX5_free_4 : decode cX5_free 4 = .ok (.iadd, 1) := dk_96 (dk_at dksX5_free_0 4 rfl rfl)
theorem dX5_free_5 : decode cX5_free 5 = .ok (.invokevirtual 66, 3) := dk_182 0 66 (dk_at dksX5_free_0 5 rfl rfl)
theorem dX5_free_8 : decode cX5_free 8 = .ok (.istore_n 3, 1) := dk_62 (dk_at dksX5_free_0 8 rfl rfl)
theorem dX5_free_9 : decode cX5_free 9 = .ok (.iconst 0, 1) := dk_3 (dk_at dksX5_free_0 9 rfl rfl)
theorem dX5_free_10 : decode cX5_free 10 = .ok (.istore 4, 2) := dk_54 4 (dk_at dksX5_free_0 10 rfl rfl)
theorem dX5_free_12 : decode cX5_free 12 = .ok (.iload 4, 2) := dk_21 4 (dk_at dksX5_free_0 12 rfl rfl)
theorem dX5_free_14 : decode cX5_free 14 = .ok (.aload_n 0, 1) := dk_42 (dk_at dksX5_free_0 14 rfl rfl)
theorem dX5_free_15 : decode cX5_free 15 = .ok (.getfield 9, 3) := dk_180 0 9 (dk_at dksX5_free_0 15 rfl rfl)
theorem dX5_free_18 : decode cX5_free 18 = .ok (.iconst 2, 1) := dk_5 (dk_at dksX5_free_0 18 rfl rfl)
theorem dX5_free_19 : decode cX5_free 19 = .ok (.iaload, 1) := dk_46 (dk_at dksX5_free_0 19 rfl rfl)
theorem dX5_free_20 : decode cX5_free 20 = .ok (.if_icmp .ge 55, 3) := dk_162 0 55 (dk_at dksX5_free_0 20 rfl rfl)
theorem dX5_free_23 : decode cX5_free 23 = .ok (.aload_n 0, 1) := dk_42 (dk_at dksX5_free_0 23 rfl rfl)
theorem dX5_free_24 : decode cX5_free 24 = .ok (.iload 4, 2) := dk_21 4 (dk_at dksX5_free_1 0 rfl rfl)
theorem dX5_free_26 : decode cX5_free 26 = .ok (.iload_n 1, 1) := dk_27 (dk_at dksX5_free_1 2 rfl rfl)
theorem dX5_free_27 : decode cX5_free 27 = .ok (.invokevirtual 77, 3) := dk_182 0 77 (dk_at dksX5_free_1 3 rfl rfl)
theorem dX5_free_30 : decode cX5_free 30 = .ok (.ifCond .eq 39, 3) := dk_153 0 39 (dk_at dksX5_free_1 6 rfl rfl)
theorem dX5_free_33 : decode cX5_free 33 = .ok (.aload_n 0, 1) := dk_42 (dk_at dksX5_free_1 9 rfl rfl)
theorem dX5_free_34 : decode cX5_free 34 = .ok (.iload 4, 2) := dk_21 4 (dk_at dksX5_free_1 10 rfl rfl)
theorem dX5_free_36 : decode cX5_free 36 = .ok (.iload_n 1, 1) := dk_27 (dk_at dksX5_free_1 12 rfl rfl)
theorem dX5_free_37 : decode cX5_free 37 = .ok (.invokevirtual 81, 3) := dk_182 0 81 (dk_at dksX5_free_1 13 rfl rfl)
theorem dX5_free_40 : decode cX5_free 40 = .ok (.iconst 1, 1) := dk_4 (dk_at dksX5_free_1 16 rfl rfl)
theorem dX5_free_41 : decode cX5_free 41 = .ok (.if_icmp .ne 28, 3) := dk_160 0 28 (dk_at dksX5_free_1 17 rfl rfl)
theorem dX5_free_44 : decode cX5_free 44 = .ok (.aload_n 0, 1) := dk_42 (dk_at dksX5_free_1 20 rfl rfl)
theorem dX5_free_45 : decode cX5_free 45 = .ok (.iload 4, 2) := dk_21 4 (dk_at dksX5_free_1 21 rfl rfl)
theorem dX5_free_47 : decode cX5_free 47 = .ok (.iload_n 1, 1) := dk_27 (dk_at dksX5_free_1 23 rfl rfl)
theorem dX5_free_48 : decode cX5_free 48 = .ok (.iconst 0, 1) := dk_3 (dk_at dksX5_free_2 0 rfl rfl)
theorem dX5_free_49 : decode cX5_free 49 = .ok (.invokevirtual 73, 3) := dk_182 0 73 (dk_at dksX5_free_2 1 rfl rfl)
theorem dX5_free_52 : decode cX5_free 52 = .ok (.iload_n 2, 1) := dk_28 (dk_at dksX5_free_2 4 rfl rfl)
theorem dX5_free_53 : decode cX5_free 53 = .ok (.iconst 1, 1) := dk_4 (dk_at dksX5_free_2 5 rfl rfl)
theorem dX5_free_54 : decode cX5_free 54 = .ok (.iadd, 1) := dk_96 (dk_at dksX5_free_2 6 rfl rfl)
theorem dX5_free_55 : decode cX5_free 55 = .ok (.if_icmp .ne 14, 3) := dk_160 0 14 (dk_at dksX5_free_2 7 rfl rfl)
theorem dX5_free_58 : decode cX5_free 58 = .ok (.iload_n 3, 1) := dk_29 (dk_at dksX5_free_2 10 rfl rfl)
theorem dX5_free_59 : decode cX5_free 59 = .ok (.aload_n 0, 1) := dk_42 (dk_at dksX5_free_2 11 rfl rfl)
theorem dX5_free_60 : decode cX5_free 60 = .ok (.iload 4, 2) := dk_21 4 (dk_at dksX5_free_2 12 rfl rfl)
theorem dX5_free_62 : decode cX5_free 62 = .ok (.iload_n 1, 1) := dk_27 (dk_at dksX5_free_2 14 rfl rfl)
theorem dX5_free_63 : decode cX5_free 63 = .ok (.iconst 1, 1) := dk_4 (dk_at dksX5_free_2 15 rfl rfl)
theorem dX5_free_64 : decode cX5_free 64 = .ok (.invokevirtual 73, 3) := dk_182 0 73 (dk_at dksX5_free_2 16 rfl rfl)
theorem dX5_free_67 : decode cX5_free 67 = .ok (.isub, 1) := dk_100 (dk_at dksX5_free_2 19 rfl rfl)
theorem dX5_free_68 : decode cX5_free 68 = .ok (.istore_n 3, 1) := dk_62 (dk_at dksX5_free_2 20 rfl rfl)
theorem dX5_free_69 : decode cX5_free 69 = .ok (.iinc 4 1, 3) := dk_132 4 1 (dk_at dksX5_free_2 21 rfl rfl)
theorem dX5_free_72 : decode cX5_free 72 = .ok (.goto (-60), 3) := dk_167 255 196 (dk_at dksX5_free_3 0 rfl rfl)
theorem dX5_free_75 : decode cX5_free 75 = .ok (.iload_n 3, 1) := dk_29 (dk_at dksX5_free_3 3 rfl rfl)
theorem dX5_free_76 : decode cX5_free 76 = .ok (.ireturn, 1) := dk_172 (dk_at dksX5_free_3 4 rfl rfl)
abbrev cX5_freeAgain : ByteArray := prog_25_method_49_code
def dkwX5_freeAgain_0 : List UInt8 := [42, 27, 28, 4, 182, 0, 173, 172]
abbrev dktX5_freeAgain_0 : List UInt8 := dkwX5_freeAgain_0 ++ []
theorem dksX5_freeAgain_0 : cX5_freeAgain.data.toList.drop 0 = dktX5_freeAgain_0 := by decide +kernel
theorem dX5_freeAgain_0 : decode cX5_freeAgain 0 = .ok (.aload_n 0, 1) := dk_42 (dk_at dksX5_freeAgain_0 0 rfl rfl)
theorem dX5_freeAgain_1 : decode cX5_freeAgain 1 = .ok (.iload_n 1, 1) := dk_27 (dk_at dksX5_freeAgain_0 1 rfl rfl)
theorem dX5_freeAgain_2 : decode cX5_freeAgain 2 = .ok (.iload_n 2, 1) := dk_28 (dk_at dksX5_freeAgain_0 2 rfl rfl)
theorem dX5_freeAgain_3 : decode cX5_freeAgain 3 = .ok (.iconst 1, 1) := dk_4 (dk_at dksX5_freeAgain_0 3 rfl rfl)
theorem dX5_freeAgain_4 : decode cX5_freeAgain 4 = .ok (.invokevirtual 173, 3) := dk_182 0 173 (dk_at dksX5_freeAgain_0 4 rfl rfl)
theorem dX5_freeAgain_7 : decode cX5_freeAgain 7 = .ok (.ireturn, 1) := dk_172 (dk_at dksX5_freeAgain_0 7 rfl rfl)
abbrev cX5_ask : ByteArray := prog_25_method_52_code
def dkwX5_ask_0 : List UInt8 := [42, 182, 0, 146, 42, 42, 27, 182, 0, 180, 182, 0, 183, 172]
abbrev dktX5_ask_0 : List UInt8 := dkwX5_ask_0 ++ []
theorem dksX5_ask_0 : cX5_ask.data.toList.drop 0 = dktX5_ask_0 := by decide +kernel
theorem dX5_ask_0 : decode cX5_ask 0 = .ok (.aload_n 0, 1) := dk_42 (dk_at dksX5_ask_0 0 rfl rfl)
theorem dX5_ask_1 : decode cX5_ask 1 = .ok (.invokevirtual 146, 3) := dk_182 0 146 (dk_at dksX5_ask_0 1 rfl rfl)
theorem dX5_ask_4 : decode cX5_ask 4 = .ok (.aload_n 0, 1) := dk_42 (dk_at dksX5_ask_0 4 rfl rfl)
theorem dX5_ask_5 : decode cX5_ask 5 = .ok (.aload_n 0, 1) := dk_42 (dk_at dksX5_ask_0 5 rfl rfl)
theorem dX5_ask_6 : decode cX5_ask 6 = .ok (.iload_n 1, 1) := dk_27 (dk_at dksX5_ask_0 6 rfl rfl)
theorem dX5_ask_7 : decode cX5_ask 7 = .ok (.invokevirtual 180, 3) := dk_182 0 180 (dk_at dksX5_ask_0 7 rfl rfl)
theorem dX5_ask_10 : decode cX5_ask 10 = .ok (.invokevirtual 183, 3) := dk_182 0 183 (dk_at dksX5_ask_0 10 rfl rfl)
theorem dX5_ask_13 : decode cX5_ask 13 = .ok (.ireturn, 1) := dk_172 (dk_at dksX5_ask_0 13 rfl rfl)
abbrev cX5_asks : ByteArray := prog_25_method_50_code
def dkwX5_asks_4 : List UInt8 := [182, 0, 111, 42, 42, 180, 0, 88, 182, 0, 177, 172]
abbrev dktX5_asks_4 : List UInt8 := dkwX5_asks_4 ++ []
def dkwX5_asks_3 : List UInt8 := [42, 180, 0, 9, 3, 46, 182, 0, 95, 42, 2, 3, 27, 182, 0, 98, 42, 3, 181, 0, 88, 42, 3, 27]
abbrev dktX5_asks_3 : List UInt8 := dkwX5_asks_3 ++ dktX5_asks_4
def dkwX5_asks_2 : List UInt8 := [27, 182, 0, 137, 154, 0, 10, 42, 8, 27, 182, 0, 152, 172, 42, 27, 3, 4, 182, 0, 95, 42, 27, 4]
abbrev dktX5_asks_2 : List UInt8 := dkwX5_asks_2 ++ dktX5_asks_3
def dkwX5_asks_1 : List UInt8 := [182, 0, 152, 172, 42, 27, 182, 0, 84, 153, 0, 14, 42, 6, 42, 27, 182, 0, 84, 182, 0, 152, 172, 42]
abbrev dktX5_asks_1 : List UInt8 := dkwX5_asks_1 ++ dktX5_asks_2
def dkwX5_asks_0 : List UInt8 := [42, 27, 182, 0, 167, 154, 0, 5, 4, 172, 42, 2, 182, 0, 124, 153, 0, 11, 42, 16, 6, 2]
abbrev dktX5_asks_0 : List UInt8 := dkwX5_asks_0 ++ dktX5_asks_1
theorem dksX5_asks_0 : cX5_asks.data.toList.drop 0 = dktX5_asks_0 := by decide +kernel
theorem dksX5_asks_1 : cX5_asks.data.toList.drop 22 = dktX5_asks_1 := dk_seg dksX5_asks_0 22 rfl rfl
theorem dksX5_asks_2 : cX5_asks.data.toList.drop 46 = dktX5_asks_2 := dk_seg dksX5_asks_1 24 rfl rfl
theorem dksX5_asks_3 : cX5_asks.data.toList.drop 70 = dktX5_asks_3 := dk_seg dksX5_asks_2 24 rfl rfl
theorem dksX5_asks_4 : cX5_asks.data.toList.drop 94 = dktX5_asks_4 := dk_seg dksX5_asks_3 24 rfl rfl
theorem dX5_asks_0 : decode cX5_asks 0 = .ok (.aload_n 0, 1) := dk_42 (dk_at dksX5_asks_0 0 rfl rfl)
theorem dX5_asks_1 : decode cX5_asks 1 = .ok (.iload_n 1, 1) := dk_27 (dk_at dksX5_asks_0 1 rfl rfl)
theorem dX5_asks_2 : decode cX5_asks 2 = .ok (.invokevirtual 167, 3) := dk_182 0 167 (dk_at dksX5_asks_0 2 rfl rfl)
theorem dX5_asks_5 : decode cX5_asks 5 = .ok (.ifCond .ne 5, 3) := dk_154 0 5 (dk_at dksX5_asks_0 5 rfl rfl)
theorem dX5_asks_8 : decode cX5_asks 8 = .ok (.iconst 1, 1) := dk_4 (dk_at dksX5_asks_0 8 rfl rfl)
theorem dX5_asks_9 : decode cX5_asks 9 = .ok (.ireturn, 1) := dk_172 (dk_at dksX5_asks_0 9 rfl rfl)
theorem dX5_asks_10 : decode cX5_asks 10 = .ok (.aload_n 0, 1) := dk_42 (dk_at dksX5_asks_0 10 rfl rfl)
theorem dX5_asks_11 : decode cX5_asks 11 = .ok (.iconst (-1), 1) := dk_2 (dk_at dksX5_asks_0 11 rfl rfl)
theorem dX5_asks_12 : decode cX5_asks 12 = .ok (.invokevirtual 124, 3) := dk_182 0 124 (dk_at dksX5_asks_0 12 rfl rfl)
theorem dX5_asks_15 : decode cX5_asks 15 = .ok (.ifCond .eq 11, 3) := dk_153 0 11 (dk_at dksX5_asks_0 15 rfl rfl)
theorem dX5_asks_18 : decode cX5_asks 18 = .ok (.aload_n 0, 1) := dk_42 (dk_at dksX5_asks_0 18 rfl rfl)
theorem dX5_asks_19 : decode cX5_asks 19 = .ok (.bipush 6, 2) := dk_16 6 (dk_at dksX5_asks_0 19 rfl rfl)
theorem dX5_asks_21 : decode cX5_asks 21 = .ok (.iconst (-1), 1) := dk_2 (dk_at dksX5_asks_0 21 rfl rfl)
theorem dX5_asks_22 : decode cX5_asks 22 = .ok (.invokevirtual 152, 3) := dk_182 0 152 (dk_at dksX5_asks_1 0 rfl rfl)
theorem dX5_asks_25 : decode cX5_asks 25 = .ok (.ireturn, 1) := dk_172 (dk_at dksX5_asks_1 3 rfl rfl)
theorem dX5_asks_26 : decode cX5_asks 26 = .ok (.aload_n 0, 1) := dk_42 (dk_at dksX5_asks_1 4 rfl rfl)
theorem dX5_asks_27 : decode cX5_asks 27 = .ok (.iload_n 1, 1) := dk_27 (dk_at dksX5_asks_1 5 rfl rfl)
theorem dX5_asks_28 : decode cX5_asks 28 = .ok (.invokevirtual 84, 3) := dk_182 0 84 (dk_at dksX5_asks_1 6 rfl rfl)
theorem dX5_asks_31 : decode cX5_asks 31 = .ok (.ifCond .eq 14, 3) := dk_153 0 14 (dk_at dksX5_asks_1 9 rfl rfl)
theorem dX5_asks_34 : decode cX5_asks 34 = .ok (.aload_n 0, 1) := dk_42 (dk_at dksX5_asks_1 12 rfl rfl)
theorem dX5_asks_35 : decode cX5_asks 35 = .ok (.iconst 3, 1) := dk_6 (dk_at dksX5_asks_1 13 rfl rfl)
theorem dX5_asks_36 : decode cX5_asks 36 = .ok (.aload_n 0, 1) := dk_42 (dk_at dksX5_asks_1 14 rfl rfl)
theorem dX5_asks_37 : decode cX5_asks 37 = .ok (.iload_n 1, 1) := dk_27 (dk_at dksX5_asks_1 15 rfl rfl)
theorem dX5_asks_38 : decode cX5_asks 38 = .ok (.invokevirtual 84, 3) := dk_182 0 84 (dk_at dksX5_asks_1 16 rfl rfl)
theorem dX5_asks_41 : decode cX5_asks 41 = .ok (.invokevirtual 152, 3) := dk_182 0 152 (dk_at dksX5_asks_1 19 rfl rfl)
theorem dX5_asks_44 : decode cX5_asks 44 = .ok (.ireturn, 1) := dk_172 (dk_at dksX5_asks_1 22 rfl rfl)
theorem dX5_asks_45 : decode cX5_asks 45 = .ok (.aload_n 0, 1) := dk_42 (dk_at dksX5_asks_1 23 rfl rfl)
theorem dX5_asks_46 : decode cX5_asks 46 = .ok (.iload_n 1, 1) := dk_27 (dk_at dksX5_asks_2 0 rfl rfl)
theorem dX5_asks_47 : decode cX5_asks 47 = .ok (.invokevirtual 137, 3) := dk_182 0 137 (dk_at dksX5_asks_2 1 rfl rfl)
theorem dX5_asks_50 : decode cX5_asks 50 = .ok (.ifCond .ne 10, 3) := dk_154 0 10 (dk_at dksX5_asks_2 4 rfl rfl)
theorem dX5_asks_53 : decode cX5_asks 53 = .ok (.aload_n 0, 1) := dk_42 (dk_at dksX5_asks_2 7 rfl rfl)
theorem dX5_asks_54 : decode cX5_asks 54 = .ok (.iconst 5, 1) := dk_8 (dk_at dksX5_asks_2 8 rfl rfl)
theorem dX5_asks_55 : decode cX5_asks 55 = .ok (.iload_n 1, 1) := dk_27 (dk_at dksX5_asks_2 9 rfl rfl)
theorem dX5_asks_56 : decode cX5_asks 56 = .ok (.invokevirtual 152, 3) := dk_182 0 152 (dk_at dksX5_asks_2 10 rfl rfl)
theorem dX5_asks_59 : decode cX5_asks 59 = .ok (.ireturn, 1) := dk_172 (dk_at dksX5_asks_2 13 rfl rfl)
theorem dX5_asks_60 : decode cX5_asks 60 = .ok (.aload_n 0, 1) := dk_42 (dk_at dksX5_asks_2 14 rfl rfl)
theorem dX5_asks_61 : decode cX5_asks 61 = .ok (.iload_n 1, 1) := dk_27 (dk_at dksX5_asks_2 15 rfl rfl)
theorem dX5_asks_62 : decode cX5_asks 62 = .ok (.iconst 0, 1) := dk_3 (dk_at dksX5_asks_2 16 rfl rfl)
theorem dX5_asks_63 : decode cX5_asks 63 = .ok (.iconst 1, 1) := dk_4 (dk_at dksX5_asks_2 17 rfl rfl)
theorem dX5_asks_64 : decode cX5_asks 64 = .ok (.invokevirtual 95, 3) := dk_182 0 95 (dk_at dksX5_asks_2 18 rfl rfl)
theorem dX5_asks_67 : decode cX5_asks 67 = .ok (.aload_n 0, 1) := dk_42 (dk_at dksX5_asks_2 21 rfl rfl)
theorem dX5_asks_68 : decode cX5_asks 68 = .ok (.iload_n 1, 1) := dk_27 (dk_at dksX5_asks_2 22 rfl rfl)
theorem dX5_asks_69 : decode cX5_asks 69 = .ok (.iconst 1, 1) := dk_4 (dk_at dksX5_asks_2 23 rfl rfl)
theorem dX5_asks_70 : decode cX5_asks 70 = .ok (.aload_n 0, 1) := dk_42 (dk_at dksX5_asks_3 0 rfl rfl)
theorem dX5_asks_71 : decode cX5_asks 71 = .ok (.getfield 9, 3) := dk_180 0 9 (dk_at dksX5_asks_3 1 rfl rfl)
theorem dX5_asks_74 : decode cX5_asks 74 = .ok (.iconst 0, 1) := dk_3 (dk_at dksX5_asks_3 4 rfl rfl)
theorem dX5_asks_75 : decode cX5_asks 75 = .ok (.iaload, 1) := dk_46 (dk_at dksX5_asks_3 5 rfl rfl)
theorem dX5_asks_76 : decode cX5_asks 76 = .ok (.invokevirtual 95, 3) := dk_182 0 95 (dk_at dksX5_asks_3 6 rfl rfl)
theorem dX5_asks_79 : decode cX5_asks 79 = .ok (.aload_n 0, 1) := dk_42 (dk_at dksX5_asks_3 9 rfl rfl)
theorem dX5_asks_80 : decode cX5_asks 80 = .ok (.iconst (-1), 1) := dk_2 (dk_at dksX5_asks_3 10 rfl rfl)
theorem dX5_asks_81 : decode cX5_asks 81 = .ok (.iconst 0, 1) := dk_3 (dk_at dksX5_asks_3 11 rfl rfl)
theorem dX5_asks_82 : decode cX5_asks 82 = .ok (.iload_n 1, 1) := dk_27 (dk_at dksX5_asks_3 12 rfl rfl)
theorem dX5_asks_83 : decode cX5_asks 83 = .ok (.invokevirtual 98, 3) := dk_182 0 98 (dk_at dksX5_asks_3 13 rfl rfl)
theorem dX5_asks_86 : decode cX5_asks 86 = .ok (.aload_n 0, 1) := dk_42 (dk_at dksX5_asks_3 16 rfl rfl)
theorem dX5_asks_87 : decode cX5_asks 87 = .ok (.iconst 0, 1) := dk_3 (dk_at dksX5_asks_3 17 rfl rfl)
theorem dX5_asks_88 : decode cX5_asks 88 = .ok (.putfield 88, 3) := dk_181 0 88 (dk_at dksX5_asks_3 18 rfl rfl)
theorem dX5_asks_91 : decode cX5_asks 91 = .ok (.aload_n 0, 1) := dk_42 (dk_at dksX5_asks_3 21 rfl rfl)
theorem dX5_asks_92 : decode cX5_asks 92 = .ok (.iconst 0, 1) := dk_3 (dk_at dksX5_asks_3 22 rfl rfl)
theorem dX5_asks_93 : decode cX5_asks 93 = .ok (.iload_n 1, 1) := dk_27 (dk_at dksX5_asks_3 23 rfl rfl)
theorem dX5_asks_94 : decode cX5_asks 94 = .ok (.invokevirtual 111, 3) := dk_182 0 111 (dk_at dksX5_asks_4 0 rfl rfl)
theorem dX5_asks_97 : decode cX5_asks 97 = .ok (.aload_n 0, 1) := dk_42 (dk_at dksX5_asks_4 3 rfl rfl)
theorem dX5_asks_98 : decode cX5_asks 98 = .ok (.aload_n 0, 1) := dk_42 (dk_at dksX5_asks_4 4 rfl rfl)
theorem dX5_asks_99 : decode cX5_asks 99 = .ok (.getfield 88, 3) := dk_180 0 88 (dk_at dksX5_asks_4 5 rfl rfl)
theorem dX5_asks_102 : decode cX5_asks 102 = .ok (.invokevirtual 177, 3) := dk_182 0 177 (dk_at dksX5_asks_4 8 rfl rfl)
theorem dX5_asks_105 : decode cX5_asks 105 = .ok (.ireturn, 1) := dk_172 (dk_at dksX5_asks_4 11 rfl rfl)
abbrev cX5_isOut : ByteArray := prog_25_method_16_code
def dkwX5_isOut_1 : List UInt8 := [27, 4, 182, 0, 66, 4, 160, 0, 7, 4, 167, 0, 4, 3, 172]
abbrev dktX5_isOut_1 : List UInt8 := dkwX5_isOut_1 ++ []
def dkwX5_isOut_0 : List UInt8 := [27, 2, 160, 0, 21, 42, 180, 0, 9, 6, 46, 4, 160, 0, 7, 4, 167, 0, 22, 3, 167, 0, 18, 42]
abbrev dktX5_isOut_0 : List UInt8 := dkwX5_isOut_0 ++ dktX5_isOut_1
theorem dksX5_isOut_0 : cX5_isOut.data.toList.drop 0 = dktX5_isOut_0 := by decide +kernel
theorem dksX5_isOut_1 : cX5_isOut.data.toList.drop 24 = dktX5_isOut_1 := dk_seg dksX5_isOut_0 24 rfl rfl
theorem dX5_isOut_0 : decode cX5_isOut 0 = .ok (.iload_n 1, 1) := dk_27 (dk_at dksX5_isOut_0 0 rfl rfl)
theorem dX5_isOut_1 : decode cX5_isOut 1 = .ok (.iconst (-1), 1) := dk_2 (dk_at dksX5_isOut_0 1 rfl rfl)
theorem dX5_isOut_2 : decode cX5_isOut 2 = .ok (.if_icmp .ne 21, 3) := dk_160 0 21 (dk_at dksX5_isOut_0 2 rfl rfl)
theorem dX5_isOut_5 : decode cX5_isOut 5 = .ok (.aload_n 0, 1) := dk_42 (dk_at dksX5_isOut_0 5 rfl rfl)
theorem dX5_isOut_6 : decode cX5_isOut 6 = .ok (.getfield 9, 3) := dk_180 0 9 (dk_at dksX5_isOut_0 6 rfl rfl)
theorem dX5_isOut_9 : decode cX5_isOut 9 = .ok (.iconst 3, 1) := dk_6 (dk_at dksX5_isOut_0 9 rfl rfl)
theorem dX5_isOut_10 : decode cX5_isOut 10 = .ok (.iaload, 1) := dk_46 (dk_at dksX5_isOut_0 10 rfl rfl)
theorem dX5_isOut_11 : decode cX5_isOut 11 = .ok (.iconst 1, 1) := dk_4 (dk_at dksX5_isOut_0 11 rfl rfl)
theorem dX5_isOut_12 : decode cX5_isOut 12 = .ok (.if_icmp .ne 7, 3) := dk_160 0 7 (dk_at dksX5_isOut_0 12 rfl rfl)
theorem dX5_isOut_15 : decode cX5_isOut 15 = .ok (.iconst 1, 1) := dk_4 (dk_at dksX5_isOut_0 15 rfl rfl)
theorem dX5_isOut_16 : decode cX5_isOut 16 = .ok (.goto 22, 3) := dk_167 0 22 (dk_at dksX5_isOut_0 16 rfl rfl)
theorem dX5_isOut_19 : decode cX5_isOut 19 = .ok (.iconst 0, 1) := dk_3 (dk_at dksX5_isOut_0 19 rfl rfl)
theorem dX5_isOut_20 : decode cX5_isOut 20 = .ok (.goto 18, 3) := dk_167 0 18 (dk_at dksX5_isOut_0 20 rfl rfl)
theorem dX5_isOut_23 : decode cX5_isOut 23 = .ok (.aload_n 0, 1) := dk_42 (dk_at dksX5_isOut_0 23 rfl rfl)
theorem dX5_isOut_24 : decode cX5_isOut 24 = .ok (.iload_n 1, 1) := dk_27 (dk_at dksX5_isOut_1 0 rfl rfl)
theorem dX5_isOut_25 : decode cX5_isOut 25 = .ok (.iconst 1, 1) := dk_4 (dk_at dksX5_isOut_1 1 rfl rfl)
theorem dX5_isOut_26 : decode cX5_isOut 26 = .ok (.invokevirtual 66, 3) := dk_182 0 66 (dk_at dksX5_isOut_1 2 rfl rfl)
theorem dX5_isOut_29 : decode cX5_isOut 29 = .ok (.iconst 1, 1) := dk_4 (dk_at dksX5_isOut_1 5 rfl rfl)
theorem dX5_isOut_30 : decode cX5_isOut 30 = .ok (.if_icmp .ne 7, 3) := dk_160 0 7 (dk_at dksX5_isOut_1 6 rfl rfl)
theorem dX5_isOut_33 : decode cX5_isOut 33 = .ok (.iconst 1, 1) := dk_4 (dk_at dksX5_isOut_1 9 rfl rfl)
theorem dX5_isOut_34 : decode cX5_isOut 34 = .ok (.goto 4, 3) := dk_167 0 4 (dk_at dksX5_isOut_1 10 rfl rfl)
theorem dX5_isOut_37 : decode cX5_isOut 37 = .ok (.iconst 0, 1) := dk_3 (dk_at dksX5_isOut_1 13 rfl rfl)
theorem dX5_isOut_38 : decode cX5_isOut 38 = .ok (.ireturn, 1) := dk_172 (dk_at dksX5_isOut_1 14 rfl rfl)
abbrev cX5_writes : ByteArray := prog_25_method_27_code
def dkwX5_writes_3 : List UInt8 := [180, 0, 9, 3, 46, 79, 42, 180, 0, 9, 21, 4, 92, 46, 4, 96, 79, 177]
abbrev dktX5_writes_3 : List UInt8 := dkwX5_writes_3 ++ []
def dkwX5_writes_2 : List UInt8 := [21, 5, 28, 79, 42, 180, 0, 9, 21, 5, 4, 96, 29, 79, 42, 180, 0, 9, 21, 5, 5, 96, 42]
abbrev dktX5_writes_2 : List UInt8 := dkwX5_writes_2 ++ dktX5_writes_3
def dkwX5_writes_1 : List UInt8 := [6, 16, 16, 27, 4, 96, 104, 42, 180, 0, 9, 21, 4, 46, 96, 104, 96, 54, 5, 42, 180, 0, 9]
abbrev dktX5_writes_1 : List UInt8 := dkwX5_writes_1 ++ dktX5_writes_2
def dkwX5_writes_0 : List UInt8 := [27, 2, 160, 0, 8, 16, 6, 167, 0, 12, 16, 7, 16, 15, 27, 104, 96, 5, 96, 54, 4, 17, 1, 65]
abbrev dktX5_writes_0 : List UInt8 := dkwX5_writes_0 ++ dktX5_writes_1
theorem dksX5_writes_0 : cX5_writes.data.toList.drop 0 = dktX5_writes_0 := by decide +kernel
theorem dksX5_writes_1 : cX5_writes.data.toList.drop 24 = dktX5_writes_1 := dk_seg dksX5_writes_0 24 rfl rfl
theorem dksX5_writes_2 : cX5_writes.data.toList.drop 47 = dktX5_writes_2 := dk_seg dksX5_writes_1 23 rfl rfl
theorem dksX5_writes_3 : cX5_writes.data.toList.drop 70 = dktX5_writes_3 := dk_seg dksX5_writes_2 23 rfl rfl
theorem dX5_writes_0 : decode cX5_writes 0 = .ok (.iload_n 1, 1) := dk_27 (dk_at dksX5_writes_0 0 rfl rfl)
theorem dX5_writes_1 : decode cX5_writes 1 = .ok (.iconst (-1), 1) := dk_2 (dk_at dksX5_writes_0 1 rfl rfl)
theorem dX5_writes_2 : decode cX5_writes 2 = .ok (.if_icmp .ne 8, 3) := dk_160 0 8 (dk_at dksX5_writes_0 2 rfl rfl)
theorem dX5_writes_5 : decode cX5_writes 5 = .ok (.bipush 6, 2) := dk_16 6 (dk_at dksX5_writes_0 5 rfl rfl)
theorem dX5_writes_7 : decode cX5_writes 7 = .ok (.goto 12, 3) := dk_167 0 12 (dk_at dksX5_writes_0 7 rfl rfl)
theorem dX5_writes_10 : decode cX5_writes 10 = .ok (.bipush 7, 2) := dk_16 7 (dk_at dksX5_writes_0 10 rfl rfl)
theorem dX5_writes_12 : decode cX5_writes 12 = .ok (.bipush 15, 2) := dk_16 15 (dk_at dksX5_writes_0 12 rfl rfl)
theorem dX5_writes_14 : decode cX5_writes 14 = .ok (.iload_n 1, 1) := dk_27 (dk_at dksX5_writes_0 14 rfl rfl)
theorem dX5_writes_15 : decode cX5_writes 15 = .ok (.imul, 1) := dk_104 (dk_at dksX5_writes_0 15 rfl rfl)
theorem dX5_writes_16 : decode cX5_writes 16 = .ok (.iadd, 1) := dk_96 (dk_at dksX5_writes_0 16 rfl rfl)
theorem dX5_writes_17 : decode cX5_writes 17 = .ok (.iconst 2, 1) := dk_5 (dk_at dksX5_writes_0 17 rfl rfl)
theorem dX5_writes_18 : decode cX5_writes 18 = .ok (.iadd, 1) := dk_96 (dk_at dksX5_writes_0 18 rfl rfl)
theorem dX5_writes_19 : decode cX5_writes 19 = .ok (.istore 4, 2) := dk_54 4 (dk_at dksX5_writes_0 19 rfl rfl)
theorem dX5_writes_21 : decode cX5_writes 21 = .ok (.sipush 321, 3) := dk_17 1 65 (dk_at dksX5_writes_0 21 rfl rfl)
theorem dX5_writes_24 : decode cX5_writes 24 = .ok (.iconst 3, 1) := dk_6 (dk_at dksX5_writes_1 0 rfl rfl)
theorem dX5_writes_25 : decode cX5_writes 25 = .ok (.bipush 16, 2) := dk_16 16 (dk_at dksX5_writes_1 1 rfl rfl)
theorem dX5_writes_27 : decode cX5_writes 27 = .ok (.iload_n 1, 1) := dk_27 (dk_at dksX5_writes_1 3 rfl rfl)
theorem dX5_writes_28 : decode cX5_writes 28 = .ok (.iconst 1, 1) := dk_4 (dk_at dksX5_writes_1 4 rfl rfl)
theorem dX5_writes_29 : decode cX5_writes 29 = .ok (.iadd, 1) := dk_96 (dk_at dksX5_writes_1 5 rfl rfl)
theorem dX5_writes_30 : decode cX5_writes 30 = .ok (.imul, 1) := dk_104 (dk_at dksX5_writes_1 6 rfl rfl)
theorem dX5_writes_31 : decode cX5_writes 31 = .ok (.aload_n 0, 1) := dk_42 (dk_at dksX5_writes_1 7 rfl rfl)
theorem dX5_writes_32 : decode cX5_writes 32 = .ok (.getfield 9, 3) := dk_180 0 9 (dk_at dksX5_writes_1 8 rfl rfl)
theorem dX5_writes_35 : decode cX5_writes 35 = .ok (.iload 4, 2) := dk_21 4 (dk_at dksX5_writes_1 11 rfl rfl)
theorem dX5_writes_37 : decode cX5_writes 37 = .ok (.iaload, 1) := dk_46 (dk_at dksX5_writes_1 13 rfl rfl)
theorem dX5_writes_38 : decode cX5_writes 38 = .ok (.iadd, 1) := dk_96 (dk_at dksX5_writes_1 14 rfl rfl)
theorem dX5_writes_39 : decode cX5_writes 39 = .ok (.imul, 1) := dk_104 (dk_at dksX5_writes_1 15 rfl rfl)
theorem dX5_writes_40 : decode cX5_writes 40 = .ok (.iadd, 1) := dk_96 (dk_at dksX5_writes_1 16 rfl rfl)
theorem dX5_writes_41 : decode cX5_writes 41 = .ok (.istore 5, 2) := dk_54 5 (dk_at dksX5_writes_1 17 rfl rfl)
theorem dX5_writes_43 : decode cX5_writes 43 = .ok (.aload_n 0, 1) := dk_42 (dk_at dksX5_writes_1 19 rfl rfl)
theorem dX5_writes_44 : decode cX5_writes 44 = .ok (.getfield 9, 3) := dk_180 0 9 (dk_at dksX5_writes_1 20 rfl rfl)
theorem dX5_writes_47 : decode cX5_writes 47 = .ok (.iload 5, 2) := dk_21 5 (dk_at dksX5_writes_2 0 rfl rfl)
theorem dX5_writes_49 : decode cX5_writes 49 = .ok (.iload_n 2, 1) := dk_28 (dk_at dksX5_writes_2 2 rfl rfl)
theorem dX5_writes_50 : decode cX5_writes 50 = .ok (.iastore, 1) := dk_79 (dk_at dksX5_writes_2 3 rfl rfl)
theorem dX5_writes_51 : decode cX5_writes 51 = .ok (.aload_n 0, 1) := dk_42 (dk_at dksX5_writes_2 4 rfl rfl)
theorem dX5_writes_52 : decode cX5_writes 52 = .ok (.getfield 9, 3) := dk_180 0 9 (dk_at dksX5_writes_2 5 rfl rfl)
theorem dX5_writes_55 : decode cX5_writes 55 = .ok (.iload 5, 2) := dk_21 5 (dk_at dksX5_writes_2 8 rfl rfl)
theorem dX5_writes_57 : decode cX5_writes 57 = .ok (.iconst 1, 1) := dk_4 (dk_at dksX5_writes_2 10 rfl rfl)
theorem dX5_writes_58 : decode cX5_writes 58 = .ok (.iadd, 1) := dk_96 (dk_at dksX5_writes_2 11 rfl rfl)
theorem dX5_writes_59 : decode cX5_writes 59 = .ok (.iload_n 3, 1) := dk_29 (dk_at dksX5_writes_2 12 rfl rfl)
theorem dX5_writes_60 : decode cX5_writes 60 = .ok (.iastore, 1) := dk_79 (dk_at dksX5_writes_2 13 rfl rfl)
theorem dX5_writes_61 : decode cX5_writes 61 = .ok (.aload_n 0, 1) := dk_42 (dk_at dksX5_writes_2 14 rfl rfl)
theorem dX5_writes_62 : decode cX5_writes 62 = .ok (.getfield 9, 3) := dk_180 0 9 (dk_at dksX5_writes_2 15 rfl rfl)
theorem dX5_writes_65 : decode cX5_writes 65 = .ok (.iload 5, 2) := dk_21 5 (dk_at dksX5_writes_2 18 rfl rfl)
theorem dX5_writes_67 : decode cX5_writes 67 = .ok (.iconst 2, 1) := dk_5 (dk_at dksX5_writes_2 20 rfl rfl)
theorem dX5_writes_68 : decode cX5_writes 68 = .ok (.iadd, 1) := dk_96 (dk_at dksX5_writes_2 21 rfl rfl)
theorem dX5_writes_69 : decode cX5_writes 69 = .ok (.aload_n 0, 1) := dk_42 (dk_at dksX5_writes_2 22 rfl rfl)
theorem dX5_writes_70 : decode cX5_writes 70 = .ok (.getfield 9, 3) := dk_180 0 9 (dk_at dksX5_writes_3 0 rfl rfl)
theorem dX5_writes_73 : decode cX5_writes 73 = .ok (.iconst 0, 1) := dk_3 (dk_at dksX5_writes_3 3 rfl rfl)
theorem dX5_writes_74 : decode cX5_writes 74 = .ok (.iaload, 1) := dk_46 (dk_at dksX5_writes_3 4 rfl rfl)
theorem dX5_writes_75 : decode cX5_writes 75 = .ok (.iastore, 1) := dk_79 (dk_at dksX5_writes_3 5 rfl rfl)
theorem dX5_writes_76 : decode cX5_writes 76 = .ok (.aload_n 0, 1) := dk_42 (dk_at dksX5_writes_3 6 rfl rfl)
theorem dX5_writes_77 : decode cX5_writes 77 = .ok (.getfield 9, 3) := dk_180 0 9 (dk_at dksX5_writes_3 7 rfl rfl)
theorem dX5_writes_80 : decode cX5_writes 80 = .ok (.iload 4, 2) := dk_21 4 (dk_at dksX5_writes_3 10 rfl rfl)
theorem dX5_writes_82 : decode cX5_writes 82 = .ok (.dup2, 1) := dk_92 (dk_at dksX5_writes_3 12 rfl rfl)
theorem dX5_writes_83 : decode cX5_writes 83 = .ok (.iaload, 1) := dk_46 (dk_at dksX5_writes_3 13 rfl rfl)
theorem dX5_writes_84 : decode cX5_writes 84 = .ok (.iconst 1, 1) := dk_4 (dk_at dksX5_writes_3 14 rfl rfl)
theorem dX5_writes_85 : decode cX5_writes 85 = .ok (.iadd, 1) := dk_96 (dk_at dksX5_writes_3 15 rfl rfl)
theorem dX5_writes_86 : decode cX5_writes 86 = .ok (.iastore, 1) := dk_79 (dk_at dksX5_writes_3 16 rfl rfl)
theorem dX5_writes_87 : decode cX5_writes 87 = .ok (.return_, 1) := dk_177 (dk_at dksX5_writes_3 17 rfl rfl)
abbrev cX5_sendsAll : ByteArray := prog_25_method_30_code
def dkwX5_sendsAll_1 : List UInt8 := [132, 3, 1, 167, 255, 231, 177]
abbrev dktX5_sendsAll_1 : List UInt8 := dkwX5_sendsAll_1 ++ []
def dkwX5_sendsAll_0 : List UInt8 := [3, 62, 29, 16, 6, 162, 0, 25, 42, 28, 29, 182, 0, 77, 153, 0, 10, 42, 27, 29, 28, 182, 0, 91]
abbrev dktX5_sendsAll_0 : List UInt8 := dkwX5_sendsAll_0 ++ dktX5_sendsAll_1
theorem dksX5_sendsAll_0 : cX5_sendsAll.data.toList.drop 0 = dktX5_sendsAll_0 := by decide +kernel
theorem dksX5_sendsAll_1 : cX5_sendsAll.data.toList.drop 24 = dktX5_sendsAll_1 := dk_seg dksX5_sendsAll_0 24 rfl rfl
theorem dX5_sendsAll_0 : decode cX5_sendsAll 0 = .ok (.iconst 0, 1) := dk_3 (dk_at dksX5_sendsAll_0 0 rfl rfl)
theorem dX5_sendsAll_1 : decode cX5_sendsAll 1 = .ok (.istore_n 3, 1) := dk_62 (dk_at dksX5_sendsAll_0 1 rfl rfl)
theorem dX5_sendsAll_2 : decode cX5_sendsAll 2 = .ok (.iload_n 3, 1) := dk_29 (dk_at dksX5_sendsAll_0 2 rfl rfl)
theorem dX5_sendsAll_3 : decode cX5_sendsAll 3 = .ok (.bipush 6, 2) := dk_16 6 (dk_at dksX5_sendsAll_0 3 rfl rfl)
theorem dX5_sendsAll_5 : decode cX5_sendsAll 5 = .ok (.if_icmp .ge 25, 3) := dk_162 0 25 (dk_at dksX5_sendsAll_0 5 rfl rfl)
theorem dX5_sendsAll_8 : decode cX5_sendsAll 8 = .ok (.aload_n 0, 1) := dk_42 (dk_at dksX5_sendsAll_0 8 rfl rfl)
theorem dX5_sendsAll_9 : decode cX5_sendsAll 9 = .ok (.iload_n 2, 1) := dk_28 (dk_at dksX5_sendsAll_0 9 rfl rfl)
theorem dX5_sendsAll_10 : decode cX5_sendsAll 10 = .ok (.iload_n 3, 1) := dk_29 (dk_at dksX5_sendsAll_0 10 rfl rfl)
theorem dX5_sendsAll_11 : decode cX5_sendsAll 11 = .ok (.invokevirtual 77, 3) := dk_182 0 77 (dk_at dksX5_sendsAll_0 11 rfl rfl)
theorem dX5_sendsAll_14 : decode cX5_sendsAll 14 = .ok (.ifCond .eq 10, 3) := dk_153 0 10 (dk_at dksX5_sendsAll_0 14 rfl rfl)
theorem dX5_sendsAll_17 : decode cX5_sendsAll 17 = .ok (.aload_n 0, 1) := dk_42 (dk_at dksX5_sendsAll_0 17 rfl rfl)
theorem dX5_sendsAll_18 : decode cX5_sendsAll 18 = .ok (.iload_n 1, 1) := dk_27 (dk_at dksX5_sendsAll_0 18 rfl rfl)
theorem dX5_sendsAll_19 : decode cX5_sendsAll 19 = .ok (.iload_n 3, 1) := dk_29 (dk_at dksX5_sendsAll_0 19 rfl rfl)
theorem dX5_sendsAll_20 : decode cX5_sendsAll 20 = .ok (.iload_n 2, 1) := dk_28 (dk_at dksX5_sendsAll_0 20 rfl rfl)
theorem dX5_sendsAll_21 : decode cX5_sendsAll 21 = .ok (.invokevirtual 91, 3) := dk_182 0 91 (dk_at dksX5_sendsAll_0 21 rfl rfl)
theorem dX5_sendsAll_24 : decode cX5_sendsAll 24 = .ok (.iinc 3 1, 3) := dk_132 3 1 (dk_at dksX5_sendsAll_1 0 rfl rfl)
theorem dX5_sendsAll_27 : decode cX5_sendsAll 27 = .ok (.goto (-25), 3) := dk_167 255 231 (dk_at dksX5_sendsAll_1 3 rfl rfl)
theorem dX5_sendsAll_30 : decode cX5_sendsAll 30 = .ok (.return_, 1) := dk_177 (dk_at dksX5_sendsAll_1 6 rfl rfl)
abbrev cX5_sends : ByteArray := prog_25_method_29_code
def dkwX5_sends_3 : List UInt8 := [180, 0, 88, 4, 96, 181, 0, 88, 177]
abbrev dktX5_sends_3 : List UInt8 := dkwX5_sends_3 ++ []
def dkwX5_sends_2 : List UInt8 := [42, 180, 0, 9, 21, 4, 6, 96, 42, 180, 0, 9, 3, 46, 42, 28, 3, 182, 0, 66, 96, 79, 42, 89]
abbrev dktX5_sends_2 : List UInt8 := dkwX5_sends_2 ++ dktX5_sends_3
def dkwX5_sends_1 : List UInt8 := [21, 4, 27, 79, 42, 180, 0, 9, 21, 4, 4, 96, 28, 79, 42, 180, 0, 9, 21, 4, 5, 96, 29, 79]
abbrev dktX5_sends_1 : List UInt8 := dkwX5_sends_1 ++ dktX5_sends_2
def dkwX5_sends_0 : List UInt8 := [17, 2, 145, 7, 42, 180, 0, 9, 8, 92, 46, 91, 4, 96, 79, 104, 96, 54, 4, 42, 180, 0, 9]
abbrev dktX5_sends_0 : List UInt8 := dkwX5_sends_0 ++ dktX5_sends_1
theorem dksX5_sends_0 : cX5_sends.data.toList.drop 0 = dktX5_sends_0 := by decide +kernel
theorem dksX5_sends_1 : cX5_sends.data.toList.drop 23 = dktX5_sends_1 := dk_seg dksX5_sends_0 23 rfl rfl
theorem dksX5_sends_2 : cX5_sends.data.toList.drop 47 = dktX5_sends_2 := dk_seg dksX5_sends_1 24 rfl rfl
theorem dksX5_sends_3 : cX5_sends.data.toList.drop 71 = dktX5_sends_3 := dk_seg dksX5_sends_2 24 rfl rfl
theorem dX5_sends_0 : decode cX5_sends 0 = .ok (.sipush 657, 3) := dk_17 2 145 (dk_at dksX5_sends_0 0 rfl rfl)
theorem dX5_sends_3 : decode cX5_sends 3 = .ok (.iconst 4, 1) := dk_7 (dk_at dksX5_sends_0 3 rfl rfl)
theorem dX5_sends_4 : decode cX5_sends 4 = .ok (.aload_n 0, 1) := dk_42 (dk_at dksX5_sends_0 4 rfl rfl)
theorem dX5_sends_5 : decode cX5_sends 5 = .ok (.getfield 9, 3) := dk_180 0 9 (dk_at dksX5_sends_0 5 rfl rfl)
theorem dX5_sends_8 : decode cX5_sends 8 = .ok (.iconst 5, 1) := dk_8 (dk_at dksX5_sends_0 8 rfl rfl)
theorem dX5_sends_9 : decode cX5_sends 9 = .ok (.dup2, 1) := dk_92 (dk_at dksX5_sends_0 9 rfl rfl)
theorem dX5_sends_10 : decode cX5_sends 10 = .ok (.iaload, 1) := dk_46 (dk_at dksX5_sends_0 10 rfl rfl)
theorem dX5_sends_11 : decode cX5_sends 11 = .ok (.dup_x2, 1) := dk_91 (dk_at dksX5_sends_0 11 rfl rfl)
theorem dX5_sends_12 : decode cX5_sends 12 = .ok (.iconst 1, 1) := dk_4 (dk_at dksX5_sends_0 12 rfl rfl)
theorem dX5_sends_13 : decode cX5_sends 13 = .ok (.iadd, 1) := dk_96 (dk_at dksX5_sends_0 13 rfl rfl)
theorem dX5_sends_14 : decode cX5_sends 14 = .ok (.iastore, 1) := dk_79 (dk_at dksX5_sends_0 14 rfl rfl)
theorem dX5_sends_15 : decode cX5_sends 15 = .ok (.imul, 1) := dk_104 (dk_at dksX5_sends_0 15 rfl rfl)
theorem dX5_sends_16 : decode cX5_sends 16 = .ok (.iadd, 1) := dk_96 (dk_at dksX5_sends_0 16 rfl rfl)
theorem dX5_sends_17 : decode cX5_sends 17 = .ok (.istore 4, 2) := dk_54 4 (dk_at dksX5_sends_0 17 rfl rfl)
theorem dX5_sends_19 : decode cX5_sends 19 = .ok (.aload_n 0, 1) := dk_42 (dk_at dksX5_sends_0 19 rfl rfl)
theorem dX5_sends_20 : decode cX5_sends 20 = .ok (.getfield 9, 3) := dk_180 0 9 (dk_at dksX5_sends_0 20 rfl rfl)
theorem dX5_sends_23 : decode cX5_sends 23 = .ok (.iload 4, 2) := dk_21 4 (dk_at dksX5_sends_1 0 rfl rfl)
theorem dX5_sends_25 : decode cX5_sends 25 = .ok (.iload_n 1, 1) := dk_27 (dk_at dksX5_sends_1 2 rfl rfl)
theorem dX5_sends_26 : decode cX5_sends 26 = .ok (.iastore, 1) := dk_79 (dk_at dksX5_sends_1 3 rfl rfl)
theorem dX5_sends_27 : decode cX5_sends 27 = .ok (.aload_n 0, 1) := dk_42 (dk_at dksX5_sends_1 4 rfl rfl)
theorem dX5_sends_28 : decode cX5_sends 28 = .ok (.getfield 9, 3) := dk_180 0 9 (dk_at dksX5_sends_1 5 rfl rfl)
theorem dX5_sends_31 : decode cX5_sends 31 = .ok (.iload 4, 2) := dk_21 4 (dk_at dksX5_sends_1 8 rfl rfl)
theorem dX5_sends_33 : decode cX5_sends 33 = .ok (.iconst 1, 1) := dk_4 (dk_at dksX5_sends_1 10 rfl rfl)
theorem dX5_sends_34 : decode cX5_sends 34 = .ok (.iadd, 1) := dk_96 (dk_at dksX5_sends_1 11 rfl rfl)
theorem dX5_sends_35 : decode cX5_sends 35 = .ok (.iload_n 2, 1) := dk_28 (dk_at dksX5_sends_1 12 rfl rfl)
theorem dX5_sends_36 : decode cX5_sends 36 = .ok (.iastore, 1) := dk_79 (dk_at dksX5_sends_1 13 rfl rfl)
theorem dX5_sends_37 : decode cX5_sends 37 = .ok (.aload_n 0, 1) := dk_42 (dk_at dksX5_sends_1 14 rfl rfl)
theorem dX5_sends_38 : decode cX5_sends 38 = .ok (.getfield 9, 3) := dk_180 0 9 (dk_at dksX5_sends_1 15 rfl rfl)
theorem dX5_sends_41 : decode cX5_sends 41 = .ok (.iload 4, 2) := dk_21 4 (dk_at dksX5_sends_1 18 rfl rfl)
theorem dX5_sends_43 : decode cX5_sends 43 = .ok (.iconst 2, 1) := dk_5 (dk_at dksX5_sends_1 20 rfl rfl)
theorem dX5_sends_44 : decode cX5_sends 44 = .ok (.iadd, 1) := dk_96 (dk_at dksX5_sends_1 21 rfl rfl)
theorem dX5_sends_45 : decode cX5_sends 45 = .ok (.iload_n 3, 1) := dk_29 (dk_at dksX5_sends_1 22 rfl rfl)
theorem dX5_sends_46 : decode cX5_sends 46 = .ok (.iastore, 1) := dk_79 (dk_at dksX5_sends_1 23 rfl rfl)
theorem dX5_sends_47 : decode cX5_sends 47 = .ok (.aload_n 0, 1) := dk_42 (dk_at dksX5_sends_2 0 rfl rfl)
theorem dX5_sends_48 : decode cX5_sends 48 = .ok (.getfield 9, 3) := dk_180 0 9 (dk_at dksX5_sends_2 1 rfl rfl)
theorem dX5_sends_51 : decode cX5_sends 51 = .ok (.iload 4, 2) := dk_21 4 (dk_at dksX5_sends_2 4 rfl rfl)
theorem dX5_sends_53 : decode cX5_sends 53 = .ok (.iconst 3, 1) := dk_6 (dk_at dksX5_sends_2 6 rfl rfl)
theorem dX5_sends_54 : decode cX5_sends 54 = .ok (.iadd, 1) := dk_96 (dk_at dksX5_sends_2 7 rfl rfl)
theorem dX5_sends_55 : decode cX5_sends 55 = .ok (.aload_n 0, 1) := dk_42 (dk_at dksX5_sends_2 8 rfl rfl)
theorem dX5_sends_56 : decode cX5_sends 56 = .ok (.getfield 9, 3) := dk_180 0 9 (dk_at dksX5_sends_2 9 rfl rfl)
theorem dX5_sends_59 : decode cX5_sends 59 = .ok (.iconst 0, 1) := dk_3 (dk_at dksX5_sends_2 12 rfl rfl)
theorem dX5_sends_60 : decode cX5_sends 60 = .ok (.iaload, 1) := dk_46 (dk_at dksX5_sends_2 13 rfl rfl)
theorem dX5_sends_61 : decode cX5_sends 61 = .ok (.aload_n 0, 1) := dk_42 (dk_at dksX5_sends_2 14 rfl rfl)
theorem dX5_sends_62 : decode cX5_sends 62 = .ok (.iload_n 2, 1) := dk_28 (dk_at dksX5_sends_2 15 rfl rfl)
theorem dX5_sends_63 : decode cX5_sends 63 = .ok (.iconst 0, 1) := dk_3 (dk_at dksX5_sends_2 16 rfl rfl)
theorem dX5_sends_64 : decode cX5_sends 64 = .ok (.invokevirtual 66, 3) := dk_182 0 66 (dk_at dksX5_sends_2 17 rfl rfl)
theorem dX5_sends_67 : decode cX5_sends 67 = .ok (.iadd, 1) := dk_96 (dk_at dksX5_sends_2 20 rfl rfl)
theorem dX5_sends_68 : decode cX5_sends 68 = .ok (.iastore, 1) := dk_79 (dk_at dksX5_sends_2 21 rfl rfl)
theorem dX5_sends_69 : decode cX5_sends 69 = .ok (.aload_n 0, 1) := dk_42 (dk_at dksX5_sends_2 22 rfl rfl)
theorem dX5_sends_70 : decode cX5_sends 70 = .ok (.dup, 1) := dk_89 (dk_at dksX5_sends_2 23 rfl rfl)
theorem dX5_sends_71 : decode cX5_sends 71 = .ok (.getfield 88, 3) := dk_180 0 88 (dk_at dksX5_sends_3 0 rfl rfl)
theorem dX5_sends_74 : decode cX5_sends 74 = .ok (.iconst 1, 1) := dk_4 (dk_at dksX5_sends_3 3 rfl rfl)
theorem dX5_sends_75 : decode cX5_sends 75 = .ok (.iadd, 1) := dk_96 (dk_at dksX5_sends_3 4 rfl rfl)
theorem dX5_sends_76 : decode cX5_sends 76 = .ok (.putfield 88, 3) := dk_181 0 88 (dk_at dksX5_sends_3 5 rfl rfl)
theorem dX5_sends_79 : decode cX5_sends 79 = .ok (.return_, 1) := dk_177 (dk_at dksX5_sends_3 8 rfl rfl)
abbrev cX5_does : ByteArray := prog_25_method_10_code
def dkwX5_does_0 : List UInt8 := [42, 27, 181, 0, 53, 3, 172]
abbrev dktX5_does_0 : List UInt8 := dkwX5_does_0 ++ []
theorem dksX5_does_0 : cX5_does.data.toList.drop 0 = dktX5_does_0 := by decide +kernel
theorem dX5_does_0 : decode cX5_does 0 = .ok (.aload_n 0, 1) := dk_42 (dk_at dksX5_does_0 0 rfl rfl)
theorem dX5_does_1 : decode cX5_does 1 = .ok (.iload_n 1, 1) := dk_27 (dk_at dksX5_does_0 1 rfl rfl)
theorem dX5_does_2 : decode cX5_does 2 = .ok (.putfield 53, 3) := dk_181 0 53 (dk_at dksX5_does_0 2 rfl rfl)
theorem dX5_does_5 : decode cX5_does 5 = .ok (.iconst 0, 1) := dk_3 (dk_at dksX5_does_0 5 rfl rfl)
theorem dX5_does_6 : decode cX5_does 6 = .ok (.ireturn, 1) := dk_172 (dk_at dksX5_does_0 6 rfl rfl)
abbrev cX5_endsAt : ByteArray := prog_25_method_51_code
def dkwX5_endsAt_1 : List UInt8 := [167, 0, 4, 5, 182, 0, 149, 172]
abbrev dktX5_endsAt_1 : List UInt8 := dkwX5_endsAt_1 ++ []
def dkwX5_endsAt_0 : List UInt8 := [27, 154, 0, 14, 42, 42, 180, 0, 53, 182, 0, 155, 167, 0, 17, 42, 27, 4, 160, 0, 7, 4]
abbrev dktX5_endsAt_0 : List UInt8 := dkwX5_endsAt_0 ++ dktX5_endsAt_1
theorem dksX5_endsAt_0 : cX5_endsAt.data.toList.drop 0 = dktX5_endsAt_0 := by decide +kernel
theorem dksX5_endsAt_1 : cX5_endsAt.data.toList.drop 22 = dktX5_endsAt_1 := dk_seg dksX5_endsAt_0 22 rfl rfl
theorem dX5_endsAt_0 : decode cX5_endsAt 0 = .ok (.iload_n 1, 1) := dk_27 (dk_at dksX5_endsAt_0 0 rfl rfl)
theorem dX5_endsAt_1 : decode cX5_endsAt 1 = .ok (.ifCond .ne 14, 3) := dk_154 0 14 (dk_at dksX5_endsAt_0 1 rfl rfl)
theorem dX5_endsAt_4 : decode cX5_endsAt 4 = .ok (.aload_n 0, 1) := dk_42 (dk_at dksX5_endsAt_0 4 rfl rfl)
theorem dX5_endsAt_5 : decode cX5_endsAt 5 = .ok (.aload_n 0, 1) := dk_42 (dk_at dksX5_endsAt_0 5 rfl rfl)
theorem dX5_endsAt_6 : decode cX5_endsAt 6 = .ok (.getfield 53, 3) := dk_180 0 53 (dk_at dksX5_endsAt_0 6 rfl rfl)
theorem dX5_endsAt_9 : decode cX5_endsAt 9 = .ok (.invokevirtual 155, 3) := dk_182 0 155 (dk_at dksX5_endsAt_0 9 rfl rfl)
theorem dX5_endsAt_12 : decode cX5_endsAt 12 = .ok (.goto 17, 3) := dk_167 0 17 (dk_at dksX5_endsAt_0 12 rfl rfl)
theorem dX5_endsAt_15 : decode cX5_endsAt 15 = .ok (.aload_n 0, 1) := dk_42 (dk_at dksX5_endsAt_0 15 rfl rfl)
theorem dX5_endsAt_16 : decode cX5_endsAt 16 = .ok (.iload_n 1, 1) := dk_27 (dk_at dksX5_endsAt_0 16 rfl rfl)
theorem dX5_endsAt_17 : decode cX5_endsAt 17 = .ok (.iconst 1, 1) := dk_4 (dk_at dksX5_endsAt_0 17 rfl rfl)
theorem dX5_endsAt_18 : decode cX5_endsAt 18 = .ok (.if_icmp .ne 7, 3) := dk_160 0 7 (dk_at dksX5_endsAt_0 18 rfl rfl)
theorem dX5_endsAt_21 : decode cX5_endsAt 21 = .ok (.iconst 1, 1) := dk_4 (dk_at dksX5_endsAt_0 21 rfl rfl)
theorem dX5_endsAt_22 : decode cX5_endsAt 22 = .ok (.goto 4, 3) := dk_167 0 4 (dk_at dksX5_endsAt_1 0 rfl rfl)
theorem dX5_endsAt_25 : decode cX5_endsAt 25 = .ok (.iconst 2, 1) := dk_5 (dk_at dksX5_endsAt_1 3 rfl rfl)
theorem dX5_endsAt_26 : decode cX5_endsAt 26 = .ok (.invokevirtual 149, 3) := dk_182 0 149 (dk_at dksX5_endsAt_1 4 rfl rfl)
theorem dX5_endsAt_29 : decode cX5_endsAt 29 = .ok (.ireturn, 1) := dk_172 (dk_at dksX5_endsAt_1 7 rfl rfl)
abbrev cX5_cancel : ByteArray := prog_25_method_54_code
def dkwX5_cancel_0 : List UInt8 := [42, 182, 0, 146, 42, 42, 27, 182, 0, 186, 182, 0, 183, 172]
abbrev dktX5_cancel_0 : List UInt8 := dkwX5_cancel_0 ++ []
theorem dksX5_cancel_0 : cX5_cancel.data.toList.drop 0 = dktX5_cancel_0 := by decide +kernel
theorem dX5_cancel_0 : decode cX5_cancel 0 = .ok (.aload_n 0, 1) := dk_42 (dk_at dksX5_cancel_0 0 rfl rfl)
theorem dX5_cancel_1 : decode cX5_cancel 1 = .ok (.invokevirtual 146, 3) := dk_182 0 146 (dk_at dksX5_cancel_0 1 rfl rfl)
theorem dX5_cancel_4 : decode cX5_cancel 4 = .ok (.aload_n 0, 1) := dk_42 (dk_at dksX5_cancel_0 4 rfl rfl)
theorem dX5_cancel_5 : decode cX5_cancel 5 = .ok (.aload_n 0, 1) := dk_42 (dk_at dksX5_cancel_0 5 rfl rfl)
theorem dX5_cancel_6 : decode cX5_cancel 6 = .ok (.iload_n 1, 1) := dk_27 (dk_at dksX5_cancel_0 6 rfl rfl)
theorem dX5_cancel_7 : decode cX5_cancel 7 = .ok (.invokevirtual 186, 3) := dk_182 0 186 (dk_at dksX5_cancel_0 7 rfl rfl)
theorem dX5_cancel_10 : decode cX5_cancel 10 = .ok (.invokevirtual 183, 3) := dk_182 0 183 (dk_at dksX5_cancel_0 10 rfl rfl)
theorem dX5_cancel_13 : decode cX5_cancel 13 = .ok (.ireturn, 1) := dk_172 (dk_at dksX5_cancel_0 13 rfl rfl)
abbrev cX5_cancels : ByteArray := prog_25_method_53_code
def dkwX5_cancels_2 : List UInt8 := [172, 42, 3, 181, 0, 88, 42, 27, 3, 182, 0, 134, 42, 42, 180, 0, 88, 182, 0, 177, 172]
abbrev dktX5_cancels_2 : List UInt8 := dkwX5_cancels_2 ++ []
def dkwX5_cancels_1 : List UInt8 := [182, 0, 152, 172, 42, 27, 182, 0, 84, 4, 164, 0, 15, 42, 16, 7, 42, 27, 182, 0, 84, 182, 0, 152]
abbrev dktX5_cancels_1 : List UInt8 := dkwX5_cancels_1 ++ dktX5_cancels_2
def dkwX5_cancels_0 : List UInt8 := [42, 27, 182, 0, 167, 154, 0, 5, 4, 172, 42, 2, 182, 0, 124, 153, 0, 11, 42, 16, 6, 2]
abbrev dktX5_cancels_0 : List UInt8 := dkwX5_cancels_0 ++ dktX5_cancels_1
theorem dksX5_cancels_0 : cX5_cancels.data.toList.drop 0 = dktX5_cancels_0 := by decide +kernel
theorem dksX5_cancels_1 : cX5_cancels.data.toList.drop 22 = dktX5_cancels_1 := dk_seg dksX5_cancels_0 22 rfl rfl
theorem dksX5_cancels_2 : cX5_cancels.data.toList.drop 46 = dktX5_cancels_2 := dk_seg dksX5_cancels_1 24 rfl rfl
theorem dX5_cancels_0 : decode cX5_cancels 0 = .ok (.aload_n 0, 1) := dk_42 (dk_at dksX5_cancels_0 0 rfl rfl)
theorem dX5_cancels_1 : decode cX5_cancels 1 = .ok (.iload_n 1, 1) := dk_27 (dk_at dksX5_cancels_0 1 rfl rfl)
theorem dX5_cancels_2 : decode cX5_cancels 2 = .ok (.invokevirtual 167, 3) := dk_182 0 167 (dk_at dksX5_cancels_0 2 rfl rfl)
theorem dX5_cancels_5 : decode cX5_cancels 5 = .ok (.ifCond .ne 5, 3) := dk_154 0 5 (dk_at dksX5_cancels_0 5 rfl rfl)
theorem dX5_cancels_8 : decode cX5_cancels 8 = .ok (.iconst 1, 1) := dk_4 (dk_at dksX5_cancels_0 8 rfl rfl)
theorem dX5_cancels_9 : decode cX5_cancels 9 = .ok (.ireturn, 1) := dk_172 (dk_at dksX5_cancels_0 9 rfl rfl)
theorem dX5_cancels_10 : decode cX5_cancels 10 = .ok (.aload_n 0, 1) := dk_42 (dk_at dksX5_cancels_0 10 rfl rfl)
theorem dX5_cancels_11 : decode cX5_cancels 11 = .ok (.iconst (-1), 1) := dk_2 (dk_at dksX5_cancels_0 11 rfl rfl)
theorem dX5_cancels_12 : decode cX5_cancels 12 = .ok (.invokevirtual 124, 3) := dk_182 0 124 (dk_at dksX5_cancels_0 12 rfl rfl)
theorem dX5_cancels_15 : decode cX5_cancels 15 = .ok (.ifCond .eq 11, 3) := dk_153 0 11 (dk_at dksX5_cancels_0 15 rfl rfl)
theorem dX5_cancels_18 : decode cX5_cancels 18 = .ok (.aload_n 0, 1) := dk_42 (dk_at dksX5_cancels_0 18 rfl rfl)
theorem dX5_cancels_19 : decode cX5_cancels 19 = .ok (.bipush 6, 2) := dk_16 6 (dk_at dksX5_cancels_0 19 rfl rfl)
theorem dX5_cancels_21 : decode cX5_cancels 21 = .ok (.iconst (-1), 1) := dk_2 (dk_at dksX5_cancels_0 21 rfl rfl)
theorem dX5_cancels_22 : decode cX5_cancels 22 = .ok (.invokevirtual 152, 3) := dk_182 0 152 (dk_at dksX5_cancels_1 0 rfl rfl)
theorem dX5_cancels_25 : decode cX5_cancels 25 = .ok (.ireturn, 1) := dk_172 (dk_at dksX5_cancels_1 3 rfl rfl)
theorem dX5_cancels_26 : decode cX5_cancels 26 = .ok (.aload_n 0, 1) := dk_42 (dk_at dksX5_cancels_1 4 rfl rfl)
theorem dX5_cancels_27 : decode cX5_cancels 27 = .ok (.iload_n 1, 1) := dk_27 (dk_at dksX5_cancels_1 5 rfl rfl)
theorem dX5_cancels_28 : decode cX5_cancels 28 = .ok (.invokevirtual 84, 3) := dk_182 0 84 (dk_at dksX5_cancels_1 6 rfl rfl)
theorem dX5_cancels_31 : decode cX5_cancels 31 = .ok (.iconst 1, 1) := dk_4 (dk_at dksX5_cancels_1 9 rfl rfl)
theorem dX5_cancels_32 : decode cX5_cancels 32 = .ok (.if_icmp .le 15, 3) := dk_164 0 15 (dk_at dksX5_cancels_1 10 rfl rfl)
theorem dX5_cancels_35 : decode cX5_cancels 35 = .ok (.aload_n 0, 1) := dk_42 (dk_at dksX5_cancels_1 13 rfl rfl)
theorem dX5_cancels_36 : decode cX5_cancels 36 = .ok (.bipush 7, 2) := dk_16 7 (dk_at dksX5_cancels_1 14 rfl rfl)
theorem dX5_cancels_38 : decode cX5_cancels 38 = .ok (.aload_n 0, 1) := dk_42 (dk_at dksX5_cancels_1 16 rfl rfl)
theorem dX5_cancels_39 : decode cX5_cancels 39 = .ok (.iload_n 1, 1) := dk_27 (dk_at dksX5_cancels_1 17 rfl rfl)
theorem dX5_cancels_40 : decode cX5_cancels 40 = .ok (.invokevirtual 84, 3) := dk_182 0 84 (dk_at dksX5_cancels_1 18 rfl rfl)
theorem dX5_cancels_43 : decode cX5_cancels 43 = .ok (.invokevirtual 152, 3) := dk_182 0 152 (dk_at dksX5_cancels_1 21 rfl rfl)
theorem dX5_cancels_46 : decode cX5_cancels 46 = .ok (.ireturn, 1) := dk_172 (dk_at dksX5_cancels_2 0 rfl rfl)
theorem dX5_cancels_47 : decode cX5_cancels 47 = .ok (.aload_n 0, 1) := dk_42 (dk_at dksX5_cancels_2 1 rfl rfl)
theorem dX5_cancels_48 : decode cX5_cancels 48 = .ok (.iconst 0, 1) := dk_3 (dk_at dksX5_cancels_2 2 rfl rfl)
theorem dX5_cancels_49 : decode cX5_cancels 49 = .ok (.putfield 88, 3) := dk_181 0 88 (dk_at dksX5_cancels_2 3 rfl rfl)
theorem dX5_cancels_52 : decode cX5_cancels 52 = .ok (.aload_n 0, 1) := dk_42 (dk_at dksX5_cancels_2 6 rfl rfl)
theorem dX5_cancels_53 : decode cX5_cancels 53 = .ok (.iload_n 1, 1) := dk_27 (dk_at dksX5_cancels_2 7 rfl rfl)
theorem dX5_cancels_54 : decode cX5_cancels 54 = .ok (.iconst 0, 1) := dk_3 (dk_at dksX5_cancels_2 8 rfl rfl)
theorem dX5_cancels_55 : decode cX5_cancels 55 = .ok (.invokevirtual 134, 3) := dk_182 0 134 (dk_at dksX5_cancels_2 9 rfl rfl)
theorem dX5_cancels_58 : decode cX5_cancels 58 = .ok (.aload_n 0, 1) := dk_42 (dk_at dksX5_cancels_2 12 rfl rfl)
theorem dX5_cancels_59 : decode cX5_cancels 59 = .ok (.aload_n 0, 1) := dk_42 (dk_at dksX5_cancels_2 13 rfl rfl)
theorem dX5_cancels_60 : decode cX5_cancels 60 = .ok (.getfield 88, 3) := dk_180 0 88 (dk_at dksX5_cancels_2 14 rfl rfl)
theorem dX5_cancels_63 : decode cX5_cancels 63 = .ok (.invokevirtual 177, 3) := dk_182 0 177 (dk_at dksX5_cancels_2 17 rfl rfl)
theorem dX5_cancels_66 : decode cX5_cancels 66 = .ok (.ireturn, 1) := dk_172 (dk_at dksX5_cancels_2 20 rfl rfl)
abbrev cX5_decidesAndSends : ByteArray := prog_25_method_35_code
def dkwX5_decidesAndSends_0 : List UInt8 := [42, 27, 28, 182, 0, 104, 42, 42, 27, 182, 0, 108, 27, 182, 0, 111, 177]
abbrev dktX5_decidesAndSends_0 : List UInt8 := dkwX5_decidesAndSends_0 ++ []
theorem dksX5_decidesAndSends_0 : cX5_decidesAndSends.data.toList.drop 0 = dktX5_decidesAndSends_0 := by decide +kernel
theorem dX5_decidesAndSends_0 : decode cX5_decidesAndSends 0 = .ok (.aload_n 0, 1) := dk_42 (dk_at dksX5_decidesAndSends_0 0 rfl rfl)
theorem dX5_decidesAndSends_1 : decode cX5_decidesAndSends 1 = .ok (.iload_n 1, 1) := dk_27 (dk_at dksX5_decidesAndSends_0 1 rfl rfl)
theorem dX5_decidesAndSends_2 : decode cX5_decidesAndSends 2 = .ok (.iload_n 2, 1) := dk_28 (dk_at dksX5_decidesAndSends_0 2 rfl rfl)
theorem dX5_decidesAndSends_3 : decode cX5_decidesAndSends 3 = .ok (.invokevirtual 104, 3) := dk_182 0 104 (dk_at dksX5_decidesAndSends_0 3 rfl rfl)
theorem dX5_decidesAndSends_6 : decode cX5_decidesAndSends 6 = .ok (.aload_n 0, 1) := dk_42 (dk_at dksX5_decidesAndSends_0 6 rfl rfl)
theorem dX5_decidesAndSends_7 : decode cX5_decidesAndSends 7 = .ok (.aload_n 0, 1) := dk_42 (dk_at dksX5_decidesAndSends_0 7 rfl rfl)
theorem dX5_decidesAndSends_8 : decode cX5_decidesAndSends 8 = .ok (.iload_n 1, 1) := dk_27 (dk_at dksX5_decidesAndSends_0 8 rfl rfl)
theorem dX5_decidesAndSends_9 : decode cX5_decidesAndSends 9 = .ok (.invokevirtual 108, 3) := dk_182 0 108 (dk_at dksX5_decidesAndSends_0 9 rfl rfl)
theorem dX5_decidesAndSends_12 : decode cX5_decidesAndSends 12 = .ok (.iload_n 1, 1) := dk_27 (dk_at dksX5_decidesAndSends_0 12 rfl rfl)
theorem dX5_decidesAndSends_13 : decode cX5_decidesAndSends 13 = .ok (.invokevirtual 111, 3) := dk_182 0 111 (dk_at dksX5_decidesAndSends_0 13 rfl rfl)
theorem dX5_decidesAndSends_16 : decode cX5_decidesAndSends 16 = .ok (.return_, 1) := dk_177 (dk_at dksX5_decidesAndSends_0 16 rfl rfl)
abbrev cX5_decides : ByteArray := prog_25_method_33_code
def dkwX5_decides_2 : List UInt8 := [96, 181, 0, 101, 177]
abbrev dktX5_decides_2 : List UInt8 := dkwX5_decides_2 ++ []
def dkwX5_decides_1 : List UInt8 := [182, 0, 95, 42, 2, 28, 153, 0, 7, 4, 167, 0, 4, 5, 27, 182, 0, 98, 42, 89, 180, 0, 101, 4]
abbrev dktX5_decides_1 : List UInt8 := dkwX5_decides_1 ++ dktX5_decides_2
def dkwX5_decides_0 : List UInt8 := [42, 27, 3, 28, 153, 0, 7, 5, 167, 0, 4, 6, 182, 0, 95, 42, 27, 5, 42, 180, 0, 9, 3, 46]
abbrev dktX5_decides_0 : List UInt8 := dkwX5_decides_0 ++ dktX5_decides_1
theorem dksX5_decides_0 : cX5_decides.data.toList.drop 0 = dktX5_decides_0 := by decide +kernel
theorem dksX5_decides_1 : cX5_decides.data.toList.drop 24 = dktX5_decides_1 := dk_seg dksX5_decides_0 24 rfl rfl
theorem dksX5_decides_2 : cX5_decides.data.toList.drop 48 = dktX5_decides_2 := dk_seg dksX5_decides_1 24 rfl rfl
theorem dX5_decides_0 : decode cX5_decides 0 = .ok (.aload_n 0, 1) := dk_42 (dk_at dksX5_decides_0 0 rfl rfl)
theorem dX5_decides_1 : decode cX5_decides 1 = .ok (.iload_n 1, 1) := dk_27 (dk_at dksX5_decides_0 1 rfl rfl)
theorem dX5_decides_2 : decode cX5_decides 2 = .ok (.iconst 0, 1) := dk_3 (dk_at dksX5_decides_0 2 rfl rfl)
theorem dX5_decides_3 : decode cX5_decides 3 = .ok (.iload_n 2, 1) := dk_28 (dk_at dksX5_decides_0 3 rfl rfl)
theorem dX5_decides_4 : decode cX5_decides 4 = .ok (.ifCond .eq 7, 3) := dk_153 0 7 (dk_at dksX5_decides_0 4 rfl rfl)
theorem dX5_decides_7 : decode cX5_decides 7 = .ok (.iconst 2, 1) := dk_5 (dk_at dksX5_decides_0 7 rfl rfl)
theorem dX5_decides_8 : decode cX5_decides 8 = .ok (.goto 4, 3) := dk_167 0 4 (dk_at dksX5_decides_0 8 rfl rfl)
theorem dX5_decides_11 : decode cX5_decides 11 = .ok (.iconst 3, 1) := dk_6 (dk_at dksX5_decides_0 11 rfl rfl)
theorem dX5_decides_12 : decode cX5_decides 12 = .ok (.invokevirtual 95, 3) := dk_182 0 95 (dk_at dksX5_decides_0 12 rfl rfl)
theorem dX5_decides_15 : decode cX5_decides 15 = .ok (.aload_n 0, 1) := dk_42 (dk_at dksX5_decides_0 15 rfl rfl)
theorem dX5_decides_16 : decode cX5_decides 16 = .ok (.iload_n 1, 1) := dk_27 (dk_at dksX5_decides_0 16 rfl rfl)
theorem dX5_decides_17 : decode cX5_decides 17 = .ok (.iconst 2, 1) := dk_5 (dk_at dksX5_decides_0 17 rfl rfl)
theorem dX5_decides_18 : decode cX5_decides 18 = .ok (.aload_n 0, 1) := dk_42 (dk_at dksX5_decides_0 18 rfl rfl)
theorem dX5_decides_19 : decode cX5_decides 19 = .ok (.getfield 9, 3) := dk_180 0 9 (dk_at dksX5_decides_0 19 rfl rfl)
theorem dX5_decides_22 : decode cX5_decides 22 = .ok (.iconst 0, 1) := dk_3 (dk_at dksX5_decides_0 22 rfl rfl)
theorem dX5_decides_23 : decode cX5_decides 23 = .ok (.iaload, 1) := dk_46 (dk_at dksX5_decides_0 23 rfl rfl)
theorem dX5_decides_24 : decode cX5_decides 24 = .ok (.invokevirtual 95, 3) := dk_182 0 95 (dk_at dksX5_decides_1 0 rfl rfl)
theorem dX5_decides_27 : decode cX5_decides 27 = .ok (.aload_n 0, 1) := dk_42 (dk_at dksX5_decides_1 3 rfl rfl)
theorem dX5_decides_28 : decode cX5_decides 28 = .ok (.iconst (-1), 1) := dk_2 (dk_at dksX5_decides_1 4 rfl rfl)
theorem dX5_decides_29 : decode cX5_decides 29 = .ok (.iload_n 2, 1) := dk_28 (dk_at dksX5_decides_1 5 rfl rfl)
theorem dX5_decides_30 : decode cX5_decides 30 = .ok (.ifCond .eq 7, 3) := dk_153 0 7 (dk_at dksX5_decides_1 6 rfl rfl)
theorem dX5_decides_33 : decode cX5_decides 33 = .ok (.iconst 1, 1) := dk_4 (dk_at dksX5_decides_1 9 rfl rfl)
theorem dX5_decides_34 : decode cX5_decides 34 = .ok (.goto 4, 3) := dk_167 0 4 (dk_at dksX5_decides_1 10 rfl rfl)
theorem dX5_decides_37 : decode cX5_decides 37 = .ok (.iconst 2, 1) := dk_5 (dk_at dksX5_decides_1 13 rfl rfl)
theorem dX5_decides_38 : decode cX5_decides 38 = .ok (.iload_n 1, 1) := dk_27 (dk_at dksX5_decides_1 14 rfl rfl)
theorem dX5_decides_39 : decode cX5_decides 39 = .ok (.invokevirtual 98, 3) := dk_182 0 98 (dk_at dksX5_decides_1 15 rfl rfl)
theorem dX5_decides_42 : decode cX5_decides 42 = .ok (.aload_n 0, 1) := dk_42 (dk_at dksX5_decides_1 18 rfl rfl)
theorem dX5_decides_43 : decode cX5_decides 43 = .ok (.dup, 1) := dk_89 (dk_at dksX5_decides_1 19 rfl rfl)
theorem dX5_decides_44 : decode cX5_decides 44 = .ok (.getfield 101, 3) := dk_180 0 101 (dk_at dksX5_decides_1 20 rfl rfl)
theorem dX5_decides_47 : decode cX5_decides 47 = .ok (.iconst 1, 1) := dk_4 (dk_at dksX5_decides_1 23 rfl rfl)
theorem dX5_decides_48 : decode cX5_decides 48 = .ok (.iadd, 1) := dk_96 (dk_at dksX5_decides_2 0 rfl rfl)
theorem dX5_decides_49 : decode cX5_decides 49 = .ok (.putfield 101, 3) := dk_181 0 101 (dk_at dksX5_decides_2 1 rfl rfl)
theorem dX5_decides_52 : decode cX5_decides 52 = .ok (.return_, 1) := dk_177 (dk_at dksX5_decides_2 4 rfl rfl)
abbrev cX5_decision : ByteArray := prog_25_method_34_code
def dkwX5_decision_0 : List UInt8 := [42, 27, 182, 0, 84, 5, 160, 0, 7, 6, 167, 0, 4, 7, 172]
abbrev dktX5_decision_0 : List UInt8 := dkwX5_decision_0 ++ []
theorem dksX5_decision_0 : cX5_decision.data.toList.drop 0 = dktX5_decision_0 := by decide +kernel
theorem dX5_decision_0 : decode cX5_decision 0 = .ok (.aload_n 0, 1) := dk_42 (dk_at dksX5_decision_0 0 rfl rfl)
theorem dX5_decision_1 : decode cX5_decision 1 = .ok (.iload_n 1, 1) := dk_27 (dk_at dksX5_decision_0 1 rfl rfl)
theorem dX5_decision_2 : decode cX5_decision 2 = .ok (.invokevirtual 84, 3) := dk_182 0 84 (dk_at dksX5_decision_0 2 rfl rfl)
theorem dX5_decision_5 : decode cX5_decision 5 = .ok (.iconst 2, 1) := dk_5 (dk_at dksX5_decision_0 5 rfl rfl)
theorem dX5_decision_6 : decode cX5_decision 6 = .ok (.if_icmp .ne 7, 3) := dk_160 0 7 (dk_at dksX5_decision_0 6 rfl rfl)
theorem dX5_decision_9 : decode cX5_decision 9 = .ok (.iconst 3, 1) := dk_6 (dk_at dksX5_decision_0 9 rfl rfl)
theorem dX5_decision_10 : decode cX5_decision 10 = .ok (.goto 4, 3) := dk_167 0 4 (dk_at dksX5_decision_0 10 rfl rfl)
theorem dX5_decision_13 : decode cX5_decision 13 = .ok (.iconst 4, 1) := dk_7 (dk_at dksX5_decision_0 13 rfl rfl)
theorem dX5_decision_14 : decode cX5_decision 14 = .ok (.ireturn, 1) := dk_172 (dk_at dksX5_decision_0 14 rfl rfl)
abbrev cX5_faint : ByteArray := prog_25_method_58_code
def dkwX5_faint_0 : List UInt8 := [42, 182, 0, 146, 42, 42, 27, 182, 0, 196, 182, 0, 183, 172]
abbrev dktX5_faint_0 : List UInt8 := dkwX5_faint_0 ++ []
theorem dksX5_faint_0 : cX5_faint.data.toList.drop 0 = dktX5_faint_0 := by decide +kernel
theorem dX5_faint_0 : decode cX5_faint 0 = .ok (.aload_n 0, 1) := dk_42 (dk_at dksX5_faint_0 0 rfl rfl)
theorem dX5_faint_1 : decode cX5_faint 1 = .ok (.invokevirtual 146, 3) := dk_182 0 146 (dk_at dksX5_faint_0 1 rfl rfl)
theorem dX5_faint_4 : decode cX5_faint 4 = .ok (.aload_n 0, 1) := dk_42 (dk_at dksX5_faint_0 4 rfl rfl)
theorem dX5_faint_5 : decode cX5_faint 5 = .ok (.aload_n 0, 1) := dk_42 (dk_at dksX5_faint_0 5 rfl rfl)
theorem dX5_faint_6 : decode cX5_faint 6 = .ok (.iload_n 1, 1) := dk_27 (dk_at dksX5_faint_0 6 rfl rfl)
theorem dX5_faint_7 : decode cX5_faint 7 = .ok (.invokevirtual 196, 3) := dk_182 0 196 (dk_at dksX5_faint_0 7 rfl rfl)
theorem dX5_faint_10 : decode cX5_faint 10 = .ok (.invokevirtual 183, 3) := dk_182 0 183 (dk_at dksX5_faint_0 10 rfl rfl)
theorem dX5_faint_13 : decode cX5_faint 13 = .ok (.ireturn, 1) := dk_172 (dk_at dksX5_faint_0 13 rfl rfl)
abbrev cX5_faints : ByteArray := prog_25_method_57_code
def dkwX5_faints_1 : List UInt8 := [16, 8, 27, 182, 0, 152, 172, 42, 27, 4, 182, 0, 189, 42, 42, 182, 0, 192, 182, 0, 177, 172]
abbrev dktX5_faints_1 : List UInt8 := dkwX5_faints_1 ++ []
def dkwX5_faints_0 : List UInt8 := [27, 2, 159, 0, 13, 42, 27, 182, 0, 158, 154, 0, 5, 4, 172, 42, 27, 182, 0, 124, 153, 0, 11, 42]
abbrev dktX5_faints_0 : List UInt8 := dkwX5_faints_0 ++ dktX5_faints_1
theorem dksX5_faints_0 : cX5_faints.data.toList.drop 0 = dktX5_faints_0 := by decide +kernel
theorem dksX5_faints_1 : cX5_faints.data.toList.drop 24 = dktX5_faints_1 := dk_seg dksX5_faints_0 24 rfl rfl
theorem dX5_faints_0 : decode cX5_faints 0 = .ok (.iload_n 1, 1) := dk_27 (dk_at dksX5_faints_0 0 rfl rfl)
theorem dX5_faints_1 : decode cX5_faints 1 = .ok (.iconst (-1), 1) := dk_2 (dk_at dksX5_faints_0 1 rfl rfl)
theorem dX5_faints_2 : decode cX5_faints 2 = .ok (.if_icmp .eq 13, 3) := dk_159 0 13 (dk_at dksX5_faints_0 2 rfl rfl)
theorem dX5_faints_5 : decode cX5_faints 5 = .ok (.aload_n 0, 1) := dk_42 (dk_at dksX5_faints_0 5 rfl rfl)
theorem dX5_faints_6 : decode cX5_faints 6 = .ok (.iload_n 1, 1) := dk_27 (dk_at dksX5_faints_0 6 rfl rfl)
theorem dX5_faints_7 : decode cX5_faints 7 = .ok (.invokevirtual 158, 3) := dk_182 0 158 (dk_at dksX5_faints_0 7 rfl rfl)
theorem dX5_faints_10 : decode cX5_faints 10 = .ok (.ifCond .ne 5, 3) := dk_154 0 5 (dk_at dksX5_faints_0 10 rfl rfl)
theorem dX5_faints_13 : decode cX5_faints 13 = .ok (.iconst 1, 1) := dk_4 (dk_at dksX5_faints_0 13 rfl rfl)
theorem dX5_faints_14 : decode cX5_faints 14 = .ok (.ireturn, 1) := dk_172 (dk_at dksX5_faints_0 14 rfl rfl)
theorem dX5_faints_15 : decode cX5_faints 15 = .ok (.aload_n 0, 1) := dk_42 (dk_at dksX5_faints_0 15 rfl rfl)
theorem dX5_faints_16 : decode cX5_faints 16 = .ok (.iload_n 1, 1) := dk_27 (dk_at dksX5_faints_0 16 rfl rfl)
theorem dX5_faints_17 : decode cX5_faints 17 = .ok (.invokevirtual 124, 3) := dk_182 0 124 (dk_at dksX5_faints_0 17 rfl rfl)
theorem dX5_faints_20 : decode cX5_faints 20 = .ok (.ifCond .eq 11, 3) := dk_153 0 11 (dk_at dksX5_faints_0 20 rfl rfl)
theorem dX5_faints_23 : decode cX5_faints 23 = .ok (.aload_n 0, 1) := dk_42 (dk_at dksX5_faints_0 23 rfl rfl)
theorem dX5_faints_24 : decode cX5_faints 24 = .ok (.bipush 8, 2) := dk_16 8 (dk_at dksX5_faints_1 0 rfl rfl)
theorem dX5_faints_26 : decode cX5_faints 26 = .ok (.iload_n 1, 1) := dk_27 (dk_at dksX5_faints_1 2 rfl rfl)
theorem dX5_faints_27 : decode cX5_faints 27 = .ok (.invokevirtual 152, 3) := dk_182 0 152 (dk_at dksX5_faints_1 3 rfl rfl)
theorem dX5_faints_30 : decode cX5_faints 30 = .ok (.ireturn, 1) := dk_172 (dk_at dksX5_faints_1 6 rfl rfl)
theorem dX5_faints_31 : decode cX5_faints 31 = .ok (.aload_n 0, 1) := dk_42 (dk_at dksX5_faints_1 7 rfl rfl)
theorem dX5_faints_32 : decode cX5_faints 32 = .ok (.iload_n 1, 1) := dk_27 (dk_at dksX5_faints_1 8 rfl rfl)
theorem dX5_faints_33 : decode cX5_faints 33 = .ok (.iconst 1, 1) := dk_4 (dk_at dksX5_faints_1 9 rfl rfl)
theorem dX5_faints_34 : decode cX5_faints 34 = .ok (.invokevirtual 189, 3) := dk_182 0 189 (dk_at dksX5_faints_1 10 rfl rfl)
theorem dX5_faints_37 : decode cX5_faints 37 = .ok (.aload_n 0, 1) := dk_42 (dk_at dksX5_faints_1 13 rfl rfl)
theorem dX5_faints_38 : decode cX5_faints 38 = .ok (.aload_n 0, 1) := dk_42 (dk_at dksX5_faints_1 14 rfl rfl)
theorem dX5_faints_39 : decode cX5_faints 39 = .ok (.invokevirtual 192, 3) := dk_182 0 192 (dk_at dksX5_faints_1 15 rfl rfl)
theorem dX5_faints_42 : decode cX5_faints 42 = .ok (.invokevirtual 177, 3) := dk_182 0 177 (dk_at dksX5_faints_1 18 rfl rfl)
theorem dX5_faints_45 : decode cX5_faints 45 = .ok (.ireturn, 1) := dk_172 (dk_at dksX5_faints_1 21 rfl rfl)
abbrev cX5_setsOut : ByteArray := prog_25_method_56_code
def dkwX5_setsOut_0 : List UInt8 := [27, 2, 160, 0, 13, 42, 180, 0, 9, 6, 28, 79, 167, 0, 10, 42, 27, 4, 28, 182, 0, 115, 177]
abbrev dktX5_setsOut_0 : List UInt8 := dkwX5_setsOut_0 ++ []
theorem dksX5_setsOut_0 : cX5_setsOut.data.toList.drop 0 = dktX5_setsOut_0 := by decide +kernel
theorem dX5_setsOut_0 : decode cX5_setsOut 0 = .ok (.iload_n 1, 1) := dk_27 (dk_at dksX5_setsOut_0 0 rfl rfl)
theorem dX5_setsOut_1 : decode cX5_setsOut 1 = .ok (.iconst (-1), 1) := dk_2 (dk_at dksX5_setsOut_0 1 rfl rfl)
theorem dX5_setsOut_2 : decode cX5_setsOut 2 = .ok (.if_icmp .ne 13, 3) := dk_160 0 13 (dk_at dksX5_setsOut_0 2 rfl rfl)
theorem dX5_setsOut_5 : decode cX5_setsOut 5 = .ok (.aload_n 0, 1) := dk_42 (dk_at dksX5_setsOut_0 5 rfl rfl)
theorem dX5_setsOut_6 : decode cX5_setsOut 6 = .ok (.getfield 9, 3) := dk_180 0 9 (dk_at dksX5_setsOut_0 6 rfl rfl)
theorem dX5_setsOut_9 : decode cX5_setsOut 9 = .ok (.iconst 3, 1) := dk_6 (dk_at dksX5_setsOut_0 9 rfl rfl)
theorem dX5_setsOut_10 : decode cX5_setsOut 10 = .ok (.iload_n 2, 1) := dk_28 (dk_at dksX5_setsOut_0 10 rfl rfl)
theorem dX5_setsOut_11 : decode cX5_setsOut 11 = .ok (.iastore, 1) := dk_79 (dk_at dksX5_setsOut_0 11 rfl rfl)
theorem dX5_setsOut_12 : decode cX5_setsOut 12 = .ok (.goto 10, 3) := dk_167 0 10 (dk_at dksX5_setsOut_0 12 rfl rfl)
theorem dX5_setsOut_15 : decode cX5_setsOut 15 = .ok (.aload_n 0, 1) := dk_42 (dk_at dksX5_setsOut_0 15 rfl rfl)
theorem dX5_setsOut_16 : decode cX5_setsOut 16 = .ok (.iload_n 1, 1) := dk_27 (dk_at dksX5_setsOut_0 16 rfl rfl)
theorem dX5_setsOut_17 : decode cX5_setsOut 17 = .ok (.iconst 1, 1) := dk_4 (dk_at dksX5_setsOut_0 17 rfl rfl)
theorem dX5_setsOut_18 : decode cX5_setsOut 18 = .ok (.iload_n 2, 1) := dk_28 (dk_at dksX5_setsOut_0 18 rfl rfl)
theorem dX5_setsOut_19 : decode cX5_setsOut 19 = .ok (.invokevirtual 115, 3) := dk_182 0 115 (dk_at dksX5_setsOut_0 19 rfl rfl)
theorem dX5_setsOut_22 : decode cX5_setsOut 22 = .ok (.return_, 1) := dk_177 (dk_at dksX5_setsOut_0 22 rfl rfl)
abbrev cX5_outs : ByteArray := prog_25_method_55_code
def dkwX5_outs_1 : List UInt8 := [182, 0, 66, 96, 60, 132, 2, 1, 167, 255, 234, 27, 172]
abbrev dktX5_outs_1 : List UInt8 := dkwX5_outs_1 ++ []
def dkwX5_outs_0 : List UInt8 := [42, 180, 0, 9, 6, 46, 60, 3, 61, 28, 42, 180, 0, 9, 4, 46, 162, 0, 18, 27, 42, 28, 4]
abbrev dktX5_outs_0 : List UInt8 := dkwX5_outs_0 ++ dktX5_outs_1
theorem dksX5_outs_0 : cX5_outs.data.toList.drop 0 = dktX5_outs_0 := by decide +kernel
theorem dksX5_outs_1 : cX5_outs.data.toList.drop 23 = dktX5_outs_1 := dk_seg dksX5_outs_0 23 rfl rfl
theorem dX5_outs_0 : decode cX5_outs 0 = .ok (.aload_n 0, 1) := dk_42 (dk_at dksX5_outs_0 0 rfl rfl)
theorem dX5_outs_1 : decode cX5_outs 1 = .ok (.getfield 9, 3) := dk_180 0 9 (dk_at dksX5_outs_0 1 rfl rfl)
theorem dX5_outs_4 : decode cX5_outs 4 = .ok (.iconst 3, 1) := dk_6 (dk_at dksX5_outs_0 4 rfl rfl)
theorem dX5_outs_5 : decode cX5_outs 5 = .ok (.iaload, 1) := dk_46 (dk_at dksX5_outs_0 5 rfl rfl)
theorem dX5_outs_6 : decode cX5_outs 6 = .ok (.istore_n 1, 1) := dk_60 (dk_at dksX5_outs_0 6 rfl rfl)
theorem dX5_outs_7 : decode cX5_outs 7 = .ok (.iconst 0, 1) := dk_3 (dk_at dksX5_outs_0 7 rfl rfl)
theorem dX5_outs_8 : decode cX5_outs 8 = .ok (.istore_n 2, 1) := dk_61 (dk_at dksX5_outs_0 8 rfl rfl)
theorem dX5_outs_9 : decode cX5_outs 9 = .ok (.iload_n 2, 1) := dk_28 (dk_at dksX5_outs_0 9 rfl rfl)
theorem dX5_outs_10 : decode cX5_outs 10 = .ok (.aload_n 0, 1) := dk_42 (dk_at dksX5_outs_0 10 rfl rfl)
theorem dX5_outs_11 : decode cX5_outs 11 = .ok (.getfield 9, 3) := dk_180 0 9 (dk_at dksX5_outs_0 11 rfl rfl)
theorem dX5_outs_14 : decode cX5_outs 14 = .ok (.iconst 1, 1) := dk_4 (dk_at dksX5_outs_0 14 rfl rfl)
theorem dX5_outs_15 : decode cX5_outs 15 = .ok (.iaload, 1) := dk_46 (dk_at dksX5_outs_0 15 rfl rfl)
theorem dX5_outs_16 : decode cX5_outs 16 = .ok (.if_icmp .ge 18, 3) := dk_162 0 18 (dk_at dksX5_outs_0 16 rfl rfl)
theorem dX5_outs_19 : decode cX5_outs 19 = .ok (.iload_n 1, 1) := dk_27 (dk_at dksX5_outs_0 19 rfl rfl)
theorem dX5_outs_20 : decode cX5_outs 20 = .ok (.aload_n 0, 1) := dk_42 (dk_at dksX5_outs_0 20 rfl rfl)
theorem dX5_outs_21 : decode cX5_outs 21 = .ok (.iload_n 2, 1) := dk_28 (dk_at dksX5_outs_0 21 rfl rfl)
theorem dX5_outs_22 : decode cX5_outs 22 = .ok (.iconst 1, 1) := dk_4 (dk_at dksX5_outs_0 22 rfl rfl)
theorem dX5_outs_23 : decode cX5_outs 23 = .ok (.invokevirtual 66, 3) := dk_182 0 66 (dk_at dksX5_outs_1 0 rfl rfl)
theorem dX5_outs_26 : decode cX5_outs 26 = .ok (.iadd, 1) := dk_96 (dk_at dksX5_outs_1 3 rfl rfl)
theorem dX5_outs_27 : decode cX5_outs 27 = .ok (.istore_n 1, 1) := dk_60 (dk_at dksX5_outs_1 4 rfl rfl)
theorem dX5_outs_28 : decode cX5_outs 28 = .ok (.iinc 2 1, 3) := dk_132 2 1 (dk_at dksX5_outs_1 5 rfl rfl)
theorem dX5_outs_31 : decode cX5_outs 31 = .ok (.goto (-22), 3) := dk_167 255 234 (dk_at dksX5_outs_1 8 rfl rfl)
theorem dX5_outs_34 : decode cX5_outs 34 = .ok (.iload_n 1, 1) := dk_27 (dk_at dksX5_outs_1 11 rfl rfl)
theorem dX5_outs_35 : decode cX5_outs 35 = .ok (.ireturn, 1) := dk_172 (dk_at dksX5_outs_1 12 rfl rfl)
abbrev cX5_wake : ByteArray := prog_25_method_60_code
def dkwX5_wake_0 : List UInt8 := [42, 182, 0, 146, 42, 42, 27, 182, 0, 199, 182, 0, 183, 172]
abbrev dktX5_wake_0 : List UInt8 := dkwX5_wake_0 ++ []
theorem dksX5_wake_0 : cX5_wake.data.toList.drop 0 = dktX5_wake_0 := by decide +kernel
theorem dX5_wake_0 : decode cX5_wake 0 = .ok (.aload_n 0, 1) := dk_42 (dk_at dksX5_wake_0 0 rfl rfl)
theorem dX5_wake_1 : decode cX5_wake 1 = .ok (.invokevirtual 146, 3) := dk_182 0 146 (dk_at dksX5_wake_0 1 rfl rfl)
theorem dX5_wake_4 : decode cX5_wake 4 = .ok (.aload_n 0, 1) := dk_42 (dk_at dksX5_wake_0 4 rfl rfl)
theorem dX5_wake_5 : decode cX5_wake 5 = .ok (.aload_n 0, 1) := dk_42 (dk_at dksX5_wake_0 5 rfl rfl)
theorem dX5_wake_6 : decode cX5_wake 6 = .ok (.iload_n 1, 1) := dk_27 (dk_at dksX5_wake_0 6 rfl rfl)
theorem dX5_wake_7 : decode cX5_wake 7 = .ok (.invokevirtual 199, 3) := dk_182 0 199 (dk_at dksX5_wake_0 7 rfl rfl)
theorem dX5_wake_10 : decode cX5_wake 10 = .ok (.invokevirtual 183, 3) := dk_182 0 183 (dk_at dksX5_wake_0 10 rfl rfl)
theorem dX5_wake_13 : decode cX5_wake 13 = .ok (.ireturn, 1) := dk_172 (dk_at dksX5_wake_0 13 rfl rfl)
abbrev cX5_wakes : ByteArray := prog_25_method_59_code
def dkwX5_wakes_7 : List UInt8 := [42, 180, 0, 88, 182, 0, 177, 172]
abbrev dktX5_wakes_7 : List UInt8 := dkwX5_wakes_7 ++ []
def dkwX5_wakes_6 : List UInt8 := [42, 28, 27, 182, 0, 81, 4, 160, 0, 10, 42, 8, 27, 28, 182, 0, 91, 132, 2, 1, 167, 255, 217, 42]
abbrev dktX5_wakes_6 : List UInt8 := dkwX5_wakes_6 ++ dktX5_wakes_7
def dkwX5_wakes_5 : List UInt8 := [167, 0, 47, 3, 61, 28, 42, 180, 0, 9, 5, 46, 162, 0, 35, 42, 28, 27, 182, 0, 77, 153, 0, 20]
abbrev dktX5_wakes_5 : List UInt8 := dkwX5_wakes_5 ++ dktX5_wakes_6
def dkwX5_wakes_4 : List UInt8 := [182, 0, 84, 4, 164, 0, 13, 42, 42, 28, 182, 0, 108, 28, 182, 0, 111, 132, 2, 1, 167, 255, 224]
abbrev dktX5_wakes_4 : List UInt8 := dkwX5_wakes_4 ++ dktX5_wakes_5
def dkwX5_wakes_3 : List UInt8 := [182, 0, 104, 132, 2, 1, 167, 255, 228, 3, 61, 28, 42, 180, 0, 9, 5, 46, 162, 0, 28, 42, 28]
abbrev dktX5_wakes_3 : List UInt8 := dkwX5_wakes_3 ++ dktX5_wakes_4
def dkwX5_wakes_2 : List UInt8 := [61, 28, 42, 180, 0, 9, 5, 46, 162, 0, 24, 42, 28, 182, 0, 84, 4, 160, 0, 9, 42, 28, 3]
abbrev dktX5_wakes_2 : List UInt8 := dkwX5_wakes_2 ++ dktX5_wakes_3
def dkwX5_wakes_1 : List UInt8 := [16, 8, 27, 182, 0, 152, 172, 42, 27, 3, 182, 0, 189, 42, 3, 181, 0, 88, 27, 2, 160, 0, 76, 3]
abbrev dktX5_wakes_1 : List UInt8 := dkwX5_wakes_1 ++ dktX5_wakes_2
def dkwX5_wakes_0 : List UInt8 := [27, 2, 159, 0, 13, 42, 27, 182, 0, 158, 154, 0, 5, 4, 172, 42, 27, 182, 0, 124, 154, 0, 11, 42]
abbrev dktX5_wakes_0 : List UInt8 := dkwX5_wakes_0 ++ dktX5_wakes_1
theorem dksX5_wakes_0 : cX5_wakes.data.toList.drop 0 = dktX5_wakes_0 := by decide +kernel
theorem dksX5_wakes_1 : cX5_wakes.data.toList.drop 24 = dktX5_wakes_1 := dk_seg dksX5_wakes_0 24 rfl rfl
theorem dksX5_wakes_2 : cX5_wakes.data.toList.drop 48 = dktX5_wakes_2 := dk_seg dksX5_wakes_1 24 rfl rfl
theorem dksX5_wakes_3 : cX5_wakes.data.toList.drop 71 = dktX5_wakes_3 := dk_seg dksX5_wakes_2 23 rfl rfl
theorem dksX5_wakes_4 : cX5_wakes.data.toList.drop 94 = dktX5_wakes_4 := dk_seg dksX5_wakes_3 23 rfl rfl
theorem dksX5_wakes_5 : cX5_wakes.data.toList.drop 117 = dktX5_wakes_5 := dk_seg dksX5_wakes_4 23 rfl rfl
theorem dksX5_wakes_6 : cX5_wakes.data.toList.drop 141 = dktX5_wakes_6 := dk_seg dksX5_wakes_5 24 rfl rfl
theorem dksX5_wakes_7 : cX5_wakes.data.toList.drop 165 = dktX5_wakes_7 := dk_seg dksX5_wakes_6 24 rfl rfl
theorem dX5_wakes_0 : decode cX5_wakes 0 = .ok (.iload_n 1, 1) := dk_27 (dk_at dksX5_wakes_0 0 rfl rfl)
theorem dX5_wakes_1 : decode cX5_wakes 1 = .ok (.iconst (-1), 1) := dk_2 (dk_at dksX5_wakes_0 1 rfl rfl)
theorem dX5_wakes_2 : decode cX5_wakes 2 = .ok (.if_icmp .eq 13, 3) := dk_159 0 13 (dk_at dksX5_wakes_0 2 rfl rfl)
theorem dX5_wakes_5 : decode cX5_wakes 5 = .ok (.aload_n 0, 1) := dk_42 (dk_at dksX5_wakes_0 5 rfl rfl)
theorem dX5_wakes_6 : decode cX5_wakes 6 = .ok (.iload_n 1, 1) := dk_27 (dk_at dksX5_wakes_0 6 rfl rfl)
theorem dX5_wakes_7 : decode cX5_wakes 7 = .ok (.invokevirtual 158, 3) := dk_182 0 158 (dk_at dksX5_wakes_0 7 rfl rfl)
theorem dX5_wakes_10 : decode cX5_wakes 10 = .ok (.ifCond .ne 5, 3) := dk_154 0 5 (dk_at dksX5_wakes_0 10 rfl rfl)
theorem dX5_wakes_13 : decode cX5_wakes 13 = .ok (.iconst 1, 1) := dk_4 (dk_at dksX5_wakes_0 13 rfl rfl)
theorem dX5_wakes_14 : decode cX5_wakes 14 = .ok (.ireturn, 1) := dk_172 (dk_at dksX5_wakes_0 14 rfl rfl)
theorem dX5_wakes_15 : decode cX5_wakes 15 = .ok (.aload_n 0, 1) := dk_42 (dk_at dksX5_wakes_0 15 rfl rfl)
theorem dX5_wakes_16 : decode cX5_wakes 16 = .ok (.iload_n 1, 1) := dk_27 (dk_at dksX5_wakes_0 16 rfl rfl)
theorem dX5_wakes_17 : decode cX5_wakes 17 = .ok (.invokevirtual 124, 3) := dk_182 0 124 (dk_at dksX5_wakes_0 17 rfl rfl)
theorem dX5_wakes_20 : decode cX5_wakes 20 = .ok (.ifCond .ne 11, 3) := dk_154 0 11 (dk_at dksX5_wakes_0 20 rfl rfl)
theorem dX5_wakes_23 : decode cX5_wakes 23 = .ok (.aload_n 0, 1) := dk_42 (dk_at dksX5_wakes_0 23 rfl rfl)
theorem dX5_wakes_24 : decode cX5_wakes 24 = .ok (.bipush 8, 2) := dk_16 8 (dk_at dksX5_wakes_1 0 rfl rfl)
theorem dX5_wakes_26 : decode cX5_wakes 26 = .ok (.iload_n 1, 1) := dk_27 (dk_at dksX5_wakes_1 2 rfl rfl)
theorem dX5_wakes_27 : decode cX5_wakes 27 = .ok (.invokevirtual 152, 3) := dk_182 0 152 (dk_at dksX5_wakes_1 3 rfl rfl)
theorem dX5_wakes_30 : decode cX5_wakes 30 = .ok (.ireturn, 1) := dk_172 (dk_at dksX5_wakes_1 6 rfl rfl)
theorem dX5_wakes_31 : decode cX5_wakes 31 = .ok (.aload_n 0, 1) := dk_42 (dk_at dksX5_wakes_1 7 rfl rfl)
theorem dX5_wakes_32 : decode cX5_wakes 32 = .ok (.iload_n 1, 1) := dk_27 (dk_at dksX5_wakes_1 8 rfl rfl)
theorem dX5_wakes_33 : decode cX5_wakes 33 = .ok (.iconst 0, 1) := dk_3 (dk_at dksX5_wakes_1 9 rfl rfl)
theorem dX5_wakes_34 : decode cX5_wakes 34 = .ok (.invokevirtual 189, 3) := dk_182 0 189 (dk_at dksX5_wakes_1 10 rfl rfl)
theorem dX5_wakes_37 : decode cX5_wakes 37 = .ok (.aload_n 0, 1) := dk_42 (dk_at dksX5_wakes_1 13 rfl rfl)
theorem dX5_wakes_38 : decode cX5_wakes 38 = .ok (.iconst 0, 1) := dk_3 (dk_at dksX5_wakes_1 14 rfl rfl)
theorem dX5_wakes_39 : decode cX5_wakes 39 = .ok (.putfield 88, 3) := dk_181 0 88 (dk_at dksX5_wakes_1 15 rfl rfl)
theorem dX5_wakes_42 : decode cX5_wakes 42 = .ok (.iload_n 1, 1) := dk_27 (dk_at dksX5_wakes_1 18 rfl rfl)
theorem dX5_wakes_43 : decode cX5_wakes 43 = .ok (.iconst (-1), 1) := dk_2 (dk_at dksX5_wakes_1 19 rfl rfl)
theorem dX5_wakes_44 : decode cX5_wakes 44 = .ok (.if_icmp .ne 76, 3) := dk_160 0 76 (dk_at dksX5_wakes_1 20 rfl rfl)
theorem dX5_wakes_47 : decode cX5_wakes 47 = .ok (.iconst 0, 1) := dk_3 (dk_at dksX5_wakes_1 23 rfl rfl)
theorem dX5_wakes_48 : decode cX5_wakes 48 = .ok (.istore_n 2, 1) := dk_61 (dk_at dksX5_wakes_2 0 rfl rfl)
theorem dX5_wakes_49 : decode cX5_wakes 49 = .ok (.iload_n 2, 1) := dk_28 (dk_at dksX5_wakes_2 1 rfl rfl)
theorem dX5_wakes_50 : decode cX5_wakes 50 = .ok (.aload_n 0, 1) := dk_42 (dk_at dksX5_wakes_2 2 rfl rfl)
theorem dX5_wakes_51 : decode cX5_wakes 51 = .ok (.getfield 9, 3) := dk_180 0 9 (dk_at dksX5_wakes_2 3 rfl rfl)
theorem dX5_wakes_54 : decode cX5_wakes 54 = .ok (.iconst 2, 1) := dk_5 (dk_at dksX5_wakes_2 6 rfl rfl)
theorem dX5_wakes_55 : decode cX5_wakes 55 = .ok (.iaload, 1) := dk_46 (dk_at dksX5_wakes_2 7 rfl rfl)
theorem dX5_wakes_56 : decode cX5_wakes 56 = .ok (.if_icmp .ge 24, 3) := dk_162 0 24 (dk_at dksX5_wakes_2 8 rfl rfl)
theorem dX5_wakes_59 : decode cX5_wakes 59 = .ok (.aload_n 0, 1) := dk_42 (dk_at dksX5_wakes_2 11 rfl rfl)
theorem dX5_wakes_60 : decode cX5_wakes 60 = .ok (.iload_n 2, 1) := dk_28 (dk_at dksX5_wakes_2 12 rfl rfl)
theorem dX5_wakes_61 : decode cX5_wakes 61 = .ok (.invokevirtual 84, 3) := dk_182 0 84 (dk_at dksX5_wakes_2 13 rfl rfl)
theorem dX5_wakes_64 : decode cX5_wakes 64 = .ok (.iconst 1, 1) := dk_4 (dk_at dksX5_wakes_2 16 rfl rfl)
theorem dX5_wakes_65 : decode cX5_wakes 65 = .ok (.if_icmp .ne 9, 3) := dk_160 0 9 (dk_at dksX5_wakes_2 17 rfl rfl)
theorem dX5_wakes_68 : decode cX5_wakes 68 = .ok (.aload_n 0, 1) := dk_42 (dk_at dksX5_wakes_2 20 rfl rfl)
theorem dX5_wakes_69 : decode cX5_wakes 69 = .ok (.iload_n 2, 1) := dk_28 (dk_at dksX5_wakes_2 21 rfl rfl)
theorem dX5_wakes_70 : decode cX5_wakes 70 = .ok (.iconst 0, 1) := dk_3 (dk_at dksX5_wakes_2 22 rfl rfl)
theorem dX5_wakes_71 : decode cX5_wakes 71 = .ok (.invokevirtual 104, 3) := dk_182 0 104 (dk_at dksX5_wakes_3 0 rfl rfl)
theorem dX5_wakes_74 : decode cX5_wakes 74 = .ok (.iinc 2 1, 3) := dk_132 2 1 (dk_at dksX5_wakes_3 3 rfl rfl)
theorem dX5_wakes_77 : decode cX5_wakes 77 = .ok (.goto (-28), 3) := dk_167 255 228 (dk_at dksX5_wakes_3 6 rfl rfl)
theorem dX5_wakes_80 : decode cX5_wakes 80 = .ok (.iconst 0, 1) := dk_3 (dk_at dksX5_wakes_3 9 rfl rfl)
theorem dX5_wakes_81 : decode cX5_wakes 81 = .ok (.istore_n 2, 1) := dk_61 (dk_at dksX5_wakes_3 10 rfl rfl)
theorem dX5_wakes_82 : decode cX5_wakes 82 = .ok (.iload_n 2, 1) := dk_28 (dk_at dksX5_wakes_3 11 rfl rfl)
theorem dX5_wakes_83 : decode cX5_wakes 83 = .ok (.aload_n 0, 1) := dk_42 (dk_at dksX5_wakes_3 12 rfl rfl)
theorem dX5_wakes_84 : decode cX5_wakes 84 = .ok (.getfield 9, 3) := dk_180 0 9 (dk_at dksX5_wakes_3 13 rfl rfl)
theorem dX5_wakes_87 : decode cX5_wakes 87 = .ok (.iconst 2, 1) := dk_5 (dk_at dksX5_wakes_3 16 rfl rfl)
theorem dX5_wakes_88 : decode cX5_wakes 88 = .ok (.iaload, 1) := dk_46 (dk_at dksX5_wakes_3 17 rfl rfl)
theorem dX5_wakes_89 : decode cX5_wakes 89 = .ok (.if_icmp .ge 28, 3) := dk_162 0 28 (dk_at dksX5_wakes_3 18 rfl rfl)
theorem dX5_wakes_92 : decode cX5_wakes 92 = .ok (.aload_n 0, 1) := dk_42 (dk_at dksX5_wakes_3 21 rfl rfl)
theorem dX5_wakes_93 : decode cX5_wakes 93 = .ok (.iload_n 2, 1) := dk_28 (dk_at dksX5_wakes_3 22 rfl rfl)
theorem dX5_wakes_94 : decode cX5_wakes 94 = .ok (.invokevirtual 84, 3) := dk_182 0 84 (dk_at dksX5_wakes_4 0 rfl rfl)
theorem dX5_wakes_97 : decode cX5_wakes 97 = .ok (.iconst 1, 1) := dk_4 (dk_at dksX5_wakes_4 3 rfl rfl)
theorem dX5_wakes_98 : decode cX5_wakes 98 = .ok (.if_icmp .le 13, 3) := dk_164 0 13 (dk_at dksX5_wakes_4 4 rfl rfl)
theorem dX5_wakes_101 : decode cX5_wakes 101 = .ok (.aload_n 0, 1) := dk_42 (dk_at dksX5_wakes_4 7 rfl rfl)
theorem dX5_wakes_102 : decode cX5_wakes 102 = .ok (.aload_n 0, 1) := dk_42 (dk_at dksX5_wakes_4 8 rfl rfl)
theorem dX5_wakes_103 : decode cX5_wakes 103 = .ok (.iload_n 2, 1) := dk_28 (dk_at dksX5_wakes_4 9 rfl rfl)
theorem dX5_wakes_104 : decode cX5_wakes 104 = .ok (.invokevirtual 108, 3) := dk_182 0 108 (dk_at dksX5_wakes_4 10 rfl rfl)
theorem dX5_wakes_107 : decode cX5_wakes 107 = .ok (.iload_n 2, 1) := dk_28 (dk_at dksX5_wakes_4 13 rfl rfl)
theorem dX5_wakes_108 : decode cX5_wakes 108 = .ok (.invokevirtual 111, 3) := dk_182 0 111 (dk_at dksX5_wakes_4 14 rfl rfl)
theorem dX5_wakes_111 : decode cX5_wakes 111 = .ok (.iinc 2 1, 3) := dk_132 2 1 (dk_at dksX5_wakes_4 17 rfl rfl)
theorem dX5_wakes_114 : decode cX5_wakes 114 = .ok (.goto (-32), 3) := dk_167 255 224 (dk_at dksX5_wakes_4 20 rfl rfl)
theorem dX5_wakes_117 : decode cX5_wakes 117 = .ok (.goto 47, 3) := dk_167 0 47 (dk_at dksX5_wakes_5 0 rfl rfl)
theorem dX5_wakes_120 : decode cX5_wakes 120 = .ok (.iconst 0, 1) := dk_3 (dk_at dksX5_wakes_5 3 rfl rfl)
theorem dX5_wakes_121 : decode cX5_wakes 121 = .ok (.istore_n 2, 1) := dk_61 (dk_at dksX5_wakes_5 4 rfl rfl)
theorem dX5_wakes_122 : decode cX5_wakes 122 = .ok (.iload_n 2, 1) := dk_28 (dk_at dksX5_wakes_5 5 rfl rfl)
theorem dX5_wakes_123 : decode cX5_wakes 123 = .ok (.aload_n 0, 1) := dk_42 (dk_at dksX5_wakes_5 6 rfl rfl)
theorem dX5_wakes_124 : decode cX5_wakes 124 = .ok (.getfield 9, 3) := dk_180 0 9 (dk_at dksX5_wakes_5 7 rfl rfl)
theorem dX5_wakes_127 : decode cX5_wakes 127 = .ok (.iconst 2, 1) := dk_5 (dk_at dksX5_wakes_5 10 rfl rfl)
theorem dX5_wakes_128 : decode cX5_wakes 128 = .ok (.iaload, 1) := dk_46 (dk_at dksX5_wakes_5 11 rfl rfl)
theorem dX5_wakes_129 : decode cX5_wakes 129 = .ok (.if_icmp .ge 35, 3) := dk_162 0 35 (dk_at dksX5_wakes_5 12 rfl rfl)
theorem dX5_wakes_132 : decode cX5_wakes 132 = .ok (.aload_n 0, 1) := dk_42 (dk_at dksX5_wakes_5 15 rfl rfl)
theorem dX5_wakes_133 : decode cX5_wakes 133 = .ok (.iload_n 2, 1) := dk_28 (dk_at dksX5_wakes_5 16 rfl rfl)
theorem dX5_wakes_134 : decode cX5_wakes 134 = .ok (.iload_n 1, 1) := dk_27 (dk_at dksX5_wakes_5 17 rfl rfl)
theorem dX5_wakes_135 : decode cX5_wakes 135 = .ok (.invokevirtual 77, 3) := dk_182 0 77 (dk_at dksX5_wakes_5 18 rfl rfl)
theorem dX5_wakes_138 : decode cX5_wakes 138 = .ok (.ifCond .eq 20, 3) := dk_153 0 20 (dk_at dksX5_wakes_5 21 rfl rfl)
theorem dX5_wakes_141 : decode cX5_wakes 141 = .ok (.aload_n 0, 1) := dk_42 (dk_at dksX5_wakes_6 0 rfl rfl)
theorem dX5_wakes_142 : decode cX5_wakes 142 = .ok (.iload_n 2, 1) := dk_28 (dk_at dksX5_wakes_6 1 rfl rfl)
theorem dX5_wakes_143 : decode cX5_wakes 143 = .ok (.iload_n 1, 1) := dk_27 (dk_at dksX5_wakes_6 2 rfl rfl)
theorem dX5_wakes_144 : decode cX5_wakes 144 = .ok (.invokevirtual 81, 3) := dk_182 0 81 (dk_at dksX5_wakes_6 3 rfl rfl)
theorem dX5_wakes_147 : decode cX5_wakes 147 = .ok (.iconst 1, 1) := dk_4 (dk_at dksX5_wakes_6 6 rfl rfl)
theorem dX5_wakes_148 : decode cX5_wakes 148 = .ok (.if_icmp .ne 10, 3) := dk_160 0 10 (dk_at dksX5_wakes_6 7 rfl rfl)
theorem dX5_wakes_151 : decode cX5_wakes 151 = .ok (.aload_n 0, 1) := dk_42 (dk_at dksX5_wakes_6 10 rfl rfl)
theorem dX5_wakes_152 : decode cX5_wakes 152 = .ok (.iconst 5, 1) := dk_8 (dk_at dksX5_wakes_6 11 rfl rfl)
theorem dX5_wakes_153 : decode cX5_wakes 153 = .ok (.iload_n 1, 1) := dk_27 (dk_at dksX5_wakes_6 12 rfl rfl)
theorem dX5_wakes_154 : decode cX5_wakes 154 = .ok (.iload_n 2, 1) := dk_28 (dk_at dksX5_wakes_6 13 rfl rfl)
theorem dX5_wakes_155 : decode cX5_wakes 155 = .ok (.invokevirtual 91, 3) := dk_182 0 91 (dk_at dksX5_wakes_6 14 rfl rfl)
theorem dX5_wakes_158 : decode cX5_wakes 158 = .ok (.iinc 2 1, 3) := dk_132 2 1 (dk_at dksX5_wakes_6 17 rfl rfl)
theorem dX5_wakes_161 : decode cX5_wakes 161 = .ok (.goto (-39), 3) := dk_167 255 217 (dk_at dksX5_wakes_6 20 rfl rfl)
theorem dX5_wakes_164 : decode cX5_wakes 164 = .ok (.aload_n 0, 1) := dk_42 (dk_at dksX5_wakes_6 23 rfl rfl)
theorem dX5_wakes_165 : decode cX5_wakes 165 = .ok (.aload_n 0, 1) := dk_42 (dk_at dksX5_wakes_7 0 rfl rfl)
theorem dX5_wakes_166 : decode cX5_wakes 166 = .ok (.getfield 88, 3) := dk_180 0 88 (dk_at dksX5_wakes_7 1 rfl rfl)
theorem dX5_wakes_169 : decode cX5_wakes 169 = .ok (.invokevirtual 177, 3) := dk_182 0 177 (dk_at dksX5_wakes_7 4 rfl rfl)
theorem dX5_wakes_172 : decode cX5_wakes 172 = .ok (.ireturn, 1) := dk_172 (dk_at dksX5_wakes_7 7 rfl rfl)
abbrev cX5_becomes : ByteArray := prog_25_method_31_code
def dkwX5_becomes_2 : List UInt8 := [7, 167, 0, 14, 29, 6, 160, 0, 7, 8, 167, 0, 5, 16, 6, 27, 182, 0, 98, 177]
abbrev dktX5_becomes_2 : List UInt8 := dkwX5_becomes_2 ++ []
def dkwX5_becomes_1 : List UInt8 := [180, 0, 9, 3, 46, 182, 0, 95, 42, 28, 29, 4, 160, 0, 7, 6, 167, 0, 23, 29, 5, 160, 0, 7]
abbrev dktX5_becomes_1 : List UInt8 := dkwX5_becomes_1 ++ dktX5_becomes_2
def dkwX5_becomes_0 : List UInt8 := [42, 27, 7, 7, 28, 104, 96, 5, 96, 29, 182, 0, 95, 42, 27, 7, 7, 28, 104, 96, 6, 96, 42]
abbrev dktX5_becomes_0 : List UInt8 := dkwX5_becomes_0 ++ dktX5_becomes_1
theorem dksX5_becomes_0 : cX5_becomes.data.toList.drop 0 = dktX5_becomes_0 := by decide +kernel
theorem dksX5_becomes_1 : cX5_becomes.data.toList.drop 23 = dktX5_becomes_1 := dk_seg dksX5_becomes_0 23 rfl rfl
theorem dksX5_becomes_2 : cX5_becomes.data.toList.drop 47 = dktX5_becomes_2 := dk_seg dksX5_becomes_1 24 rfl rfl
theorem dX5_becomes_0 : decode cX5_becomes 0 = .ok (.aload_n 0, 1) := dk_42 (dk_at dksX5_becomes_0 0 rfl rfl)
theorem dX5_becomes_1 : decode cX5_becomes 1 = .ok (.iload_n 1, 1) := dk_27 (dk_at dksX5_becomes_0 1 rfl rfl)
theorem dX5_becomes_2 : decode cX5_becomes 2 = .ok (.iconst 4, 1) := dk_7 (dk_at dksX5_becomes_0 2 rfl rfl)
theorem dX5_becomes_3 : decode cX5_becomes 3 = .ok (.iconst 4, 1) := dk_7 (dk_at dksX5_becomes_0 3 rfl rfl)
theorem dX5_becomes_4 : decode cX5_becomes 4 = .ok (.iload_n 2, 1) := dk_28 (dk_at dksX5_becomes_0 4 rfl rfl)
theorem dX5_becomes_5 : decode cX5_becomes 5 = .ok (.imul, 1) := dk_104 (dk_at dksX5_becomes_0 5 rfl rfl)
theorem dX5_becomes_6 : decode cX5_becomes 6 = .ok (.iadd, 1) := dk_96 (dk_at dksX5_becomes_0 6 rfl rfl)
theorem dX5_becomes_7 : decode cX5_becomes 7 = .ok (.iconst 2, 1) := dk_5 (dk_at dksX5_becomes_0 7 rfl rfl)
theorem dX5_becomes_8 : decode cX5_becomes 8 = .ok (.iadd, 1) := dk_96 (dk_at dksX5_becomes_0 8 rfl rfl)
theorem dX5_becomes_9 : decode cX5_becomes 9 = .ok (.iload_n 3, 1) := dk_29 (dk_at dksX5_becomes_0 9 rfl rfl)
theorem dX5_becomes_10 : decode cX5_becomes 10 = .ok (.invokevirtual 95, 3) := dk_182 0 95 (dk_at dksX5_becomes_0 10 rfl rfl)
theorem dX5_becomes_13 : decode cX5_becomes 13 = .ok (.aload_n 0, 1) := dk_42 (dk_at dksX5_becomes_0 13 rfl rfl)
theorem dX5_becomes_14 : decode cX5_becomes 14 = .ok (.iload_n 1, 1) := dk_27 (dk_at dksX5_becomes_0 14 rfl rfl)
theorem dX5_becomes_15 : decode cX5_becomes 15 = .ok (.iconst 4, 1) := dk_7 (dk_at dksX5_becomes_0 15 rfl rfl)
theorem dX5_becomes_16 : decode cX5_becomes 16 = .ok (.iconst 4, 1) := dk_7 (dk_at dksX5_becomes_0 16 rfl rfl)
theorem dX5_becomes_17 : decode cX5_becomes 17 = .ok (.iload_n 2, 1) := dk_28 (dk_at dksX5_becomes_0 17 rfl rfl)
theorem dX5_becomes_18 : decode cX5_becomes 18 = .ok (.imul, 1) := dk_104 (dk_at dksX5_becomes_0 18 rfl rfl)
theorem dX5_becomes_19 : decode cX5_becomes 19 = .ok (.iadd, 1) := dk_96 (dk_at dksX5_becomes_0 19 rfl rfl)
theorem dX5_becomes_20 : decode cX5_becomes 20 = .ok (.iconst 3, 1) := dk_6 (dk_at dksX5_becomes_0 20 rfl rfl)
theorem dX5_becomes_21 : decode cX5_becomes 21 = .ok (.iadd, 1) := dk_96 (dk_at dksX5_becomes_0 21 rfl rfl)
theorem dX5_becomes_22 : decode cX5_becomes 22 = .ok (.aload_n 0, 1) := dk_42 (dk_at dksX5_becomes_0 22 rfl rfl)
theorem dX5_becomes_23 : decode cX5_becomes 23 = .ok (.getfield 9, 3) := dk_180 0 9 (dk_at dksX5_becomes_1 0 rfl rfl)
theorem dX5_becomes_26 : decode cX5_becomes 26 = .ok (.iconst 0, 1) := dk_3 (dk_at dksX5_becomes_1 3 rfl rfl)
theorem dX5_becomes_27 : decode cX5_becomes 27 = .ok (.iaload, 1) := dk_46 (dk_at dksX5_becomes_1 4 rfl rfl)
theorem dX5_becomes_28 : decode cX5_becomes 28 = .ok (.invokevirtual 95, 3) := dk_182 0 95 (dk_at dksX5_becomes_1 5 rfl rfl)
theorem dX5_becomes_31 : decode cX5_becomes 31 = .ok (.aload_n 0, 1) := dk_42 (dk_at dksX5_becomes_1 8 rfl rfl)
theorem dX5_becomes_32 : decode cX5_becomes 32 = .ok (.iload_n 2, 1) := dk_28 (dk_at dksX5_becomes_1 9 rfl rfl)
theorem dX5_becomes_33 : decode cX5_becomes 33 = .ok (.iload_n 3, 1) := dk_29 (dk_at dksX5_becomes_1 10 rfl rfl)
theorem dX5_becomes_34 : decode cX5_becomes 34 = .ok (.iconst 1, 1) := dk_4 (dk_at dksX5_becomes_1 11 rfl rfl)
theorem dX5_becomes_35 : decode cX5_becomes 35 = .ok (.if_icmp .ne 7, 3) := dk_160 0 7 (dk_at dksX5_becomes_1 12 rfl rfl)
theorem dX5_becomes_38 : decode cX5_becomes 38 = .ok (.iconst 3, 1) := dk_6 (dk_at dksX5_becomes_1 15 rfl rfl)
theorem dX5_becomes_39 : decode cX5_becomes 39 = .ok (.goto 23, 3) := dk_167 0 23 (dk_at dksX5_becomes_1 16 rfl rfl)
theorem dX5_becomes_42 : decode cX5_becomes 42 = .ok (.iload_n 3, 1) := dk_29 (dk_at dksX5_becomes_1 19 rfl rfl)
theorem dX5_becomes_43 : decode cX5_becomes 43 = .ok (.iconst 2, 1) := dk_5 (dk_at dksX5_becomes_1 20 rfl rfl)
theorem dX5_becomes_44 : decode cX5_becomes 44 = .ok (.if_icmp .ne 7, 3) := dk_160 0 7 (dk_at dksX5_becomes_1 21 rfl rfl)
theorem dX5_becomes_47 : decode cX5_becomes 47 = .ok (.iconst 4, 1) := dk_7 (dk_at dksX5_becomes_2 0 rfl rfl)
theorem dX5_becomes_48 : decode cX5_becomes 48 = .ok (.goto 14, 3) := dk_167 0 14 (dk_at dksX5_becomes_2 1 rfl rfl)
theorem dX5_becomes_51 : decode cX5_becomes 51 = .ok (.iload_n 3, 1) := dk_29 (dk_at dksX5_becomes_2 4 rfl rfl)
theorem dX5_becomes_52 : decode cX5_becomes 52 = .ok (.iconst 3, 1) := dk_6 (dk_at dksX5_becomes_2 5 rfl rfl)
theorem dX5_becomes_53 : decode cX5_becomes 53 = .ok (.if_icmp .ne 7, 3) := dk_160 0 7 (dk_at dksX5_becomes_2 6 rfl rfl)
theorem dX5_becomes_56 : decode cX5_becomes 56 = .ok (.iconst 5, 1) := dk_8 (dk_at dksX5_becomes_2 9 rfl rfl)
theorem dX5_becomes_57 : decode cX5_becomes 57 = .ok (.goto 5, 3) := dk_167 0 5 (dk_at dksX5_becomes_2 10 rfl rfl)
theorem dX5_becomes_60 : decode cX5_becomes 60 = .ok (.bipush 6, 2) := dk_16 6 (dk_at dksX5_becomes_2 13 rfl rfl)
theorem dX5_becomes_62 : decode cX5_becomes 62 = .ok (.iload_n 1, 1) := dk_27 (dk_at dksX5_becomes_2 15 rfl rfl)
theorem dX5_becomes_63 : decode cX5_becomes 63 = .ok (.invokevirtual 98, 3) := dk_182 0 98 (dk_at dksX5_becomes_2 16 rfl rfl)
theorem dX5_becomes_66 : decode cX5_becomes 66 = .ok (.return_, 1) := dk_177 (dk_at dksX5_becomes_2 19 rfl rfl)
theorem q121 : (Jvm.Cond.initialized "BanquetVotesModel") ∈ lw_all := lw_g (lw_at lw_m1 14 rfl) rfl
theorem q1251 : (Jvm.Cond.arrayClass Jvm.ClassFile.FieldType.int) ∈ lw_all := lw_g (lw_at lw_m5 184 rfl) rfl
theorem q3375 : (Jvm.Cond.methodLink "BanquetVotesModel" (3 : Nat) ({ cls := "java/lang/Object", name := "<init>", desc := "()V" } : Jvm.MethodName)) ∈ lw_all := lw_g (lw_at lw_m14 148 rfl) rfl
theorem q3376 : (Jvm.Cond.constant "BanquetVotesModel" (19 : Nat) (43656 : Int32)) ∈ lw_all := lw_g (lw_at lw_m14 149 rfl) rfl
theorem q3378 : (Jvm.Cond.fieldLink "BanquetVotesModel" (9 : Nat) "BanquetVotesModel" "now" "[I") ∈ lw_all := lw_g (lw_at lw_m14 151 rfl) rfl
theorem q3379 : (Jvm.Cond.fieldLink "BanquetVotesModel" (13 : Nat) "BanquetVotesModel" "tried" "[I") ∈ lw_all := lw_g (lw_at lw_m14 152 rfl) rfl
theorem q3380 : (Jvm.Cond.fieldLink "BanquetVotesModel" (16 : Nat) "BanquetVotesModel" "thought" "[I") ∈ lw_all := lw_g (lw_at lw_m14 153 rfl) rfl
theorem q3381 : (Jvm.Cond.fieldLink "BanquetVotesModel" (20 : Nat) "BanquetVotesModel" "kept" "[I") ∈ lw_all := lw_g (lw_at lw_m14 154 rfl) rfl
theorem q3382 : (Jvm.Cond.fieldLink "BanquetVotesModel" (49 : Nat) "BanquetVotesModel" "undos" "I") ∈ lw_all := lw_g (lw_at lw_m14 155 rfl) rfl
theorem q3383 : (Jvm.Cond.fieldLink "BanquetVotesModel" (23 : Nat) "BanquetVotesModel" "saved" "[I") ∈ lw_all := lw_g (lw_at lw_m14 156 rfl) rfl
theorem q3385 : (Jvm.Cond.fieldLink "BanquetVotesModel" (26 : Nat) "BanquetVotesModel" "line" "[C") ∈ lw_all := lw_g (lw_at lw_m14 158 rfl) rfl
theorem q3387 : (Jvm.Cond.fieldLink "BanquetVotesModel" (30 : Nat) "BanquetVotesModel" "text" "[C") ∈ lw_all := lw_g (lw_at lw_m14 160 rfl) rfl
theorem q3390 : (Jvm.Cond.fieldLink "BanquetVotesModel" (35 : Nat) "BanquetVotesModel" "word" "Ljava/lang/String;") ∈ lw_all := lw_g (lw_at lw_m14 163 rfl) rfl
theorem q3391 : (Jvm.Cond.fieldLink "BanquetVotesModel" (39 : Nat) "BanquetVotesModel" "told" "[I") ∈ lw_all := lw_g (lw_at lw_m14 164 rfl) rfl
theorem q3392 : (Jvm.Cond.fieldLink "BanquetVotesModel" (42 : Nat) "BanquetVotesModel" "error" "I") ∈ lw_all := lw_g (lw_at lw_m14 165 rfl) rfl
theorem q3393 : (Jvm.Cond.fieldLink "BanquetVotesModel" (56 : Nat) "BanquetVotesModel" "reason" "I") ∈ lw_all := lw_g (lw_at lw_m14 166 rfl) rfl
theorem q3394 : (Jvm.Cond.fieldLink "BanquetVotesModel" (59 : Nat) "BanquetVotesModel" "detail" "I") ∈ lw_all := lw_g (lw_at lw_m14 167 rfl) rfl
theorem q3395 : (Jvm.Cond.fieldLink "BanquetVotesModel" (53 : Nat) "BanquetVotesModel" "answer" "I") ∈ lw_all := lw_g (lw_at lw_m14 168 rfl) rfl
theorem q3396 : (Jvm.Cond.fieldLink "BanquetVotesModel" (101 : Nat) "BanquetVotesModel" "decided" "I") ∈ lw_all := lw_g (lw_at lw_m14 169 rfl) rfl
theorem q3397 : (Jvm.Cond.fieldLink "BanquetVotesModel" (88 : Nat) "BanquetVotesModel" "sent" "I") ∈ lw_all := lw_g (lw_at lw_m14 170 rfl) rfl
theorem q3398 : (Jvm.Cond.fieldLink "BanquetVotesModel" (46 : Nat) "BanquetVotesModel" "thrown" "I") ∈ lw_all := lw_g (lw_at lw_m14 171 rfl) rfl
theorem q3442 : (Jvm.Cond.arrayClass Jvm.ClassFile.FieldType.char) ∈ lw_all := lw_g (lw_at lw_m14 215 rfl) rfl
theorem q3451 : (Jvm.Cond.methodLink "BanquetVotesModel" (146 : Nat) ({ cls := "BanquetVotesModel", name := "tries", desc := "()V" } : Jvm.MethodName)) ∈ lw_all := lw_g (lw_at lw_m14 224 rfl) rfl
theorem q3453 : (Jvm.Cond.instanceMethod ({ cls := "BanquetVotesModel", name := "tries", desc := "()V" } : Jvm.MethodName)) ∈ lw_all := lw_g (lw_at lw_m14 226 rfl) rfl
theorem q3454 : (Jvm.Cond.code ({ cls := "BanquetVotesModel", name := "tries", desc := "()V" } : Jvm.MethodName) prog_25_method_5_code (2 : Nat) (Option.none : Option Jvm.ClassFile.FieldType)) ∈ lw_all := lw_g (lw_at lw_m14 227 rfl) rfl
theorem q3455 : (Jvm.Cond.methodLink "BanquetVotesModel" (62 : Nat) ({ cls := "BanquetVotesModel", name := "in", desc := "(III)Z" } : Jvm.MethodName)) ∈ lw_all := lw_g (lw_at lw_m14 228 rfl) rfl
theorem q3456 : (Jvm.Cond.static ({ cls := "BanquetVotesModel", name := "in", desc := "(III)Z" } : Jvm.MethodName)) ∈ lw_all := lw_g (lw_at lw_m14 229 rfl) rfl
theorem q3457 : (Jvm.Cond.code ({ cls := "BanquetVotesModel", name := "in", desc := "(III)Z" } : Jvm.MethodName) prog_25_method_4_code (3 : Nat) (Option.some Jvm.ClassFile.FieldType.boolean)) ∈ lw_all := lw_g (lw_at lw_m14 230 rfl) rfl
theorem q3458 : (Jvm.Cond.methodLink "BanquetVotesModel" (149 : Nat) ({ cls := "BanquetVotesModel", name := "raises", desc := "(I)I" } : Jvm.MethodName)) ∈ lw_all := lw_g (lw_at lw_m14 231 rfl) rfl
theorem q3460 : (Jvm.Cond.instanceMethod ({ cls := "BanquetVotesModel", name := "raises", desc := "(I)I" } : Jvm.MethodName)) ∈ lw_all := lw_g (lw_at lw_m14 233 rfl) rfl
theorem q3461 : (Jvm.Cond.code ({ cls := "BanquetVotesModel", name := "raises", desc := "(I)I" } : Jvm.MethodName) prog_25_method_3_code (2 : Nat) (Option.some Jvm.ClassFile.FieldType.int)) ∈ lw_all := lw_g (lw_at lw_m14 234 rfl) rfl
theorem q3462 : (Jvm.Cond.methodLink "BanquetVotesModel" (152 : Nat) ({ cls := "BanquetVotesModel", name := "refuses", desc := "(II)I" } : Jvm.MethodName)) ∈ lw_all := lw_g (lw_at lw_m14 235 rfl) rfl
theorem q3464 : (Jvm.Cond.instanceMethod ({ cls := "BanquetVotesModel", name := "refuses", desc := "(II)I" } : Jvm.MethodName)) ∈ lw_all := lw_g (lw_at lw_m14 237 rfl) rfl
theorem q3465 : (Jvm.Cond.code ({ cls := "BanquetVotesModel", name := "refuses", desc := "(II)I" } : Jvm.MethodName) prog_25_method_11_code (3 : Nat) (Option.some Jvm.ClassFile.FieldType.int)) ∈ lw_all := lw_g (lw_at lw_m14 238 rfl) rfl
theorem q3466 : (Jvm.Cond.methodLink "BanquetVotesModel" (115 : Nat) ({ cls := "BanquetVotesModel", name := "setsCook", desc := "(III)V" } : Jvm.MethodName)) ∈ lw_all := lw_g (lw_at lw_m14 239 rfl) rfl
theorem q3468 : (Jvm.Cond.instanceMethod ({ cls := "BanquetVotesModel", name := "setsCook", desc := "(III)V" } : Jvm.MethodName)) ∈ lw_all := lw_g (lw_at lw_m15 1 rfl) rfl
theorem q3469 : (Jvm.Cond.code ({ cls := "BanquetVotesModel", name := "setsCook", desc := "(III)V" } : Jvm.MethodName) prog_25_method_15_code (4 : Nat) (Option.none : Option Jvm.ClassFile.FieldType)) ∈ lw_all := lw_g (lw_at lw_m15 2 rfl) rfl
theorem q3470 : (Jvm.Cond.methodLink "BanquetVotesModel" (155 : Nat) ({ cls := "BanquetVotesModel", name := "keeps", desc := "(I)I" } : Jvm.MethodName)) ∈ lw_all := lw_g (lw_at lw_m15 3 rfl) rfl
theorem q3472 : (Jvm.Cond.instanceMethod ({ cls := "BanquetVotesModel", name := "keeps", desc := "(I)I" } : Jvm.MethodName)) ∈ lw_all := lw_g (lw_at lw_m15 5 rfl) rfl
theorem q3473 : (Jvm.Cond.code ({ cls := "BanquetVotesModel", name := "keeps", desc := "(I)I" } : Jvm.MethodName) prog_25_method_7_code (3 : Nat) (Option.some Jvm.ClassFile.FieldType.int)) ∈ lw_all := lw_g (lw_at lw_m15 6 rfl) rfl
theorem q3474 : (Jvm.Cond.constant "BanquetVotesModel" (52 : Nat) (38199 : Int32)) ∈ lw_all := lw_g (lw_at lw_m15 7 rfl) rfl
theorem q3479 : (Jvm.Cond.methodLink "BanquetVotesModel" (158 : Nat) ({ cls := "BanquetVotesModel", name := "isCook", desc := "(I)Z" } : Jvm.MethodName)) ∈ lw_all := lw_g (lw_at lw_m15 12 rfl) rfl
theorem q3481 : (Jvm.Cond.instanceMethod ({ cls := "BanquetVotesModel", name := "isCook", desc := "(I)Z" } : Jvm.MethodName)) ∈ lw_all := lw_g (lw_at lw_m15 14 rfl) rfl
theorem q3482 : (Jvm.Cond.code ({ cls := "BanquetVotesModel", name := "isCook", desc := "(I)Z" } : Jvm.MethodName) prog_25_method_12_code (2 : Nat) (Option.some Jvm.ClassFile.FieldType.boolean)) ∈ lw_all := lw_g (lw_at lw_m15 15 rfl) rfl
theorem q3483 : (Jvm.Cond.methodLink "BanquetVotesModel" (66 : Nat) ({ cls := "BanquetVotesModel", name := "cook", desc := "(II)I" } : Jvm.MethodName)) ∈ lw_all := lw_g (lw_at lw_m15 16 rfl) rfl
theorem q3485 : (Jvm.Cond.instanceMethod ({ cls := "BanquetVotesModel", name := "cook", desc := "(II)I" } : Jvm.MethodName)) ∈ lw_all := lw_g (lw_at lw_m15 18 rfl) rfl
theorem q3486 : (Jvm.Cond.code ({ cls := "BanquetVotesModel", name := "cook", desc := "(II)I" } : Jvm.MethodName) prog_25_method_14_code (3 : Nat) (Option.some Jvm.ClassFile.FieldType.int)) ∈ lw_all := lw_g (lw_at lw_m15 19 rfl) rfl
theorem q3491 : (Jvm.Cond.methodLink "BanquetVotesModel" (161 : Nat) ({ cls := "BanquetVotesModel", name := "dishesOf", desc := "(III)I" } : Jvm.MethodName)) ∈ lw_all := lw_g (lw_at lw_m15 24 rfl) rfl
theorem q3493 : (Jvm.Cond.instanceMethod ({ cls := "BanquetVotesModel", name := "dishesOf", desc := "(III)I" } : Jvm.MethodName)) ∈ lw_all := lw_g (lw_at lw_m15 26 rfl) rfl
theorem q3494 : (Jvm.Cond.code ({ cls := "BanquetVotesModel", name := "dishesOf", desc := "(III)I" } : Jvm.MethodName) prog_25_method_25_code (6 : Nat) (Option.some Jvm.ClassFile.FieldType.int)) ∈ lw_all := lw_g (lw_at lw_m15 27 rfl) rfl
theorem q3495 : (Jvm.Cond.methodLink "BanquetVotesModel" (77 : Nat) ({ cls := "BanquetVotesModel", name := "isDish", desc := "(II)Z" } : Jvm.MethodName)) ∈ lw_all := lw_g (lw_at lw_m15 28 rfl) rfl
theorem q3497 : (Jvm.Cond.instanceMethod ({ cls := "BanquetVotesModel", name := "isDish", desc := "(II)Z" } : Jvm.MethodName)) ∈ lw_all := lw_g (lw_at lw_m15 30 rfl) rfl
theorem q3498 : (Jvm.Cond.code ({ cls := "BanquetVotesModel", name := "isDish", desc := "(II)Z" } : Jvm.MethodName) prog_25_method_20_code (3 : Nat) (Option.some Jvm.ClassFile.FieldType.boolean)) ∈ lw_all := lw_g (lw_at lw_m15 31 rfl) rfl
theorem q3499 : (Jvm.Cond.methodLink "BanquetVotesModel" (70 : Nat) ({ cls := "BanquetVotesModel", name := "course", desc := "(II)I" } : Jvm.MethodName)) ∈ lw_all := lw_g (lw_at lw_m15 32 rfl) rfl
theorem q3501 : (Jvm.Cond.instanceMethod ({ cls := "BanquetVotesModel", name := "course", desc := "(II)I" } : Jvm.MethodName)) ∈ lw_all := lw_g (lw_at lw_m15 34 rfl) rfl
theorem q3502 : (Jvm.Cond.code ({ cls := "BanquetVotesModel", name := "course", desc := "(II)I" } : Jvm.MethodName) prog_25_method_17_code (3 : Nat) (Option.some Jvm.ClassFile.FieldType.int)) ∈ lw_all := lw_g (lw_at lw_m15 35 rfl) rfl
theorem q3503 : (Jvm.Cond.methodLink "BanquetVotesModel" (81 : Nat) ({ cls := "BanquetVotesModel", name := "howDish", desc := "(II)I" } : Jvm.MethodName)) ∈ lw_all := lw_g (lw_at lw_m15 36 rfl) rfl
theorem q3505 : (Jvm.Cond.instanceMethod ({ cls := "BanquetVotesModel", name := "howDish", desc := "(II)I" } : Jvm.MethodName)) ∈ lw_all := lw_g (lw_at lw_m15 38 rfl) rfl
theorem q3506 : (Jvm.Cond.code ({ cls := "BanquetVotesModel", name := "howDish", desc := "(II)I" } : Jvm.MethodName) prog_25_method_22_code (3 : Nat) (Option.some Jvm.ClassFile.FieldType.int)) ∈ lw_all := lw_g (lw_at lw_m15 39 rfl) rfl
theorem q3507 : (Jvm.Cond.methodLink "BanquetVotesModel" (73 : Nat) ({ cls := "BanquetVotesModel", name := "dish", desc := "(III)I" } : Jvm.MethodName)) ∈ lw_all := lw_g (lw_at lw_m15 40 rfl) rfl
theorem q3509 : (Jvm.Cond.instanceMethod ({ cls := "BanquetVotesModel", name := "dish", desc := "(III)I" } : Jvm.MethodName)) ∈ lw_all := lw_g (lw_at lw_m15 42 rfl) rfl
theorem q3510 : (Jvm.Cond.code ({ cls := "BanquetVotesModel", name := "dish", desc := "(III)I" } : Jvm.MethodName) prog_25_method_21_code (4 : Nat) (Option.some Jvm.ClassFile.FieldType.int)) ∈ lw_all := lw_g (lw_at lw_m15 43 rfl) rfl
theorem q3511 : (Jvm.Cond.methodLink "BanquetVotesModel" (164 : Nat) ({ cls := "BanquetVotesModel", name := "served", desc := "(I)I" } : Jvm.MethodName)) ∈ lw_all := lw_g (lw_at lw_m15 44 rfl) rfl
theorem q3513 : (Jvm.Cond.instanceMethod ({ cls := "BanquetVotesModel", name := "served", desc := "(I)I" } : Jvm.MethodName)) ∈ lw_all := lw_g (lw_at lw_m15 46 rfl) rfl
theorem q3514 : (Jvm.Cond.code ({ cls := "BanquetVotesModel", name := "served", desc := "(I)I" } : Jvm.MethodName) prog_25_method_42_code (4 : Nat) (Option.some Jvm.ClassFile.FieldType.int)) ∈ lw_all := lw_g (lw_at lw_m15 47 rfl) rfl
theorem q3519 : (Jvm.Cond.methodLink "BanquetVotesModel" (95 : Nat) ({ cls := "BanquetVotesModel", name := "setsCourse", desc := "(III)V" } : Jvm.MethodName)) ∈ lw_all := lw_g (lw_at lw_m15 52 rfl) rfl
theorem q3521 : (Jvm.Cond.instanceMethod ({ cls := "BanquetVotesModel", name := "setsCourse", desc := "(III)V" } : Jvm.MethodName)) ∈ lw_all := lw_g (lw_at lw_m15 54 rfl) rfl
theorem q3522 : (Jvm.Cond.code ({ cls := "BanquetVotesModel", name := "setsCourse", desc := "(III)V" } : Jvm.MethodName) prog_25_method_18_code (4 : Nat) (Option.none : Option Jvm.ClassFile.FieldType)) ∈ lw_all := lw_g (lw_at lw_m15 55 rfl) rfl
theorem q3527 : (Jvm.Cond.methodLink "BanquetVotesModel" (167 : Nat) ({ cls := "BanquetVotesModel", name := "isCourse", desc := "(I)Z" } : Jvm.MethodName)) ∈ lw_all := lw_g (lw_at lw_m15 60 rfl) rfl
theorem q3529 : (Jvm.Cond.instanceMethod ({ cls := "BanquetVotesModel", name := "isCourse", desc := "(I)Z" } : Jvm.MethodName)) ∈ lw_all := lw_g (lw_at lw_m15 62 rfl) rfl
theorem q3530 : (Jvm.Cond.code ({ cls := "BanquetVotesModel", name := "isCourse", desc := "(I)Z" } : Jvm.MethodName) prog_25_method_13_code (2 : Nat) (Option.some Jvm.ClassFile.FieldType.boolean)) ∈ lw_all := lw_g (lw_at lw_m15 63 rfl) rfl
theorem q3531 : (Jvm.Cond.methodLink "BanquetVotesModel" (84 : Nat) ({ cls := "BanquetVotesModel", name := "how", desc := "(I)I" } : Jvm.MethodName)) ∈ lw_all := lw_g (lw_at lw_m15 64 rfl) rfl
theorem q3533 : (Jvm.Cond.instanceMethod ({ cls := "BanquetVotesModel", name := "how", desc := "(I)I" } : Jvm.MethodName)) ∈ lw_all := lw_g (lw_at lw_m15 66 rfl) rfl
theorem q3534 : (Jvm.Cond.code ({ cls := "BanquetVotesModel", name := "how", desc := "(I)I" } : Jvm.MethodName) prog_25_method_19_code (2 : Nat) (Option.some Jvm.ClassFile.FieldType.int)) ∈ lw_all := lw_g (lw_at lw_m15 67 rfl) rfl
theorem q3535 : (Jvm.Cond.methodLink "BanquetVotesModel" (137 : Nat) ({ cls := "BanquetVotesModel", name := "dishes", desc := "(I)I" } : Jvm.MethodName)) ∈ lw_all := lw_g (lw_at lw_m15 68 rfl) rfl
theorem q3537 : (Jvm.Cond.instanceMethod ({ cls := "BanquetVotesModel", name := "dishes", desc := "(I)I" } : Jvm.MethodName)) ∈ lw_all := lw_g (lw_at lw_m15 70 rfl) rfl
theorem q3538 : (Jvm.Cond.code ({ cls := "BanquetVotesModel", name := "dishes", desc := "(I)I" } : Jvm.MethodName) prog_25_method_23_code (4 : Nat) (Option.some Jvm.ClassFile.FieldType.int)) ∈ lw_all := lw_g (lw_at lw_m15 71 rfl) rfl
theorem q3543 : (Jvm.Cond.methodLink "BanquetVotesModel" (170 : Nat) ({ cls := "BanquetVotesModel", name := "dishesThat", desc := "(III)I" } : Jvm.MethodName)) ∈ lw_all := lw_g (lw_at lw_m15 76 rfl) rfl
theorem q3545 : (Jvm.Cond.instanceMethod ({ cls := "BanquetVotesModel", name := "dishesThat", desc := "(III)I" } : Jvm.MethodName)) ∈ lw_all := lw_g (lw_at lw_m15 78 rfl) rfl
theorem q3546 : (Jvm.Cond.code ({ cls := "BanquetVotesModel", name := "dishesThat", desc := "(III)I" } : Jvm.MethodName) prog_25_method_24_code (6 : Nat) (Option.some Jvm.ClassFile.FieldType.int)) ∈ lw_all := lw_g (lw_at lw_m15 79 rfl) rfl
theorem q3552 : (Jvm.Cond.instanceMethod ({ cls := "BanquetVotesModel", name := "has", desc := "(IIZ)I" } : Jvm.MethodName)) ∈ lw_all := lw_g (lw_at lw_m15 85 rfl) rfl
theorem q3553 : (Jvm.Cond.selects "BanquetVotesModel" ({ cls := "BanquetVotesModel", name := "has", desc := "(IIZ)I" } : Jvm.MethodName) ({ cls := "BanquetVotesModel", name := "has", desc := "(IIZ)I" } : Jvm.MethodName)) ∈ lw_all := lw_g (lw_at lw_m15 86 rfl) rfl
theorem q3554 : (Jvm.Cond.code ({ cls := "BanquetVotesModel", name := "has", desc := "(IIZ)I" } : Jvm.MethodName) prog_25_method_48_code (4 : Nat) (Option.some Jvm.ClassFile.FieldType.int)) ∈ lw_all := lw_g (lw_at lw_m15 87 rfl) rfl
theorem q3555 : (Jvm.Cond.methodLink "BanquetVotesModel" (121 : Nat) ({ cls := "BanquetVotesModel", name := "free", desc := "(II)I" } : Jvm.MethodName)) ∈ lw_all := lw_g (lw_at lw_m15 88 rfl) rfl
theorem q3557 : (Jvm.Cond.instanceMethod ({ cls := "BanquetVotesModel", name := "free", desc := "(II)I" } : Jvm.MethodName)) ∈ lw_all := lw_g (lw_at lw_m15 90 rfl) rfl
theorem q3558 : (Jvm.Cond.code ({ cls := "BanquetVotesModel", name := "free", desc := "(II)I" } : Jvm.MethodName) prog_25_method_32_code (5 : Nat) (Option.some Jvm.ClassFile.FieldType.int)) ∈ lw_all := lw_g (lw_at lw_m15 91 rfl) rfl
theorem q3563 : (Jvm.Cond.methodLink "BanquetVotesModel" (173 : Nat) ({ cls := "BanquetVotesModel", name := "has", desc := "(IIZ)I" } : Jvm.MethodName)) ∈ lw_all := lw_g (lw_at lw_m15 96 rfl) rfl
theorem q3568 : (Jvm.Cond.methodLink "BanquetVotesModel" (180 : Nat) ({ cls := "BanquetVotesModel", name := "asks", desc := "(I)I" } : Jvm.MethodName)) ∈ lw_all := lw_g (lw_at lw_m15 101 rfl) rfl
theorem q3570 : (Jvm.Cond.instanceMethod ({ cls := "BanquetVotesModel", name := "asks", desc := "(I)I" } : Jvm.MethodName)) ∈ lw_all := lw_g (lw_at lw_m15 103 rfl) rfl
theorem q3571 : (Jvm.Cond.code ({ cls := "BanquetVotesModel", name := "asks", desc := "(I)I" } : Jvm.MethodName) prog_25_method_50_code (2 : Nat) (Option.some Jvm.ClassFile.FieldType.int)) ∈ lw_all := lw_g (lw_at lw_m15 104 rfl) rfl
theorem q3572 : (Jvm.Cond.methodLink "BanquetVotesModel" (124 : Nat) ({ cls := "BanquetVotesModel", name := "isOut", desc := "(I)Z" } : Jvm.MethodName)) ∈ lw_all := lw_g (lw_at lw_m15 105 rfl) rfl
theorem q3574 : (Jvm.Cond.instanceMethod ({ cls := "BanquetVotesModel", name := "isOut", desc := "(I)Z" } : Jvm.MethodName)) ∈ lw_all := lw_g (lw_at lw_m15 107 rfl) rfl
theorem q3575 : (Jvm.Cond.code ({ cls := "BanquetVotesModel", name := "isOut", desc := "(I)Z" } : Jvm.MethodName) prog_25_method_16_code (2 : Nat) (Option.some Jvm.ClassFile.FieldType.boolean)) ∈ lw_all := lw_g (lw_at lw_m15 108 rfl) rfl
theorem q3576 : (Jvm.Cond.methodLink "BanquetVotesModel" (98 : Nat) ({ cls := "BanquetVotesModel", name := "writes", desc := "(III)V" } : Jvm.MethodName)) ∈ lw_all := lw_g (lw_at lw_m15 109 rfl) rfl
theorem q3578 : (Jvm.Cond.instanceMethod ({ cls := "BanquetVotesModel", name := "writes", desc := "(III)V" } : Jvm.MethodName)) ∈ lw_all := lw_g (lw_at lw_m15 111 rfl) rfl
theorem q3579 : (Jvm.Cond.code ({ cls := "BanquetVotesModel", name := "writes", desc := "(III)V" } : Jvm.MethodName) prog_25_method_27_code (6 : Nat) (Option.none : Option Jvm.ClassFile.FieldType)) ∈ lw_all := lw_g (lw_at lw_m15 112 rfl) rfl
theorem q3580 : (Jvm.Cond.methodLink "BanquetVotesModel" (111 : Nat) ({ cls := "BanquetVotesModel", name := "sendsAll", desc := "(II)V" } : Jvm.MethodName)) ∈ lw_all := lw_g (lw_at lw_m15 113 rfl) rfl
theorem q3582 : (Jvm.Cond.instanceMethod ({ cls := "BanquetVotesModel", name := "sendsAll", desc := "(II)V" } : Jvm.MethodName)) ∈ lw_all := lw_g (lw_at lw_m15 115 rfl) rfl
theorem q3583 : (Jvm.Cond.code ({ cls := "BanquetVotesModel", name := "sendsAll", desc := "(II)V" } : Jvm.MethodName) prog_25_method_30_code (4 : Nat) (Option.none : Option Jvm.ClassFile.FieldType)) ∈ lw_all := lw_g (lw_at lw_m15 116 rfl) rfl
theorem q3584 : (Jvm.Cond.methodLink "BanquetVotesModel" (91 : Nat) ({ cls := "BanquetVotesModel", name := "sends", desc := "(III)V" } : Jvm.MethodName)) ∈ lw_all := lw_g (lw_at lw_m15 117 rfl) rfl
theorem q3586 : (Jvm.Cond.instanceMethod ({ cls := "BanquetVotesModel", name := "sends", desc := "(III)V" } : Jvm.MethodName)) ∈ lw_all := lw_g (lw_at lw_m15 119 rfl) rfl
theorem q3587 : (Jvm.Cond.code ({ cls := "BanquetVotesModel", name := "sends", desc := "(III)V" } : Jvm.MethodName) prog_25_method_29_code (5 : Nat) (Option.none : Option Jvm.ClassFile.FieldType)) ∈ lw_all := lw_g (lw_at lw_m15 120 rfl) rfl
theorem q3588 : (Jvm.Cond.methodLink "BanquetVotesModel" (177 : Nat) ({ cls := "BanquetVotesModel", name := "does", desc := "(I)I" } : Jvm.MethodName)) ∈ lw_all := lw_g (lw_at lw_m15 121 rfl) rfl
theorem q3590 : (Jvm.Cond.instanceMethod ({ cls := "BanquetVotesModel", name := "does", desc := "(I)I" } : Jvm.MethodName)) ∈ lw_all := lw_g (lw_at lw_m15 123 rfl) rfl
theorem q3591 : (Jvm.Cond.code ({ cls := "BanquetVotesModel", name := "does", desc := "(I)I" } : Jvm.MethodName) prog_25_method_10_code (2 : Nat) (Option.some Jvm.ClassFile.FieldType.int)) ∈ lw_all := lw_g (lw_at lw_m15 124 rfl) rfl
theorem q3592 : (Jvm.Cond.methodLink "BanquetVotesModel" (183 : Nat) ({ cls := "BanquetVotesModel", name := "endsAt", desc := "(I)I" } : Jvm.MethodName)) ∈ lw_all := lw_g (lw_at lw_m15 125 rfl) rfl
theorem q3594 : (Jvm.Cond.instanceMethod ({ cls := "BanquetVotesModel", name := "endsAt", desc := "(I)I" } : Jvm.MethodName)) ∈ lw_all := lw_g (lw_at lw_m15 127 rfl) rfl
theorem q3595 : (Jvm.Cond.code ({ cls := "BanquetVotesModel", name := "endsAt", desc := "(I)I" } : Jvm.MethodName) prog_25_method_51_code (2 : Nat) (Option.some Jvm.ClassFile.FieldType.int)) ∈ lw_all := lw_g (lw_at lw_m15 128 rfl) rfl
theorem q3600 : (Jvm.Cond.methodLink "BanquetVotesModel" (186 : Nat) ({ cls := "BanquetVotesModel", name := "cancels", desc := "(I)I" } : Jvm.MethodName)) ∈ lw_all := lw_g (lw_at lw_m15 133 rfl) rfl
theorem q3602 : (Jvm.Cond.instanceMethod ({ cls := "BanquetVotesModel", name := "cancels", desc := "(I)I" } : Jvm.MethodName)) ∈ lw_all := lw_g (lw_at lw_m15 135 rfl) rfl
theorem q3603 : (Jvm.Cond.code ({ cls := "BanquetVotesModel", name := "cancels", desc := "(I)I" } : Jvm.MethodName) prog_25_method_53_code (2 : Nat) (Option.some Jvm.ClassFile.FieldType.int)) ∈ lw_all := lw_g (lw_at lw_m15 136 rfl) rfl
theorem q3604 : (Jvm.Cond.methodLink "BanquetVotesModel" (134 : Nat) ({ cls := "BanquetVotesModel", name := "decidesAndSends", desc := "(IZ)V" } : Jvm.MethodName)) ∈ lw_all := lw_g (lw_at lw_m15 137 rfl) rfl
theorem q3606 : (Jvm.Cond.instanceMethod ({ cls := "BanquetVotesModel", name := "decidesAndSends", desc := "(IZ)V" } : Jvm.MethodName)) ∈ lw_all := lw_g (lw_at lw_m15 139 rfl) rfl
theorem q3607 : (Jvm.Cond.code ({ cls := "BanquetVotesModel", name := "decidesAndSends", desc := "(IZ)V" } : Jvm.MethodName) prog_25_method_35_code (3 : Nat) (Option.none : Option Jvm.ClassFile.FieldType)) ∈ lw_all := lw_g (lw_at lw_m15 140 rfl) rfl
theorem q3608 : (Jvm.Cond.methodLink "BanquetVotesModel" (104 : Nat) ({ cls := "BanquetVotesModel", name := "decides", desc := "(IZ)V" } : Jvm.MethodName)) ∈ lw_all := lw_g (lw_at lw_m15 141 rfl) rfl
theorem q3610 : (Jvm.Cond.instanceMethod ({ cls := "BanquetVotesModel", name := "decides", desc := "(IZ)V" } : Jvm.MethodName)) ∈ lw_all := lw_g (lw_at lw_m15 143 rfl) rfl
theorem q3611 : (Jvm.Cond.code ({ cls := "BanquetVotesModel", name := "decides", desc := "(IZ)V" } : Jvm.MethodName) prog_25_method_33_code (3 : Nat) (Option.none : Option Jvm.ClassFile.FieldType)) ∈ lw_all := lw_g (lw_at lw_m15 144 rfl) rfl
theorem q3612 : (Jvm.Cond.methodLink "BanquetVotesModel" (108 : Nat) ({ cls := "BanquetVotesModel", name := "decision", desc := "(I)I" } : Jvm.MethodName)) ∈ lw_all := lw_g (lw_at lw_m15 145 rfl) rfl
theorem q3614 : (Jvm.Cond.instanceMethod ({ cls := "BanquetVotesModel", name := "decision", desc := "(I)I" } : Jvm.MethodName)) ∈ lw_all := lw_g (lw_at lw_m15 147 rfl) rfl
theorem q3615 : (Jvm.Cond.code ({ cls := "BanquetVotesModel", name := "decision", desc := "(I)I" } : Jvm.MethodName) prog_25_method_34_code (2 : Nat) (Option.some Jvm.ClassFile.FieldType.int)) ∈ lw_all := lw_g (lw_at lw_m15 148 rfl) rfl
theorem q3620 : (Jvm.Cond.methodLink "BanquetVotesModel" (196 : Nat) ({ cls := "BanquetVotesModel", name := "faints", desc := "(I)I" } : Jvm.MethodName)) ∈ lw_all := lw_g (lw_at lw_m15 153 rfl) rfl
theorem q3622 : (Jvm.Cond.instanceMethod ({ cls := "BanquetVotesModel", name := "faints", desc := "(I)I" } : Jvm.MethodName)) ∈ lw_all := lw_g (lw_at lw_m15 155 rfl) rfl
theorem q3623 : (Jvm.Cond.code ({ cls := "BanquetVotesModel", name := "faints", desc := "(I)I" } : Jvm.MethodName) prog_25_method_57_code (2 : Nat) (Option.some Jvm.ClassFile.FieldType.int)) ∈ lw_all := lw_g (lw_at lw_m15 156 rfl) rfl
theorem q3624 : (Jvm.Cond.methodLink "BanquetVotesModel" (189 : Nat) ({ cls := "BanquetVotesModel", name := "setsOut", desc := "(II)V" } : Jvm.MethodName)) ∈ lw_all := lw_g (lw_at lw_m15 157 rfl) rfl
theorem q3626 : (Jvm.Cond.instanceMethod ({ cls := "BanquetVotesModel", name := "setsOut", desc := "(II)V" } : Jvm.MethodName)) ∈ lw_all := lw_g (lw_at lw_m15 159 rfl) rfl
theorem q3627 : (Jvm.Cond.code ({ cls := "BanquetVotesModel", name := "setsOut", desc := "(II)V" } : Jvm.MethodName) prog_25_method_56_code (3 : Nat) (Option.none : Option Jvm.ClassFile.FieldType)) ∈ lw_all := lw_g (lw_at lw_m15 160 rfl) rfl
theorem q3628 : (Jvm.Cond.methodLink "BanquetVotesModel" (192 : Nat) ({ cls := "BanquetVotesModel", name := "outs", desc := "()I" } : Jvm.MethodName)) ∈ lw_all := lw_g (lw_at lw_m15 161 rfl) rfl
theorem q3630 : (Jvm.Cond.instanceMethod ({ cls := "BanquetVotesModel", name := "outs", desc := "()I" } : Jvm.MethodName)) ∈ lw_all := lw_g (lw_at lw_m15 163 rfl) rfl
theorem q3631 : (Jvm.Cond.code ({ cls := "BanquetVotesModel", name := "outs", desc := "()I" } : Jvm.MethodName) prog_25_method_55_code (3 : Nat) (Option.some Jvm.ClassFile.FieldType.int)) ∈ lw_all := lw_g (lw_at lw_m15 164 rfl) rfl
theorem q3636 : (Jvm.Cond.methodLink "BanquetVotesModel" (199 : Nat) ({ cls := "BanquetVotesModel", name := "wakes", desc := "(I)I" } : Jvm.MethodName)) ∈ lw_all := lw_g (lw_at lw_m15 169 rfl) rfl
theorem q3638 : (Jvm.Cond.instanceMethod ({ cls := "BanquetVotesModel", name := "wakes", desc := "(I)I" } : Jvm.MethodName)) ∈ lw_all := lw_g (lw_at lw_m15 171 rfl) rfl
theorem q3639 : (Jvm.Cond.code ({ cls := "BanquetVotesModel", name := "wakes", desc := "(I)I" } : Jvm.MethodName) prog_25_method_59_code (3 : Nat) (Option.some Jvm.ClassFile.FieldType.int)) ∈ lw_all := lw_g (lw_at lw_m15 172 rfl) rfl
abbrev ck_X5_init : CK := ("BanquetVotesModel", prog_25_method_1_code, 1, none, "<init>", [], 2)
def f_X5_init (γ : GP) (x0 : Nat) (g : AH) : Option (AH) := (if x0 ≠ 0 then mA g 101 (5457 : Int32) fun q1 g2 => pR γ g2 x0 30 q1 fun g3 => mA g3 101 (5457 : Int32) fun q4 g5 => pR γ g5 x0 31 q4 fun g6 => mA g6 101 (5457 : Int32) fun q7 g8 => pR γ g8 x0 32 q7 fun g9 => mA g9 101 (43656 : Int32) fun q10 g11 => pR γ g11 x0 33 q10 fun g12 => mA g12 101 (5457 : Int32) fun q13 g14 => pR γ g14 x0 35 q13 fun g15 => mA g15 103 (40 : Int32) fun q16 g17 => pR γ g17 x0 37 q16 fun g18 => mA g18 103 (60 : Int32) fun q19 g20 => pR γ g20 x0 39 q19 fun g21 => pR γ g21 x0 42 (γ.1 33) fun g22 => mA g22 101 (3 : Int32) fun q23 g24 => pR γ g24 x0 43 q23 fun g25 => pI γ g25 x0 44 (-1 : Int32) fun g26 => (some g26) else none)
theorem t_X5_init (γ : GP) (l : Launch) (hl : l.stackTraces = false) (x0 : Nat) (g : AH) : TrM ρV γ l ⟨"BanquetVotesModel", "<init>", "()V"⟩ (ws_ ⟨"BanquetVotesModel", "<init>", "()V"⟩ prog_25_method_1_code 1 none) 2 [.ref x0] g (f_X5_init γ x0 g) := by
  refine TrM_of (plainFor_of_name (by decide)) (Nat.le_of_ble_eq_true rfl) ?_
  unfold f_X5_init
  change AW ρV γ l ck_X5_init g 0 [(0, .ref x0)] [] g _
  refine r_aload_n (pc := 0) dX5_init_0 rfl 0 rfl ?_
  refine r_objInit (pc := 1) dX5_init_1 q3375 q185 q186 (by decide) (Nat.le_of_ble_eq_true rfl) ?_
  refine r_aload_n (pc := 4) dX5_init_4 rfl 0 rfl ?_
  refine r_sipush (v := (5457 : Int32)) (pc := 5) dX5_init_5 (by decide) ?_
  refine r_newa (kd := 101) (atype := .int) (pc := 8) dX5_init_8 q1251 (by decide) rfl (by decide) (fun _ _ => by rw [nA_av]; rfl) (by decide) (fun q1 g2 => ?_)
  refine r_putR (f := 30) (pc := 10) dX5_init_10 q3378 (Or.inl rfl) (Or.inr ⟨rfl, rfl⟩) rfl (fun g3 => ?_)
  refine r_aload_n (pc := 13) dX5_init_13 rfl 0 rfl ?_
  refine r_sipush (v := (5457 : Int32)) (pc := 14) dX5_init_14 (by decide) ?_
  refine r_newa (kd := 101) (atype := .int) (pc := 17) dX5_init_17 q1251 (by decide) rfl (by decide) (fun _ _ => by rw [nA_av]; rfl) (by decide) (fun q4 g5 => ?_)
  refine r_putR (f := 31) (pc := 19) dX5_init_19 q3379 (Or.inl rfl) (Or.inr ⟨rfl, rfl⟩) rfl (fun g6 => ?_)
  refine r_aload_n (pc := 22) dX5_init_22 rfl 0 rfl ?_
  refine r_sipush (v := (5457 : Int32)) (pc := 23) dX5_init_23 (by decide) ?_
  refine r_newa (kd := 101) (atype := .int) (pc := 26) dX5_init_26 q1251 (by decide) rfl (by decide) (fun _ _ => by rw [nA_av]; rfl) (by decide) (fun q7 g8 => ?_)
  refine r_putR (f := 32) (pc := 28) dX5_init_28 q3380 (Or.inl rfl) (Or.inr ⟨rfl, rfl⟩) rfl (fun g9 => ?_)
  refine r_aload_n (pc := 31) dX5_init_31 rfl 0 rfl ?_
  refine r_ldci (v := (43656 : Int32)) (pc := 32) dX5_init_32 q3376 ?_
  refine r_newa (kd := 101) (atype := .int) (pc := 34) dX5_init_34 q1251 (by decide) rfl (by decide) (fun _ _ => by rw [nA_av]; rfl) (by decide) (fun q10 g11 => ?_)
  refine r_putR (f := 33) (pc := 36) dX5_init_36 q3381 (Or.inl rfl) (Or.inr ⟨rfl, rfl⟩) rfl (fun g12 => ?_)
  refine r_aload_n (pc := 39) dX5_init_39 rfl 0 rfl ?_
  refine r_sipush (v := (5457 : Int32)) (pc := 40) dX5_init_40 (by decide) ?_
  refine r_newa (kd := 101) (atype := .int) (pc := 43) dX5_init_43 q1251 (by decide) rfl (by decide) (fun _ _ => by rw [nA_av]; rfl) (by decide) (fun q13 g14 => ?_)
  refine r_putR (f := 35) (pc := 45) dX5_init_45 q3383 (Or.inl rfl) (Or.inr ⟨rfl, rfl⟩) rfl (fun g15 => ?_)
  refine r_aload_n (pc := 48) dX5_init_48 rfl 0 rfl ?_
  refine r_bipush (v := (40 : Int32)) (pc := 49) dX5_init_49 (by decide) ?_
  refine r_newa (kd := 103) (atype := .char) (pc := 51) dX5_init_51 q3442 (by decide) rfl (by decide) (fun _ _ => by rw [nA_av]; rfl) (by decide) (fun q16 g17 => ?_)
  refine r_putR (f := 37) (pc := 53) dX5_init_53 q3385 (Or.inl rfl) (Or.inr ⟨rfl, rfl⟩) rfl (fun g18 => ?_)
  refine r_aload_n (pc := 56) dX5_init_56 rfl 0 rfl ?_
  refine r_bipush (v := (60 : Int32)) (pc := 57) dX5_init_57 (by decide) ?_
  refine r_newa (kd := 103) (atype := .char) (pc := 59) dX5_init_59 q3442 (by decide) rfl (by decide) (fun _ _ => by rw [nA_av]; rfl) (by decide) (fun q19 g20 => ?_)
  refine r_putR (f := 39) (pc := 61) dX5_init_61 q3387 (Or.inl rfl) (Or.inr ⟨rfl, rfl⟩) rfl (fun g21 => ?_)
  refine r_aload_n (pc := 64) dX5_init_64 rfl 0 rfl ?_
  refine r_ldcS (pc := 65) dX5_init_65 (List.mem_of_getElem? (i := 21) rfl) ?_
  refine r_putR (f := 42) (pc := 67) dX5_init_67 q3390 (Or.inl rfl) (Or.inl rfl) rfl (fun g22 => ?_)
  refine r_aload_n (pc := 70) dX5_init_70 rfl 0 rfl ?_
  refine r_iconst (v := (3 : Int32)) (pc := 71) dX5_init_71 (by decide) ?_
  refine r_newa (kd := 101) (atype := .int) (pc := 72) dX5_init_72 q1251 (by decide) rfl (by decide) (fun _ _ => by rw [nA_av]; rfl) (by decide) (fun q23 g24 => ?_)
  refine r_putR (f := 43) (pc := 74) dX5_init_74 q3391 (Or.inl rfl) (Or.inr ⟨rfl, rfl⟩) rfl (fun g25 => ?_)
  refine r_aload_n (pc := 77) dX5_init_77 rfl 0 rfl ?_
  refine r_iconst (v := (-1 : Int32)) (pc := 78) dX5_init_78 (by decide) ?_
  refine r_putI (f := 44) (pc := 79) dX5_init_79 q3392 (Or.inl rfl) (Or.inl rfl) rfl (fun g26 => ?_)
  exact r_vret (pc := 82) dX5_init_82 rfl
abbrev ck_X5_thrown : CK := ("BanquetVotesModel", prog_25_method_2_code, 1, (some .int), "thrown", [], 1)
def f_X5_thrown (γ : GP) (x0 : Nat) (g : AH) : Option (Int32 × AH) := gI g x0 50 fun v1 => (some (v1, g))
theorem t_X5_thrown (γ : GP) (l : Launch) (hl : l.stackTraces = false) (x0 : Nat) (g : AH) : TrM ρI γ l ⟨"BanquetVotesModel", "thrown", "()I"⟩ (ws_ ⟨"BanquetVotesModel", "thrown", "()I"⟩ prog_25_method_2_code 1 (some .int)) 1 [.ref x0] g (f_X5_thrown γ x0 g) := by
  refine TrM_of (plainFor_of_name (by decide)) (Nat.le_of_ble_eq_true rfl) ?_
  unfold f_X5_thrown
  change AW ρI γ l ck_X5_thrown g 0 [(0, .ref x0)] [] g _
  refine r_aload_n (pc := 0) dX5_thrown_0 rfl 0 rfl ?_
  refine r_getI (f := 50) (pc := 1) dX5_thrown_1 q3398 (Or.inl rfl) rfl (fun v1 => ?_)
  exact r_iret (pc := 4) dX5_thrown_4 rfl
abbrev ck_X5_tries : CK := ("BanquetVotesModel", prog_25_method_5_code, 2, none, "tries", [], 1)
def f_X5_tries_L7 (γ : GP) (x0 : Nat) : Nat → Int32 → AH → Option (AH)
  | 0, _, _ => none
  | n + 1, x1, g => (if (5457 : Int32) ≤ x1 then (some g) else gR g x0 31 fun v2 => gR g x0 30 fun v3 => gA g 101 v3 x1 fun v4 => pA γ g 101 v2 x1 v4 fun g5 => f_X5_tries_L7 γ x0 n (x1 + (1 : Int32)) g5)
def f_X5_tries (γ : GP) (x0 : Nat) (g : AH) : Option (AH) := pI γ g x0 50 (0 : Int32) fun g1 => f_X5_tries_L7 γ x0 FU (0 : Int32) g1
theorem f_X5_tries_L7_w (γ : GP) (l : Launch) (hl : l.stackTraces = false) (G0 : AH) (x0 : Nat) : ∀ (n : Nat) (x1 : Int32) (g : AH), AW ρV γ l ck_X5_tries G0 7 [(0, .ref x0), (1, .int x1)] [] g (f_X5_tries_L7 γ x0 n x1 g) := by
  intro n
  induction n with
  | zero => intro x1 g; exact AW_none
  | succ n ih =>
    intro x1 g
    unfold f_X5_tries_L7
    refine r_iload_n (pc := 7) dX5_tries_7 rfl 1 rfl ?_
    refine r_sipush (v := (5457 : Int32)) (pc := 8) dX5_tries_8 (by decide) ?_
    refine r_icmp_ge (tgt := 32) (pc := 11) dX5_tries_11 (by decide) ?_ ?_
    · skip
      exact r_vret (pc := 32) dX5_tries_32 rfl
    · skip
      refine r_aload_n (pc := 14) dX5_tries_14 rfl 0 rfl ?_
      refine r_getR (f := 31) (pc := 15) dX5_tries_15 q3379 (Or.inl rfl) rfl (fun v2 => ?_)
      refine r_iload_n (pc := 18) dX5_tries_18 rfl 1 rfl ?_
      refine r_aload_n (pc := 19) dX5_tries_19 rfl 0 rfl ?_
      refine r_getR (f := 30) (pc := 20) dX5_tries_20 q3378 (Or.inl rfl) rfl (fun v3 => ?_)
      refine r_iload_n (pc := 23) dX5_tries_23 rfl 1 rfl ?_
      refine r_iald (pc := 24) dX5_tries_24 (fun v4 => ?_)
      refine r_iast (pc := 25) dX5_tries_25 (fun g5 => ?_)
      refine r_iinc (j := 1) (v := (x1 + (1 : Int32))) (pc := 26) dX5_tries_26 rfl rfl (Nat.le_of_ble_eq_true rfl) rfl ?_
      refine r_goto (tgt := 7) (pc := 29) dX5_tries_29 (by decide) ?_
      refine AW_sub [1, 0] rfl ?_
      exact ih (x1 + (1 : Int32)) g5
theorem t_X5_tries (γ : GP) (l : Launch) (hl : l.stackTraces = false) (x0 : Nat) (g : AH) : TrM ρV γ l ⟨"BanquetVotesModel", "tries", "()V"⟩ (ws_ ⟨"BanquetVotesModel", "tries", "()V"⟩ prog_25_method_5_code 2 none) 1 [.ref x0] g (f_X5_tries γ x0 g) := by
  refine TrM_of (plainFor_of_name (by decide)) (Nat.le_of_ble_eq_true rfl) ?_
  unfold f_X5_tries
  change AW ρV γ l ck_X5_tries g 0 [(0, .ref x0)] [] g _
  refine r_aload_n (pc := 0) dX5_tries_0 rfl 0 rfl ?_
  refine r_iconst (v := (0 : Int32)) (pc := 1) dX5_tries_1 (by decide) ?_
  refine r_putI (f := 50) (pc := 2) dX5_tries_2 q3398 (Or.inl rfl) (Or.inl rfl) rfl (fun g1 => ?_)
  refine r_iconst (v := (0 : Int32)) (pc := 5) dX5_tries_5 (by decide) ?_
  refine r_istore_n (pc := 6) dX5_tries_6 rfl (Nat.le_of_ble_eq_true rfl) rfl ?_
  refine AW_sub [1, 0] rfl ?_
  refine f_X5_tries_L7_w γ l hl _ x0 FU (0 : Int32) g1
abbrev ck_X5_in : CK := ("BanquetVotesModel", prog_25_method_4_code, 3, (some .boolean), "in", [], 1)
def f_X5_in (γ : GP) (x0 : Int32) (x1 : Int32) (x2 : Int32) (g : AH) : Option (Int32 × AH) := (if x0 < x1 then (rtN .boolean (0 : Int32) g) else (if x2 < x0 then (rtN .boolean (0 : Int32) g) else (rtN .boolean (1 : Int32) g)))
theorem t_X5_in (γ : GP) (l : Launch) (hl : l.stackTraces = false) (x0 : Int32) (x1 : Int32) (x2 : Int32) (g : AH) : TrM ρI γ l ⟨"BanquetVotesModel", "in", "(III)Z"⟩ (ws_ ⟨"BanquetVotesModel", "in", "(III)Z"⟩ prog_25_method_4_code 3 (some .boolean)) 1 [.int x0, .int x1, .int x2] g (f_X5_in γ x0 x1 x2 g) := by
  refine TrM_of (plainFor_of_name (by decide)) (Nat.le_of_ble_eq_true rfl) ?_
  unfold f_X5_in
  change AW ρI γ l ck_X5_in g 0 [(0, .int x0), (1, .int x1), (2, .int x2)] [] g _
  refine r_iload_n (pc := 0) dX5_in_0 rfl 0 rfl ?_
  refine r_iload_n (pc := 1) dX5_in_1 rfl 1 rfl ?_
  refine r_icmp_lt (tgt := 14) (pc := 2) dX5_in_2 (by decide) ?_ ?_
  · skip
    refine r_iconst (v := (0 : Int32)) (pc := 14) dX5_in_14 (by decide) ?_
    exact r_zret (ty := .boolean) (pc := 15) dX5_in_15 rfl
  · skip
    refine r_iload_n (pc := 5) dX5_in_5 rfl 0 rfl ?_
    refine r_iload_n (pc := 6) dX5_in_6 rfl 2 rfl ?_
    refine r_icmp_gt (tgt := 14) (pc := 7) dX5_in_7 (by decide) ?_ ?_
    · skip
      refine r_iconst (v := (0 : Int32)) (pc := 14) dX5_in_14 (by decide) ?_
      exact r_zret (ty := .boolean) (pc := 15) dX5_in_15 rfl
    · skip
      refine r_iconst (v := (1 : Int32)) (pc := 10) dX5_in_10 (by decide) ?_
      refine r_goto (tgt := 15) (pc := 11) dX5_in_11 (by decide) ?_
      exact r_zret (ty := .boolean) (pc := 15) dX5_in_15 rfl
abbrev ck_X5_raises : CK := ("BanquetVotesModel", prog_25_method_3_code, 2, (some .int), "raises", [], 1)
def f_X5_raises (γ : GP) (x0 : Nat) (x1 : Int32) (g : AH) : Option (Int32 × AH) := pI γ g x0 50 x1 fun g1 => (some ((0 : Int32), g1))
theorem t_X5_raises (γ : GP) (l : Launch) (hl : l.stackTraces = false) (x0 : Nat) (x1 : Int32) (g : AH) : TrM ρI γ l ⟨"BanquetVotesModel", "raises", "(I)I"⟩ (ws_ ⟨"BanquetVotesModel", "raises", "(I)I"⟩ prog_25_method_3_code 2 (some .int)) 1 [.ref x0, .int x1] g (f_X5_raises γ x0 x1 g) := by
  refine TrM_of (plainFor_of_name (by decide)) (Nat.le_of_ble_eq_true rfl) ?_
  unfold f_X5_raises
  change AW ρI γ l ck_X5_raises g 0 [(0, .ref x0), (1, .int x1)] [] g _
  refine r_aload_n (pc := 0) dX5_raises_0 rfl 0 rfl ?_
  refine r_iload_n (pc := 1) dX5_raises_1 rfl 1 rfl ?_
  refine r_putI (f := 50) (pc := 2) dX5_raises_2 q3398 (Or.inl rfl) (Or.inl rfl) rfl (fun g1 => ?_)
  refine r_iconst (v := (0 : Int32)) (pc := 5) dX5_raises_5 (by decide) ?_
  exact r_iret (pc := 6) dX5_raises_6 rfl
abbrev ck_X5_refuses : CK := ("BanquetVotesModel", prog_25_method_11_code, 3, (some .int), "refuses", [], 1)
def f_X5_refuses (γ : GP) (x0 : Nat) (x1 : Int32) (x2 : Int32) (g : AH) : Option (Int32 × AH) := pI γ g x0 45 x1 fun g1 => pI γ g1 x0 46 x2 fun g2 => (some ((3 : Int32), g2))
theorem t_X5_refuses (γ : GP) (l : Launch) (hl : l.stackTraces = false) (x0 : Nat) (x1 : Int32) (x2 : Int32) (g : AH) : TrM ρI γ l ⟨"BanquetVotesModel", "refuses", "(II)I"⟩ (ws_ ⟨"BanquetVotesModel", "refuses", "(II)I"⟩ prog_25_method_11_code 3 (some .int)) 1 [.ref x0, .int x1, .int x2] g (f_X5_refuses γ x0 x1 x2 g) := by
  refine TrM_of (plainFor_of_name (by decide)) (Nat.le_of_ble_eq_true rfl) ?_
  unfold f_X5_refuses
  change AW ρI γ l ck_X5_refuses g 0 [(0, .ref x0), (1, .int x1), (2, .int x2)] [] g _
  refine r_aload_n (pc := 0) dX5_refuses_0 rfl 0 rfl ?_
  refine r_iload_n (pc := 1) dX5_refuses_1 rfl 1 rfl ?_
  refine r_putI (f := 45) (pc := 2) dX5_refuses_2 q3393 (Or.inl rfl) (Or.inl rfl) rfl (fun g1 => ?_)
  refine r_aload_n (pc := 5) dX5_refuses_5 rfl 0 rfl ?_
  refine r_iload_n (pc := 6) dX5_refuses_6 rfl 2 rfl ?_
  refine r_putI (f := 46) (pc := 7) dX5_refuses_7 q3394 (Or.inl rfl) (Or.inl rfl) rfl (fun g2 => ?_)
  refine r_iconst (v := (3 : Int32)) (pc := 10) dX5_refuses_10 (by decide) ?_
  exact r_iret (pc := 11) dX5_refuses_11 rfl
abbrev ck_X5_setsCook : CK := ("BanquetVotesModel", prog_25_method_15_code, 4, none, "setsCook", [], 1)
def f_X5_setsCook (γ : GP) (x0 : Nat) (x1 : Int32) (x2 : Int32) (x3 : Int32) (g : AH) : Option (AH) := gR g x0 30 fun v1 => pA γ g 101 v1 (((7 : Int32) + ((15 : Int32) * x1)) + x2) x3 fun g2 => (some g2)
theorem t_X5_setsCook (γ : GP) (l : Launch) (hl : l.stackTraces = false) (x0 : Nat) (x1 : Int32) (x2 : Int32) (x3 : Int32) (g : AH) : TrM ρV γ l ⟨"BanquetVotesModel", "setsCook", "(III)V"⟩ (ws_ ⟨"BanquetVotesModel", "setsCook", "(III)V"⟩ prog_25_method_15_code 4 none) 1 [.ref x0, .int x1, .int x2, .int x3] g (f_X5_setsCook γ x0 x1 x2 x3 g) := by
  refine TrM_of (plainFor_of_name (by decide)) (Nat.le_of_ble_eq_true rfl) ?_
  unfold f_X5_setsCook
  change AW ρV γ l ck_X5_setsCook g 0 [(0, .ref x0), (1, .int x1), (2, .int x2), (3, .int x3)] [] g _
  refine r_aload_n (pc := 0) dX5_setsCook_0 rfl 0 rfl ?_
  refine r_getR (f := 30) (pc := 1) dX5_setsCook_1 q3378 (Or.inl rfl) rfl (fun v1 => ?_)
  refine r_bipush (v := (7 : Int32)) (pc := 4) dX5_setsCook_4 (by decide) ?_
  refine r_bipush (v := (15 : Int32)) (pc := 6) dX5_setsCook_6 (by decide) ?_
  refine r_iload_n (pc := 8) dX5_setsCook_8 rfl 1 rfl ?_
  refine r_imul (pc := 9) dX5_setsCook_9 ?_
  refine r_iadd (pc := 10) dX5_setsCook_10 ?_
  refine r_iload_n (pc := 11) dX5_setsCook_11 rfl 2 rfl ?_
  refine r_iadd (pc := 12) dX5_setsCook_12 ?_
  refine r_iload_n (pc := 13) dX5_setsCook_13 rfl 3 rfl ?_
  refine r_iast (pc := 14) dX5_setsCook_14 (fun g2 => ?_)
  exact r_vret (pc := 15) dX5_setsCook_15 rfl
abbrev ck_X5_keeps : CK := ("BanquetVotesModel", prog_25_method_7_code, 3, (some .int), "keeps", [], 1)
def f_X5_keeps_L11 (γ : GP) (x0 : Nat) (x1 : Int32) (K39 : AH → Option (Int32 × AH)) : Nat → Int32 → AH → Option (Int32 × AH)
  | 0, _, _ => none
  | n + 1, x2, g => (if (38199 : Int32) ≤ x2 then K39 g else gR g x0 33 fun v2 => gR g x0 33 fun v3 => gA g 101 v3 ((5457 : Int32) + x2) fun v4 => pA γ g 101 v2 x2 v4 fun g5 => f_X5_keeps_L11 γ x0 x1 K39 n (x2 + (1 : Int32)) g5)
def f_X5_keeps_L51 (γ : GP) (x0 : Nat) (x1 : Int32) : Nat → Int32 → AH → Option (Int32 × AH)
  | 0, _, _ => none
  | n + 1, x2, g => (if (5457 : Int32) ≤ x2 then gI g x0 34 fun v9 => pI γ g x0 34 (v9 + (1 : Int32)) fun g10 => (some (x1, g10)) else gR g x0 33 fun v11 => gI g x0 34 fun v12 => gR g x0 31 fun v13 => gA g 101 v13 x2 fun v14 => pA γ g 101 v11 (((5457 : Int32) * v12) + x2) v14 fun g15 => f_X5_keeps_L51 γ x0 x1 n (x2 + (1 : Int32)) g15)
def f_X5_keeps (γ : GP) (x0 : Nat) (x1 : Int32) (g : AH) : Option (Int32 × AH) := gI g x0 34 fun v1 => (if v1 = (8 : Int32) then f_X5_keeps_L11 γ x0 x1 (fun (g6 : AH) => gI g6 x0 34 fun v7 => pI γ g6 x0 34 (v7 - (1 : Int32)) fun g8 => f_X5_keeps_L51 γ x0 x1 FU (0 : Int32) g8) FU (0 : Int32) g else f_X5_keeps_L51 γ x0 x1 FU (0 : Int32) g)
theorem f_X5_keeps_L11_w (γ : GP) (l : Launch) (hl : l.stackTraces = false) (G0 : AH) (x0 : Nat) (x1 : Int32) (K39 : AH → Option (Int32 × AH)) (h_K39 : ∀ (g : AH), AW ρI γ l ck_X5_keeps G0 39 [(0, .ref x0), (1, .int x1)] [] g (K39 g)) : ∀ (n : Nat) (x2 : Int32) (g : AH), AW ρI γ l ck_X5_keeps G0 11 [(0, .ref x0), (1, .int x1), (2, .int x2)] [] g (f_X5_keeps_L11 γ x0 x1 K39 n x2 g) := by
  intro n
  induction n with
  | zero => intro x2 g; exact AW_none
  | succ n ih =>
    intro x2 g
    unfold f_X5_keeps_L11
    refine r_iload_n (pc := 11) dX5_keeps_11 rfl 2 rfl ?_
    refine r_ldci (v := (38199 : Int32)) (pc := 12) dX5_keeps_12 q3474 ?_
    refine r_icmp_ge (tgt := 39) (pc := 14) dX5_keeps_14 (by decide) ?_ ?_
    · skip
      refine AW_sub [0, 1] rfl ?_
      exact h_K39 g
    · skip
      refine r_aload_n (pc := 17) dX5_keeps_17 rfl 0 rfl ?_
      refine r_getR (f := 33) (pc := 18) dX5_keeps_18 q3381 (Or.inl rfl) rfl (fun v2 => ?_)
      refine r_iload_n (pc := 21) dX5_keeps_21 rfl 2 rfl ?_
      refine r_aload_n (pc := 22) dX5_keeps_22 rfl 0 rfl ?_
      refine r_getR (f := 33) (pc := 23) dX5_keeps_23 q3381 (Or.inl rfl) rfl (fun v3 => ?_)
      refine r_sipush (v := (5457 : Int32)) (pc := 26) dX5_keeps_26 (by decide) ?_
      refine r_iload_n (pc := 29) dX5_keeps_29 rfl 2 rfl ?_
      refine r_iadd (pc := 30) dX5_keeps_30 ?_
      refine r_iald (pc := 31) dX5_keeps_31 (fun v4 => ?_)
      refine r_iast (pc := 32) dX5_keeps_32 (fun g5 => ?_)
      refine r_iinc (j := 2) (v := (x2 + (1 : Int32))) (pc := 33) dX5_keeps_33 rfl rfl (Nat.le_of_ble_eq_true rfl) rfl ?_
      refine r_goto (tgt := 11) (pc := 36) dX5_keeps_36 (by decide) ?_
      refine AW_sub [1, 2, 0] rfl ?_
      exact ih (x2 + (1 : Int32)) g5
theorem f_X5_keeps_L51_w (γ : GP) (l : Launch) (hl : l.stackTraces = false) (G0 : AH) (x0 : Nat) (x1 : Int32) : ∀ (n : Nat) (x2 : Int32) (g : AH), AW ρI γ l ck_X5_keeps G0 51 [(0, .ref x0), (1, .int x1), (2, .int x2)] [] g (f_X5_keeps_L51 γ x0 x1 n x2 g) := by
  intro n
  induction n with
  | zero => intro x2 g; exact AW_none
  | succ n ih =>
    intro x2 g
    unfold f_X5_keeps_L51
    refine r_iload_n (pc := 51) dX5_keeps_51 rfl 2 rfl ?_
    refine r_sipush (v := (5457 : Int32)) (pc := 52) dX5_keeps_52 (by decide) ?_
    refine r_icmp_ge (tgt := 85) (pc := 55) dX5_keeps_55 (by decide) ?_ ?_
    · skip
      refine r_aload_n (pc := 85) dX5_keeps_85 rfl 0 rfl ?_
      refine r_dup (pc := 86) dX5_keeps_86 rfl ?_
      refine r_getI (f := 34) (pc := 87) dX5_keeps_87 q3382 (Or.inl rfl) rfl (fun v9 => ?_)
      refine r_iconst (v := (1 : Int32)) (pc := 90) dX5_keeps_90 (by decide) ?_
      refine r_iadd (pc := 91) dX5_keeps_91 ?_
      refine r_putI (f := 34) (pc := 92) dX5_keeps_92 q3382 (Or.inl rfl) (Or.inl rfl) rfl (fun g10 => ?_)
      refine r_iload_n (pc := 95) dX5_keeps_95 rfl 1 rfl ?_
      exact r_iret (pc := 96) dX5_keeps_96 rfl
    · skip
      refine r_aload_n (pc := 58) dX5_keeps_58 rfl 0 rfl ?_
      refine r_getR (f := 33) (pc := 59) dX5_keeps_59 q3381 (Or.inl rfl) rfl (fun v11 => ?_)
      refine r_sipush (v := (5457 : Int32)) (pc := 62) dX5_keeps_62 (by decide) ?_
      refine r_aload_n (pc := 65) dX5_keeps_65 rfl 0 rfl ?_
      refine r_getI (f := 34) (pc := 66) dX5_keeps_66 q3382 (Or.inl rfl) rfl (fun v12 => ?_)
      refine r_imul (pc := 69) dX5_keeps_69 ?_
      refine r_iload_n (pc := 70) dX5_keeps_70 rfl 2 rfl ?_
      refine r_iadd (pc := 71) dX5_keeps_71 ?_
      refine r_aload_n (pc := 72) dX5_keeps_72 rfl 0 rfl ?_
      refine r_getR (f := 31) (pc := 73) dX5_keeps_73 q3379 (Or.inl rfl) rfl (fun v13 => ?_)
      refine r_iload_n (pc := 76) dX5_keeps_76 rfl 2 rfl ?_
      refine r_iald (pc := 77) dX5_keeps_77 (fun v14 => ?_)
      refine r_iast (pc := 78) dX5_keeps_78 (fun g15 => ?_)
      refine r_iinc (j := 2) (v := (x2 + (1 : Int32))) (pc := 79) dX5_keeps_79 rfl rfl (Nat.le_of_ble_eq_true rfl) rfl ?_
      refine r_goto (tgt := 51) (pc := 82) dX5_keeps_82 (by decide) ?_
      refine AW_sub [1, 2, 0] rfl ?_
      exact ih (x2 + (1 : Int32)) g15
theorem t_X5_keeps (γ : GP) (l : Launch) (hl : l.stackTraces = false) (x0 : Nat) (x1 : Int32) (g : AH) : TrM ρI γ l ⟨"BanquetVotesModel", "keeps", "(I)I"⟩ (ws_ ⟨"BanquetVotesModel", "keeps", "(I)I"⟩ prog_25_method_7_code 3 (some .int)) 1 [.ref x0, .int x1] g (f_X5_keeps γ x0 x1 g) := by
  refine TrM_of (plainFor_of_name (by decide)) (Nat.le_of_ble_eq_true rfl) ?_
  unfold f_X5_keeps
  change AW ρI γ l ck_X5_keeps g 0 [(0, .ref x0), (1, .int x1)] [] g _
  refine r_aload_n (pc := 0) dX5_keeps_0 rfl 0 rfl ?_
  refine r_getI (f := 34) (pc := 1) dX5_keeps_1 q3382 (Or.inl rfl) rfl (fun v1 => ?_)
  refine r_bipush (v := (8 : Int32)) (pc := 4) dX5_keeps_4 (by decide) ?_
  refine r_icmp_ne (tgt := 49) (pc := 6) dX5_keeps_6 (by decide) ?_ ?_
  · skip
    refine r_iconst (v := (0 : Int32)) (pc := 9) dX5_keeps_9 (by decide) ?_
    refine r_istore_n (pc := 10) dX5_keeps_10 rfl (Nat.le_of_ble_eq_true rfl) rfl ?_
    refine AW_sub [1, 2, 0] rfl ?_
    refine f_X5_keeps_L11_w γ l hl _ x0 x1 _ ?_ FU (0 : Int32) g
    · intro g6
      refine r_aload_n (pc := 39) dX5_keeps_39 rfl 0 rfl ?_
      refine r_dup (pc := 40) dX5_keeps_40 rfl ?_
      refine r_getI (f := 34) (pc := 41) dX5_keeps_41 q3382 (Or.inl rfl) rfl (fun v7 => ?_)
      refine r_iconst (v := (1 : Int32)) (pc := 44) dX5_keeps_44 (by decide) ?_
      refine r_isub (pc := 45) dX5_keeps_45 ?_
      refine r_putI (f := 34) (pc := 46) dX5_keeps_46 q3382 (Or.inl rfl) (Or.inl rfl) rfl (fun g8 => ?_)
      refine r_iconst (v := (0 : Int32)) (pc := 49) dX5_keeps_49 (by decide) ?_
      refine r_istore_n (pc := 50) dX5_keeps_50 rfl (Nat.le_of_ble_eq_true rfl) rfl ?_
      refine AW_sub [1, 2, 0] rfl ?_
      refine f_X5_keeps_L51_w γ l hl _ x0 x1 FU (0 : Int32) g8
  · skip
    refine r_iconst (v := (0 : Int32)) (pc := 49) dX5_keeps_49 (by decide) ?_
    refine r_istore_n (pc := 50) dX5_keeps_50 rfl (Nat.le_of_ble_eq_true rfl) rfl ?_
    refine AW_sub [1, 2, 0] rfl ?_
    refine f_X5_keeps_L51_w γ l hl _ x0 x1 FU (0 : Int32) g
abbrev ck_X5_cook : CK := ("BanquetVotesModel", prog_25_method_40_code, 4, (some .int), "cook", [], 2)
def f_X5_cook_L58 (γ : GP) (x0 : Nat) (x1 : Int32) (x2 : Int32) (K77 : AH → Option (Int32 × AH)) : Nat → Int32 → AH → Option (Int32 × AH)
  | 0, _, _ => none
  | n + 1, x3, g => (if (15 : Int32) ≤ x3 then K77 g else bV ((if hK g x0 = 8 then f_X5_setsCook γ x0 x2 x3 (0 : Int32) g else none)) fun g15 => f_X5_cook_L58 γ x0 x1 x2 K77 n (x3 + (1 : Int32)) g15)
def f_X5_cook (γ : GP) (x0 : Nat) (x1 : Int32) (g : AH) : Option (Int32 × AH) := bV ((if hK g x0 = 8 then f_X5_tries γ x0 g else none)) fun g1 => bI (f_X5_in γ x1 (1 : Int32) (5 : Int32) g1) fun v3 g2 => (if v3 = 0 then bI ((if hK g2 x0 = 8 then f_X5_raises γ x0 (1 : Int32) g2 else none)) fun v5 g4 => (some (v5, g4)) else gR g2 x0 30 fun v6 => gA g2 101 v6 (1 : Int32) fun v7 => (if v7 = (6 : Int32) then bI ((if hK g2 x0 = 8 then f_X5_refuses γ x0 (1 : Int32) (6 : Int32) g2 else none)) fun v9 g8 => bI ((if hK g8 x0 = 8 then f_X5_raises γ x0 (v9 - (1 : Int32)) g8 else none)) fun v11 g10 => (some (v11, g10)) else gR g2 x0 30 fun v12 => gA g2 101 v12 (1 : Int32) fun v13 => pA γ g2 101 v12 (1 : Int32) (v13 + (1 : Int32)) fun g14 => f_X5_cook_L58 γ x0 x1 v7 (fun (g16 : AH) => bV ((if hK g16 x0 = 8 then f_X5_setsCook γ x0 v7 (0 : Int32) x1 g16 else none)) fun g17 => bI ((if hK g17 x0 = 8 then f_X5_keeps γ x0 v7 g17 else none)) fun v19 g18 => (some (v19, g18))) FU (0 : Int32) g14))
theorem f_X5_cook_L58_w (γ : GP) (l : Launch) (hl : l.stackTraces = false) (G0 : AH) (x0 : Nat) (x1 : Int32) (x2 : Int32) (K77 : AH → Option (Int32 × AH)) (h_K77 : ∀ (g : AH), AW ρI γ l ck_X5_cook G0 77 [(0, .ref x0), (1, .int x1), (2, .int x2)] [] g (K77 g)) : ∀ (n : Nat) (x3 : Int32) (g : AH), AW ρI γ l ck_X5_cook G0 58 [(0, .ref x0), (1, .int x1), (2, .int x2), (3, .int x3)] [] g (f_X5_cook_L58 γ x0 x1 x2 K77 n x3 g) := by
  intro n
  induction n with
  | zero => intro x3 g; exact AW_none
  | succ n ih =>
    intro x3 g
    unfold f_X5_cook_L58
    refine r_iload_n (pc := 58) dX5_cook_58 rfl 3 rfl ?_
    refine r_bipush (v := (15 : Int32)) (pc := 59) dX5_cook_59 (by decide) ?_
    refine r_icmp_ge (tgt := 77) (pc := 61) dX5_cook_61 (by decide) ?_ ?_
    · skip
      refine AW_sub [0, 1, 2] rfl ?_
      exact h_K77 g
    · skip
      refine r_aload_n (pc := 64) dX5_cook_64 rfl 0 rfl ?_
      refine r_iload_n (pc := 65) dX5_cook_65 rfl 2 rfl ?_
      refine r_iload_n (pc := 66) dX5_cook_66 rfl 3 rfl ?_
      refine r_iconst (v := (0 : Int32)) (pc := 67) dX5_cook_67 (by decide) ?_
      refine r_cV (pc := 68) (rest := []) (RunOK_chk (fun h => run_V (n := 3) (c9 := 8) (As := [.int x2, .int x3, .int (0 : Int32)]) (rest := []) (t_X5_setsCook γ l hl x0 x2 x3 (0 : Int32) g) dX5_cook_68 q3466 q3468 qs55 q121 q3469 (by decide +kernel) rfl h ⟨rfl, by decide, by decide⟩ (Nat.le_of_ble_eq_true rfl) (Nat.le_of_ble_eq_true rfl) rfl (Nat.le_of_ble_eq_true rfl))) (fun g15 => ?_)
      refine r_iinc (j := 3) (v := (x3 + (1 : Int32))) (pc := 71) dX5_cook_71 rfl rfl (Nat.le_of_ble_eq_true rfl) rfl ?_
      refine r_goto (tgt := 58) (pc := 74) dX5_cook_74 (by decide) ?_
      refine AW_sub [1, 2, 3, 0] rfl ?_
      exact ih (x3 + (1 : Int32)) g15
theorem t_X5_cook (γ : GP) (l : Launch) (hl : l.stackTraces = false) (x0 : Nat) (x1 : Int32) (g : AH) : TrM ρI γ l ⟨"BanquetVotesModel", "cook", "(I)I"⟩ (ws_ ⟨"BanquetVotesModel", "cook", "(I)I"⟩ prog_25_method_40_code 4 (some .int)) 2 [.ref x0, .int x1] g (f_X5_cook γ x0 x1 g) := by
  refine TrM_of (plainFor_of_name (by decide)) (Nat.le_of_ble_eq_true rfl) ?_
  unfold f_X5_cook
  change AW ρI γ l ck_X5_cook g 0 [(0, .ref x0), (1, .int x1)] [] g _
  refine r_aload_n (pc := 0) dX5_cook_0 rfl 0 rfl ?_
  refine r_cV (pc := 1) (rest := []) (RunOK_chk (fun h => run_V (n := 0) (c9 := 8) (As := []) (rest := []) (t_X5_tries γ l hl x0 g) dX5_cook_1 q3451 q3453 qs52 q121 q3454 (by decide +kernel) rfl h ⟨rfl, by decide, by decide⟩ (Nat.le_of_ble_eq_true rfl) (Nat.le_of_ble_eq_true rfl) rfl (Nat.le_of_ble_eq_true rfl))) (fun g1 => ?_)
  refine r_iload_n (pc := 4) dX5_cook_4 rfl 1 rfl ?_
  refine r_iconst (v := (1 : Int32)) (pc := 5) dX5_cook_5 (by decide) ?_
  refine r_iconst (v := (5 : Int32)) (pc := 6) dX5_cook_6 (by decide) ?_
  refine r_cI (pc := 7) (rest := []) (run_S (n := 3) (As := [.int x1, .int (1 : Int32), .int (5 : Int32)]) (rest := []) (t_X5_in γ l hl x1 (1 : Int32) (5 : Int32) g1) dX5_cook_7 q3455 q3456 q121 q3457 (by decide +kernel) rfl (Nat.le_of_ble_eq_true rfl) (Nat.le_of_ble_eq_true rfl) rfl (Nat.le_of_ble_eq_true rfl)) (fun v3 g2 => ?_)
  refine r_if_ne (tgt := 19) (pc := 10) dX5_cook_10 (by decide) ?_ ?_
  · skip
    refine r_aload_n (pc := 13) dX5_cook_13 rfl 0 rfl ?_
    refine r_iconst (v := (1 : Int32)) (pc := 14) dX5_cook_14 (by decide) ?_
    refine r_cI (pc := 15) (rest := []) (RunOK_chk (fun h => run_V (n := 1) (c9 := 8) (As := [.int (1 : Int32)]) (rest := []) (t_X5_raises γ l hl x0 (1 : Int32) g2) dX5_cook_15 q3458 q3460 qs53 q121 q3461 (by decide +kernel) rfl h ⟨rfl, by decide, by decide⟩ (Nat.le_of_ble_eq_true rfl) (Nat.le_of_ble_eq_true rfl) rfl (Nat.le_of_ble_eq_true rfl))) (fun v5 g4 => ?_)
    exact r_iret (pc := 18) dX5_cook_18 rfl
  · skip
    refine r_aload_n (pc := 19) dX5_cook_19 rfl 0 rfl ?_
    refine r_getR (f := 30) (pc := 20) dX5_cook_20 q3378 (Or.inl rfl) rfl (fun v6 => ?_)
    refine r_iconst (v := (1 : Int32)) (pc := 23) dX5_cook_23 (by decide) ?_
    refine r_iald (pc := 24) dX5_cook_24 (fun v7 => ?_)
    refine r_istore_n (pc := 25) dX5_cook_25 rfl (Nat.le_of_ble_eq_true rfl) rfl ?_
    refine r_iload_n (pc := 26) dX5_cook_26 rfl 0 rfl ?_
    refine r_bipush (v := (6 : Int32)) (pc := 27) dX5_cook_27 (by decide) ?_
    refine r_icmp_ne (tgt := 46) (pc := 29) dX5_cook_29 (by decide) ?_ ?_
    · skip
      refine r_aload_n (pc := 32) dX5_cook_32 rfl 1 rfl ?_
      refine r_aload_n (pc := 33) dX5_cook_33 rfl 1 rfl ?_
      refine r_iconst (v := (1 : Int32)) (pc := 34) dX5_cook_34 (by decide) ?_
      refine r_bipush (v := (6 : Int32)) (pc := 35) dX5_cook_35 (by decide) ?_
      refine r_cI (pc := 37) (rest := [.ref x0]) (RunOK_chk (fun h => run_V (n := 2) (c9 := 8) (As := [.int (1 : Int32), .int (6 : Int32)]) (rest := [.ref x0]) (t_X5_refuses γ l hl x0 (1 : Int32) (6 : Int32) g2) dX5_cook_37 q3462 q3464 qs54 q121 q3465 (by decide +kernel) rfl h ⟨rfl, by decide, by decide⟩ (Nat.le_of_ble_eq_true rfl) (Nat.le_of_ble_eq_true rfl) rfl (Nat.le_of_ble_eq_true rfl))) (fun v9 g8 => ?_)
      refine r_iconst (v := (1 : Int32)) (pc := 40) dX5_cook_40 (by decide) ?_
      refine r_isub (pc := 41) dX5_cook_41 ?_
      refine r_cI (pc := 42) (rest := []) (RunOK_chk (fun h => run_V (n := 1) (c9 := 8) (As := [.int (v9 - (1 : Int32))]) (rest := []) (t_X5_raises γ l hl x0 (v9 - (1 : Int32)) g8) dX5_cook_42 q3458 q3460 qs53 q121 q3461 (by decide +kernel) rfl h ⟨rfl, by decide, by decide⟩ (Nat.le_of_ble_eq_true rfl) (Nat.le_of_ble_eq_true rfl) rfl (Nat.le_of_ble_eq_true rfl))) (fun v11 g10 => ?_)
      exact r_iret (pc := 45) dX5_cook_45 rfl
    · skip
      refine r_aload_n (pc := 46) dX5_cook_46 rfl 1 rfl ?_
      refine r_getR (f := 30) (pc := 47) dX5_cook_47 q3378 (Or.inl rfl) rfl (fun v12 => ?_)
      refine r_iconst (v := (1 : Int32)) (pc := 50) dX5_cook_50 (by decide) ?_
      refine r_dup2 (pc := 51) dX5_cook_51 rfl rfl ?_
      refine r_iald (pc := 52) dX5_cook_52 (fun v13 => ?_)
      refine r_iconst (v := (1 : Int32)) (pc := 53) dX5_cook_53 (by decide) ?_
      refine r_iadd (pc := 54) dX5_cook_54 ?_
      refine r_iast (pc := 55) dX5_cook_55 (fun g14 => ?_)
      refine r_iconst (v := (0 : Int32)) (pc := 56) dX5_cook_56 (by decide) ?_
      refine r_istore_n (pc := 57) dX5_cook_57 rfl (Nat.le_of_ble_eq_true rfl) rfl ?_
      refine AW_sub [2, 3, 1, 0] rfl ?_
      refine f_X5_cook_L58_w γ l hl _ x0 x1 v7 _ ?_ FU (0 : Int32) g14
      · intro g16
        refine r_aload_n (pc := 77) dX5_cook_77 rfl 0 rfl ?_
        refine r_iload_n (pc := 78) dX5_cook_78 rfl 2 rfl ?_
        refine r_iconst (v := (0 : Int32)) (pc := 79) dX5_cook_79 (by decide) ?_
        refine r_iload_n (pc := 80) dX5_cook_80 rfl 1 rfl ?_
        refine r_cV (pc := 81) (rest := []) (RunOK_chk (fun h => run_V (n := 3) (c9 := 8) (As := [.int v7, .int (0 : Int32), .int x1]) (rest := []) (t_X5_setsCook γ l hl x0 v7 (0 : Int32) x1 g16) dX5_cook_81 q3466 q3468 qs55 q121 q3469 (by decide +kernel) rfl h ⟨rfl, by decide, by decide⟩ (Nat.le_of_ble_eq_true rfl) (Nat.le_of_ble_eq_true rfl) rfl (Nat.le_of_ble_eq_true rfl))) (fun g17 => ?_)
        refine r_aload_n (pc := 84) dX5_cook_84 rfl 0 rfl ?_
        refine r_iload_n (pc := 85) dX5_cook_85 rfl 2 rfl ?_
        refine r_cI (pc := 86) (rest := []) (RunOK_chk (fun h => run_V (n := 1) (c9 := 8) (As := [.int v7]) (rest := []) (t_X5_keeps γ l hl x0 v7 g17) dX5_cook_86 q3470 q3472 qs56 q121 q3473 (by decide +kernel) rfl h ⟨rfl, by decide, by decide⟩ (Nat.le_of_ble_eq_true rfl) (Nat.le_of_ble_eq_true rfl) rfl (Nat.le_of_ble_eq_true rfl))) (fun v19 g18 => ?_)
        exact r_iret (pc := 89) dX5_cook_89 rfl
abbrev ck_X5_isCook : CK := ("BanquetVotesModel", prog_25_method_12_code, 2, (some .boolean), "isCook", [], 2)
def f_X5_isCook (γ : GP) (x0 : Nat) (x1 : Int32) (g : AH) : Option (Int32 × AH) := gR g x0 30 fun v1 => gA g 101 v1 (1 : Int32) fun v2 => bI (f_X5_in γ x1 (0 : Int32) (v2 - (1 : Int32)) g) fun v4 g3 => (rtN .boolean v4 g3)
theorem t_X5_isCook (γ : GP) (l : Launch) (hl : l.stackTraces = false) (x0 : Nat) (x1 : Int32) (g : AH) : TrM ρI γ l ⟨"BanquetVotesModel", "isCook", "(I)Z"⟩ (ws_ ⟨"BanquetVotesModel", "isCook", "(I)Z"⟩ prog_25_method_12_code 2 (some .boolean)) 2 [.ref x0, .int x1] g (f_X5_isCook γ x0 x1 g) := by
  refine TrM_of (plainFor_of_name (by decide)) (Nat.le_of_ble_eq_true rfl) ?_
  unfold f_X5_isCook
  change AW ρI γ l ck_X5_isCook g 0 [(0, .ref x0), (1, .int x1)] [] g _
  refine r_iload_n (pc := 0) dX5_isCook_0 rfl 1 rfl ?_
  refine r_iconst (v := (0 : Int32)) (pc := 1) dX5_isCook_1 (by decide) ?_
  refine r_aload_n (pc := 2) dX5_isCook_2 rfl 0 rfl ?_
  refine r_getR (f := 30) (pc := 3) dX5_isCook_3 q3378 (Or.inl rfl) rfl (fun v1 => ?_)
  refine r_iconst (v := (1 : Int32)) (pc := 6) dX5_isCook_6 (by decide) ?_
  refine r_iald (pc := 7) dX5_isCook_7 (fun v2 => ?_)
  refine r_iconst (v := (1 : Int32)) (pc := 8) dX5_isCook_8 (by decide) ?_
  refine r_isub (pc := 9) dX5_isCook_9 ?_
  refine r_cI (pc := 10) (rest := []) (run_S (n := 3) (As := [.int x1, .int (0 : Int32), .int (v2 - (1 : Int32))]) (rest := []) (t_X5_in γ l hl x1 (0 : Int32) (v2 - (1 : Int32)) g) dX5_isCook_10 q3455 q3456 q121 q3457 (by decide +kernel) rfl (Nat.le_of_ble_eq_true rfl) (Nat.le_of_ble_eq_true rfl) rfl (Nat.le_of_ble_eq_true rfl)) (fun v4 g3 => ?_)
  exact r_zret (ty := .boolean) (pc := 13) dX5_isCook_13 rfl
abbrev ck_X5_cook_2 : CK := ("BanquetVotesModel", prog_25_method_14_code, 3, (some .int), "cook", [], 1)
def f_X5_cook_2 (γ : GP) (x0 : Nat) (x1 : Int32) (x2 : Int32) (g : AH) : Option (Int32 × AH) := gR g x0 30 fun v1 => gA g 101 v1 (((7 : Int32) + ((15 : Int32) * x1)) + x2) fun v2 => (some (v2, g))
theorem t_X5_cook_2 (γ : GP) (l : Launch) (hl : l.stackTraces = false) (x0 : Nat) (x1 : Int32) (x2 : Int32) (g : AH) : TrM ρI γ l ⟨"BanquetVotesModel", "cook", "(II)I"⟩ (ws_ ⟨"BanquetVotesModel", "cook", "(II)I"⟩ prog_25_method_14_code 3 (some .int)) 1 [.ref x0, .int x1, .int x2] g (f_X5_cook_2 γ x0 x1 x2 g) := by
  refine TrM_of (plainFor_of_name (by decide)) (Nat.le_of_ble_eq_true rfl) ?_
  unfold f_X5_cook_2
  change AW ρI γ l ck_X5_cook_2 g 0 [(0, .ref x0), (1, .int x1), (2, .int x2)] [] g _
  refine r_aload_n (pc := 0) dX5_cook_2_0 rfl 0 rfl ?_
  refine r_getR (f := 30) (pc := 1) dX5_cook_2_1 q3378 (Or.inl rfl) rfl (fun v1 => ?_)
  refine r_bipush (v := (7 : Int32)) (pc := 4) dX5_cook_2_4 (by decide) ?_
  refine r_bipush (v := (15 : Int32)) (pc := 6) dX5_cook_2_6 (by decide) ?_
  refine r_iload_n (pc := 8) dX5_cook_2_8 rfl 1 rfl ?_
  refine r_imul (pc := 9) dX5_cook_2_9 ?_
  refine r_iadd (pc := 10) dX5_cook_2_10 ?_
  refine r_iload_n (pc := 11) dX5_cook_2_11 rfl 2 rfl ?_
  refine r_iadd (pc := 12) dX5_cook_2_12 ?_
  refine r_iald (pc := 13) dX5_cook_2_13 (fun v2 => ?_)
  exact r_iret (pc := 14) dX5_cook_2_14 rfl
abbrev ck_X5_stock : CK := ("BanquetVotesModel", prog_25_method_41_code, 5, (some .int), "stock", [], 3)
def f_X5_stock (γ : GP) (x0 : Nat) (x1 : Int32) (x2 : Int32) (x3 : Int32) (g : AH) : Option (Int32 × AH) := bV ((if hK g x0 = 8 then f_X5_tries γ x0 g else none)) fun g1 => bI ((if hK g1 x0 = 8 then f_X5_isCook γ x0 x1 g1 else none)) fun v3 g2 => (if v3 = 0 then bI ((if hK g2 x0 = 8 then f_X5_raises γ x0 (1 : Int32) g2 else none)) fun v5 g4 => (some (v5, g4)) else bI (f_X5_in γ x2 (0 : Int32) (3 : Int32) g2) fun v7 g6 => jn (fun (g8 : AH) => bI ((if hK g8 x0 = 8 then f_X5_raises γ x0 (2 : Int32) g8 else none)) fun v11 g10 => (some (v11, g10))) (fun (j9 : AH → Option (Int32 × AH)) => (if v7 = 0 then j9 g6 else bI (f_X5_in γ x3 (1 : Int32) (50 : Int32) g6) fun v13 g12 => (if v13 = 0 then j9 g12 else bI ((if hK g12 x0 = 8 then f_X5_cook_2 γ x0 x1 ((3 : Int32) + x2) g12 else none)) fun v15 g14 => (if (v15 + x3) ≤ (50 : Int32) then bV ((if hK g14 x0 = 8 then f_X5_setsCook γ x0 x1 ((3 : Int32) + x2) (v15 + x3) g14 else none)) fun g16 => bI ((if hK g16 x0 = 8 then f_X5_cook_2 γ x0 x1 ((7 : Int32) + x2) g16 else none)) fun v18 g17 => bV ((if hK g17 x0 = 8 then f_X5_setsCook γ x0 x1 ((7 : Int32) + x2) (v18 + x3) g17 else none)) fun g19 => bI ((if hK g19 x0 = 8 then f_X5_keeps γ x0 (v15 + x3) g19 else none)) fun v21 g20 => (some (v21, g20)) else bI ((if hK g14 x0 = 8 then f_X5_refuses γ x0 (2 : Int32) (v15 + x3) g14 else none)) fun v23 g22 => bI ((if hK g22 x0 = 8 then f_X5_raises γ x0 v23 g22 else none)) fun v25 g24 => (some (v25, g24)))))))
theorem t_X5_stock (γ : GP) (l : Launch) (hl : l.stackTraces = false) (x0 : Nat) (x1 : Int32) (x2 : Int32) (x3 : Int32) (g : AH) : TrM ρI γ l ⟨"BanquetVotesModel", "stock", "(III)I"⟩ (ws_ ⟨"BanquetVotesModel", "stock", "(III)I"⟩ prog_25_method_41_code 5 (some .int)) 3 [.ref x0, .int x1, .int x2, .int x3] g (f_X5_stock γ x0 x1 x2 x3 g) := by
  refine TrM_of (plainFor_of_name (by decide)) (Nat.le_of_ble_eq_true rfl) ?_
  unfold f_X5_stock
  change AW ρI γ l ck_X5_stock g 0 [(0, .ref x0), (1, .int x1), (2, .int x2), (3, .int x3)] [] g _
  refine r_aload_n (pc := 0) dX5_stock_0 rfl 0 rfl ?_
  refine r_cV (pc := 1) (rest := []) (RunOK_chk (fun h => run_V (n := 0) (c9 := 8) (As := []) (rest := []) (t_X5_tries γ l hl x0 g) dX5_stock_1 q3451 q3453 qs52 q121 q3454 (by decide +kernel) rfl h ⟨rfl, by decide, by decide⟩ (Nat.le_of_ble_eq_true rfl) (Nat.le_of_ble_eq_true rfl) rfl (Nat.le_of_ble_eq_true rfl))) (fun g1 => ?_)
  refine r_aload_n (pc := 4) dX5_stock_4 rfl 0 rfl ?_
  refine r_iload_n (pc := 5) dX5_stock_5 rfl 1 rfl ?_
  refine r_cI (pc := 6) (rest := []) (RunOK_chk (fun h => run_V (n := 1) (c9 := 8) (As := [.int x1]) (rest := []) (t_X5_isCook γ l hl x0 x1 g1) dX5_stock_6 q3479 q3481 qs57 q121 q3482 (by decide +kernel) rfl h ⟨rfl, by decide, by decide⟩ (Nat.le_of_ble_eq_true rfl) (Nat.le_of_ble_eq_true rfl) rfl (Nat.le_of_ble_eq_true rfl))) (fun v3 g2 => ?_)
  refine r_if_ne (tgt := 18) (pc := 9) dX5_stock_9 (by decide) ?_ ?_
  · skip
    refine r_aload_n (pc := 12) dX5_stock_12 rfl 0 rfl ?_
    refine r_iconst (v := (1 : Int32)) (pc := 13) dX5_stock_13 (by decide) ?_
    refine r_cI (pc := 14) (rest := []) (RunOK_chk (fun h => run_V (n := 1) (c9 := 8) (As := [.int (1 : Int32)]) (rest := []) (t_X5_raises γ l hl x0 (1 : Int32) g2) dX5_stock_14 q3458 q3460 qs53 q121 q3461 (by decide +kernel) rfl h ⟨rfl, by decide, by decide⟩ (Nat.le_of_ble_eq_true rfl) (Nat.le_of_ble_eq_true rfl) rfl (Nat.le_of_ble_eq_true rfl))) (fun v5 g4 => ?_)
    exact r_iret (pc := 17) dX5_stock_17 rfl
  · skip
    refine r_iload_n (pc := 18) dX5_stock_18 rfl 2 rfl ?_
    refine r_iconst (v := (0 : Int32)) (pc := 19) dX5_stock_19 (by decide) ?_
    refine r_iconst (v := (3 : Int32)) (pc := 20) dX5_stock_20 (by decide) ?_
    refine r_cI (pc := 21) (rest := []) (run_S (n := 3) (As := [.int x2, .int (0 : Int32), .int (3 : Int32)]) (rest := []) (t_X5_in γ l hl x2 (0 : Int32) (3 : Int32) g2) dX5_stock_21 q3455 q3456 q121 q3457 (by decide +kernel) rfl (Nat.le_of_ble_eq_true rfl) (Nat.le_of_ble_eq_true rfl) rfl (Nat.le_of_ble_eq_true rfl)) (fun v7 g6 => ?_)
    refine AW_jn (P := fun (j : AH → Option (Int32 × AH)) => ∀ (g8 : AH), AW ρI γ l ck_X5_stock g 37 [(0, .ref x0)] [] g8 (j g8)) (fun g8 => ?_) (fun j9 h_j9 => ?_)
    · skip
      refine r_aload_n (pc := 37) dX5_stock_37 rfl 0 rfl ?_
      refine r_iconst (v := (2 : Int32)) (pc := 38) dX5_stock_38 (by decide) ?_
      refine r_cI (pc := 39) (rest := []) (RunOK_chk (fun h => run_V (n := 1) (c9 := 8) (As := [.int (2 : Int32)]) (rest := []) (t_X5_raises γ l hl x0 (2 : Int32) g8) dX5_stock_39 q3458 q3460 qs53 q121 q3461 (by decide +kernel) rfl h ⟨rfl, by decide, by decide⟩ (Nat.le_of_ble_eq_true rfl) (Nat.le_of_ble_eq_true rfl) rfl (Nat.le_of_ble_eq_true rfl))) (fun v11 g10 => ?_)
      exact r_iret (pc := 42) dX5_stock_42 rfl
    · skip
      refine r_if_eq (tgt := 37) (pc := 24) dX5_stock_24 (by decide) ?_ ?_
      · skip
        refine AW_sub [0] rfl ?_
        exact h_j9 g6
      · skip
        refine r_iload_n (pc := 27) dX5_stock_27 rfl 3 rfl ?_
        refine r_iconst (v := (1 : Int32)) (pc := 28) dX5_stock_28 (by decide) ?_
        refine r_bipush (v := (50 : Int32)) (pc := 29) dX5_stock_29 (by decide) ?_
        refine r_cI (pc := 31) (rest := []) (run_S (n := 3) (As := [.int x3, .int (1 : Int32), .int (50 : Int32)]) (rest := []) (t_X5_in γ l hl x3 (1 : Int32) (50 : Int32) g6) dX5_stock_31 q3455 q3456 q121 q3457 (by decide +kernel) rfl (Nat.le_of_ble_eq_true rfl) (Nat.le_of_ble_eq_true rfl) rfl (Nat.le_of_ble_eq_true rfl)) (fun v13 g12 => ?_)
        refine r_if_ne (tgt := 43) (pc := 34) dX5_stock_34 (by decide) ?_ ?_
        · skip
          refine AW_sub [0] rfl ?_
          exact h_j9 g12
        · skip
          refine r_aload_n (pc := 43) dX5_stock_43 rfl 0 rfl ?_
          refine r_iload_n (pc := 44) dX5_stock_44 rfl 1 rfl ?_
          refine r_iconst (v := (3 : Int32)) (pc := 45) dX5_stock_45 (by decide) ?_
          refine r_iload_n (pc := 46) dX5_stock_46 rfl 2 rfl ?_
          refine r_iadd (pc := 47) dX5_stock_47 ?_
          refine r_cI (pc := 48) (rest := []) (RunOK_chk (fun h => run_V (n := 2) (c9 := 8) (As := [.int x1, .int ((3 : Int32) + x2)]) (rest := []) (t_X5_cook_2 γ l hl x0 x1 ((3 : Int32) + x2) g12) dX5_stock_48 q3483 q3485 qs58 q121 q3486 (by decide +kernel) rfl h ⟨rfl, by decide, by decide⟩ (Nat.le_of_ble_eq_true rfl) (Nat.le_of_ble_eq_true rfl) rfl (Nat.le_of_ble_eq_true rfl))) (fun v15 g14 => ?_)
          refine r_iload_n (pc := 51) dX5_stock_51 rfl 3 rfl ?_
          refine r_iadd (pc := 52) dX5_stock_52 ?_
          refine r_istore (pc := 53) dX5_stock_53 (Nat.le_of_ble_eq_true rfl) rfl ?_
          refine r_iload (pc := 55) dX5_stock_55 0 rfl ?_
          refine r_bipush (v := (50 : Int32)) (pc := 57) dX5_stock_57 (by decide) ?_
          refine r_icmp_le (tgt := 74) (pc := 59) dX5_stock_59 (by decide) ?_ ?_
          · skip
            refine r_aload_n (pc := 74) dX5_stock_74 rfl 1 rfl ?_
            refine r_iload_n (pc := 75) dX5_stock_75 rfl 2 rfl ?_
            refine r_iconst (v := (3 : Int32)) (pc := 76) dX5_stock_76 (by decide) ?_
            refine r_iload_n (pc := 77) dX5_stock_77 rfl 3 rfl ?_
            refine r_iadd (pc := 78) dX5_stock_78 ?_
            refine r_iload (pc := 79) dX5_stock_79 0 rfl ?_
            refine r_cV (pc := 81) (rest := []) (RunOK_chk (fun h => run_V (n := 3) (c9 := 8) (As := [.int x1, .int ((3 : Int32) + x2), .int (v15 + x3)]) (rest := []) (t_X5_setsCook γ l hl x0 x1 ((3 : Int32) + x2) (v15 + x3) g14) dX5_stock_81 q3466 q3468 qs55 q121 q3469 (by decide +kernel) rfl h ⟨rfl, by decide, by decide⟩ (Nat.le_of_ble_eq_true rfl) (Nat.le_of_ble_eq_true rfl) rfl (Nat.le_of_ble_eq_true rfl))) (fun g16 => ?_)
            refine r_aload_n (pc := 84) dX5_stock_84 rfl 1 rfl ?_
            refine r_iload_n (pc := 85) dX5_stock_85 rfl 2 rfl ?_
            refine r_bipush (v := (7 : Int32)) (pc := 86) dX5_stock_86 (by decide) ?_
            refine r_iload_n (pc := 88) dX5_stock_88 rfl 3 rfl ?_
            refine r_iadd (pc := 89) dX5_stock_89 ?_
            refine r_aload_n (pc := 90) dX5_stock_90 rfl 1 rfl ?_
            refine r_iload_n (pc := 91) dX5_stock_91 rfl 2 rfl ?_
            refine r_bipush (v := (7 : Int32)) (pc := 92) dX5_stock_92 (by decide) ?_
            refine r_iload_n (pc := 94) dX5_stock_94 rfl 3 rfl ?_
            refine r_iadd (pc := 95) dX5_stock_95 ?_
            refine r_cI (pc := 96) (rest := [.int ((7 : Int32) + x2), .int x1, .ref x0]) (RunOK_chk (fun h => run_V (n := 2) (c9 := 8) (As := [.int x1, .int ((7 : Int32) + x2)]) (rest := [.int ((7 : Int32) + x2), .int x1, .ref x0]) (t_X5_cook_2 γ l hl x0 x1 ((7 : Int32) + x2) g16) dX5_stock_96 q3483 q3485 qs58 q121 q3486 (by decide +kernel) rfl h ⟨rfl, by decide, by decide⟩ (Nat.le_of_ble_eq_true rfl) (Nat.le_of_ble_eq_true rfl) rfl (Nat.le_of_ble_eq_true rfl))) (fun v18 g17 => ?_)
            refine r_iload_n (pc := 99) dX5_stock_99 rfl 4 rfl ?_
            refine r_iadd (pc := 100) dX5_stock_100 ?_
            refine r_cV (pc := 101) (rest := []) (RunOK_chk (fun h => run_V (n := 3) (c9 := 8) (As := [.int x1, .int ((7 : Int32) + x2), .int (v18 + x3)]) (rest := []) (t_X5_setsCook γ l hl x0 x1 ((7 : Int32) + x2) (v18 + x3) g17) dX5_stock_101 q3466 q3468 qs55 q121 q3469 (by decide +kernel) rfl h ⟨rfl, by decide, by decide⟩ (Nat.le_of_ble_eq_true rfl) (Nat.le_of_ble_eq_true rfl) rfl (Nat.le_of_ble_eq_true rfl))) (fun g19 => ?_)
            refine r_aload_n (pc := 104) dX5_stock_104 rfl 1 rfl ?_
            refine r_iload (pc := 105) dX5_stock_105 0 rfl ?_
            refine r_cI (pc := 107) (rest := []) (RunOK_chk (fun h => run_V (n := 1) (c9 := 8) (As := [.int (v15 + x3)]) (rest := []) (t_X5_keeps γ l hl x0 (v15 + x3) g19) dX5_stock_107 q3470 q3472 qs56 q121 q3473 (by decide +kernel) rfl h ⟨rfl, by decide, by decide⟩ (Nat.le_of_ble_eq_true rfl) (Nat.le_of_ble_eq_true rfl) rfl (Nat.le_of_ble_eq_true rfl))) (fun v21 g20 => ?_)
            exact r_iret (pc := 110) dX5_stock_110 rfl
          · skip
            refine r_aload_n (pc := 62) dX5_stock_62 rfl 1 rfl ?_
            refine r_aload_n (pc := 63) dX5_stock_63 rfl 1 rfl ?_
            refine r_iconst (v := (2 : Int32)) (pc := 64) dX5_stock_64 (by decide) ?_
            refine r_iload (pc := 65) dX5_stock_65 0 rfl ?_
            refine r_cI (pc := 67) (rest := [.ref x0]) (RunOK_chk (fun h => run_V (n := 2) (c9 := 8) (As := [.int (2 : Int32), .int (v15 + x3)]) (rest := [.ref x0]) (t_X5_refuses γ l hl x0 (2 : Int32) (v15 + x3) g14) dX5_stock_67 q3462 q3464 qs54 q121 q3465 (by decide +kernel) rfl h ⟨rfl, by decide, by decide⟩ (Nat.le_of_ble_eq_true rfl) (Nat.le_of_ble_eq_true rfl) rfl (Nat.le_of_ble_eq_true rfl))) (fun v23 g22 => ?_)
            refine r_cI (pc := 70) (rest := []) (RunOK_chk (fun h => run_V (n := 1) (c9 := 8) (As := [.int v23]) (rest := []) (t_X5_raises γ l hl x0 v23 g22) dX5_stock_70 q3458 q3460 qs53 q121 q3461 (by decide +kernel) rfl h ⟨rfl, by decide, by decide⟩ (Nat.le_of_ble_eq_true rfl) (Nat.le_of_ble_eq_true rfl) rfl (Nat.le_of_ble_eq_true rfl))) (fun v25 g24 => ?_)
            exact r_iret (pc := 73) dX5_stock_73 rfl
abbrev ck_X5_course : CK := ("BanquetVotesModel", prog_25_method_17_code, 3, (some .int), "course", [], 1)
def f_X5_course (γ : GP) (x0 : Nat) (x1 : Int32) (x2 : Int32) (g : AH) : Option (Int32 × AH) := gR g x0 30 fun v1 => gA g 101 v1 (((97 : Int32) + ((28 : Int32) * x1)) + x2) fun v2 => (some (v2, g))
theorem t_X5_course (γ : GP) (l : Launch) (hl : l.stackTraces = false) (x0 : Nat) (x1 : Int32) (x2 : Int32) (g : AH) : TrM ρI γ l ⟨"BanquetVotesModel", "course", "(II)I"⟩ (ws_ ⟨"BanquetVotesModel", "course", "(II)I"⟩ prog_25_method_17_code 3 (some .int)) 1 [.ref x0, .int x1, .int x2] g (f_X5_course γ x0 x1 x2 g) := by
  refine TrM_of (plainFor_of_name (by decide)) (Nat.le_of_ble_eq_true rfl) ?_
  unfold f_X5_course
  change AW ρI γ l ck_X5_course g 0 [(0, .ref x0), (1, .int x1), (2, .int x2)] [] g _
  refine r_aload_n (pc := 0) dX5_course_0 rfl 0 rfl ?_
  refine r_getR (f := 30) (pc := 1) dX5_course_1 q3378 (Or.inl rfl) rfl (fun v1 => ?_)
  refine r_bipush (v := (97 : Int32)) (pc := 4) dX5_course_4 (by decide) ?_
  refine r_bipush (v := (28 : Int32)) (pc := 6) dX5_course_6 (by decide) ?_
  refine r_iload_n (pc := 8) dX5_course_8 rfl 1 rfl ?_
  refine r_imul (pc := 9) dX5_course_9 ?_
  refine r_iadd (pc := 10) dX5_course_10 ?_
  refine r_iload_n (pc := 11) dX5_course_11 rfl 2 rfl ?_
  refine r_iadd (pc := 12) dX5_course_12 ?_
  refine r_iald (pc := 13) dX5_course_13 (fun v2 => ?_)
  exact r_iret (pc := 14) dX5_course_14 rfl
abbrev ck_X5_isDish : CK := ("BanquetVotesModel", prog_25_method_20_code, 3, (some .boolean), "isDish", [], 2)
def f_X5_isDish (γ : GP) (x0 : Nat) (x1 : Int32) (x2 : Int32) (g : AH) : Option (Int32 × AH) := bI ((if hK g x0 = 8 then f_X5_course γ x0 x1 ((4 : Int32) + ((4 : Int32) * x2)) g else none)) fun v2 g1 => (if v2 ≤ 0 then (rtN .boolean (0 : Int32) g1) else (rtN .boolean (1 : Int32) g1))
theorem t_X5_isDish (γ : GP) (l : Launch) (hl : l.stackTraces = false) (x0 : Nat) (x1 : Int32) (x2 : Int32) (g : AH) : TrM ρI γ l ⟨"BanquetVotesModel", "isDish", "(II)Z"⟩ (ws_ ⟨"BanquetVotesModel", "isDish", "(II)Z"⟩ prog_25_method_20_code 3 (some .boolean)) 2 [.ref x0, .int x1, .int x2] g (f_X5_isDish γ x0 x1 x2 g) := by
  refine TrM_of (plainFor_of_name (by decide)) (Nat.le_of_ble_eq_true rfl) ?_
  unfold f_X5_isDish
  change AW ρI γ l ck_X5_isDish g 0 [(0, .ref x0), (1, .int x1), (2, .int x2)] [] g _
  refine r_aload_n (pc := 0) dX5_isDish_0 rfl 0 rfl ?_
  refine r_iload_n (pc := 1) dX5_isDish_1 rfl 1 rfl ?_
  refine r_iconst (v := (4 : Int32)) (pc := 2) dX5_isDish_2 (by decide) ?_
  refine r_iconst (v := (4 : Int32)) (pc := 3) dX5_isDish_3 (by decide) ?_
  refine r_iload_n (pc := 4) dX5_isDish_4 rfl 2 rfl ?_
  refine r_imul (pc := 5) dX5_isDish_5 ?_
  refine r_iadd (pc := 6) dX5_isDish_6 ?_
  refine r_cI (pc := 7) (rest := []) (RunOK_chk (fun h => run_V (n := 2) (c9 := 8) (As := [.int x1, .int ((4 : Int32) + ((4 : Int32) * x2))]) (rest := []) (t_X5_course γ l hl x0 x1 ((4 : Int32) + ((4 : Int32) * x2)) g) dX5_isDish_7 q3499 q3501 qs61 q121 q3502 (by decide +kernel) rfl h ⟨rfl, by decide, by decide⟩ (Nat.le_of_ble_eq_true rfl) (Nat.le_of_ble_eq_true rfl) rfl (Nat.le_of_ble_eq_true rfl))) (fun v2 g1 => ?_)
  refine r_if_le (tgt := 17) (pc := 10) dX5_isDish_10 (by decide) ?_ ?_
  · skip
    refine r_iconst (v := (0 : Int32)) (pc := 17) dX5_isDish_17 (by decide) ?_
    exact r_zret (ty := .boolean) (pc := 18) dX5_isDish_18 rfl
  · skip
    refine r_iconst (v := (1 : Int32)) (pc := 13) dX5_isDish_13 (by decide) ?_
    refine r_goto (tgt := 18) (pc := 14) dX5_isDish_14 (by decide) ?_
    exact r_zret (ty := .boolean) (pc := 18) dX5_isDish_18 rfl
abbrev ck_X5_dish : CK := ("BanquetVotesModel", prog_25_method_21_code, 4, (some .int), "dish", [], 2)
def f_X5_dish (γ : GP) (x0 : Nat) (x1 : Int32) (x2 : Int32) (x3 : Int32) (g : AH) : Option (Int32 × AH) := bI ((if hK g x0 = 8 then f_X5_course γ x0 x1 (((4 : Int32) + ((4 : Int32) * x2)) + x3) g else none)) fun v2 g1 => (some (v2, g1))
theorem t_X5_dish (γ : GP) (l : Launch) (hl : l.stackTraces = false) (x0 : Nat) (x1 : Int32) (x2 : Int32) (x3 : Int32) (g : AH) : TrM ρI γ l ⟨"BanquetVotesModel", "dish", "(III)I"⟩ (ws_ ⟨"BanquetVotesModel", "dish", "(III)I"⟩ prog_25_method_21_code 4 (some .int)) 2 [.ref x0, .int x1, .int x2, .int x3] g (f_X5_dish γ x0 x1 x2 x3 g) := by
  refine TrM_of (plainFor_of_name (by decide)) (Nat.le_of_ble_eq_true rfl) ?_
  unfold f_X5_dish
  change AW ρI γ l ck_X5_dish g 0 [(0, .ref x0), (1, .int x1), (2, .int x2), (3, .int x3)] [] g _
  refine r_aload_n (pc := 0) dX5_dish_0 rfl 0 rfl ?_
  refine r_iload_n (pc := 1) dX5_dish_1 rfl 1 rfl ?_
  refine r_iconst (v := (4 : Int32)) (pc := 2) dX5_dish_2 (by decide) ?_
  refine r_iconst (v := (4 : Int32)) (pc := 3) dX5_dish_3 (by decide) ?_
  refine r_iload_n (pc := 4) dX5_dish_4 rfl 2 rfl ?_
  refine r_imul (pc := 5) dX5_dish_5 ?_
  refine r_iadd (pc := 6) dX5_dish_6 ?_
  refine r_iload_n (pc := 7) dX5_dish_7 rfl 3 rfl ?_
  refine r_iadd (pc := 8) dX5_dish_8 ?_
  refine r_cI (pc := 9) (rest := []) (RunOK_chk (fun h => run_V (n := 2) (c9 := 8) (As := [.int x1, .int (((4 : Int32) + ((4 : Int32) * x2)) + x3)]) (rest := []) (t_X5_course γ l hl x0 x1 (((4 : Int32) + ((4 : Int32) * x2)) + x3) g) dX5_dish_9 q3499 q3501 qs61 q121 q3502 (by decide +kernel) rfl h ⟨rfl, by decide, by decide⟩ (Nat.le_of_ble_eq_true rfl) (Nat.le_of_ble_eq_true rfl) rfl (Nat.le_of_ble_eq_true rfl))) (fun v2 g1 => ?_)
  exact r_iret (pc := 12) dX5_dish_12 rfl
abbrev ck_X5_howDish : CK := ("BanquetVotesModel", prog_25_method_22_code, 3, (some .int), "howDish", [], 3)
def f_X5_howDish (γ : GP) (x0 : Nat) (x1 : Int32) (x2 : Int32) (g : AH) : Option (Int32 × AH) := bI ((if hK g x0 = 8 then f_X5_dish γ x0 x1 x2 (2 : Int32) g else none)) fun v2 g1 => (some (v2, g1))
theorem t_X5_howDish (γ : GP) (l : Launch) (hl : l.stackTraces = false) (x0 : Nat) (x1 : Int32) (x2 : Int32) (g : AH) : TrM ρI γ l ⟨"BanquetVotesModel", "howDish", "(II)I"⟩ (ws_ ⟨"BanquetVotesModel", "howDish", "(II)I"⟩ prog_25_method_22_code 3 (some .int)) 3 [.ref x0, .int x1, .int x2] g (f_X5_howDish γ x0 x1 x2 g) := by
  refine TrM_of (plainFor_of_name (by decide)) (Nat.le_of_ble_eq_true rfl) ?_
  unfold f_X5_howDish
  change AW ρI γ l ck_X5_howDish g 0 [(0, .ref x0), (1, .int x1), (2, .int x2)] [] g _
  refine r_aload_n (pc := 0) dX5_howDish_0 rfl 0 rfl ?_
  refine r_iload_n (pc := 1) dX5_howDish_1 rfl 1 rfl ?_
  refine r_iload_n (pc := 2) dX5_howDish_2 rfl 2 rfl ?_
  refine r_iconst (v := (2 : Int32)) (pc := 3) dX5_howDish_3 (by decide) ?_
  refine r_cI (pc := 4) (rest := []) (RunOK_chk (fun h => run_V (n := 3) (c9 := 8) (As := [.int x1, .int x2, .int (2 : Int32)]) (rest := []) (t_X5_dish γ l hl x0 x1 x2 (2 : Int32) g) dX5_howDish_4 q3507 q3509 qs63 q121 q3510 (by decide +kernel) rfl h ⟨rfl, by decide, by decide⟩ (Nat.le_of_ble_eq_true rfl) (Nat.le_of_ble_eq_true rfl) rfl (Nat.le_of_ble_eq_true rfl))) (fun v2 g1 => ?_)
  exact r_iret (pc := 7) dX5_howDish_7 rfl
abbrev ck_X5_dishesOf : CK := ("BanquetVotesModel", prog_25_method_25_code, 6, (some .int), "dishesOf", [], 4)
def f_X5_dishesOf_L6 (γ : GP) (x0 : Nat) (x1 : Int32) (x2 : Int32) (x3 : Int32) : Nat → Int32 → Int32 → AH → Option (Int32 × AH)
  | 0, _, _, _ => none
  | n + 1, x4, x5, g => gR g x0 30 fun v1 => gA g 101 v1 (2 : Int32) fun v2 => (if v2 ≤ x5 then (some (x4, g)) else bI ((if hK g x0 = 8 then f_X5_isDish γ x0 x5 x1 g else none)) fun v4 g3 => (if v4 = 0 then f_X5_dishesOf_L6 γ x0 x1 x2 x3 n x4 (x5 + (1 : Int32)) g3 else bI ((if hK g3 x0 = 8 then f_X5_howDish γ x0 x5 x1 g3 else none)) fun v6 g5 => (if v6 = x2 then f_X5_dishesOf_L6 γ x0 x1 x2 x3 n (x4 + (1 : Int32)) (x5 + (1 : Int32)) g5 else bI ((if hK g5 x0 = 8 then f_X5_howDish γ x0 x5 x1 g5 else none)) fun v8 g7 => (if v8 = x3 then f_X5_dishesOf_L6 γ x0 x1 x2 x3 n (x4 + (1 : Int32)) (x5 + (1 : Int32)) g7 else f_X5_dishesOf_L6 γ x0 x1 x2 x3 n x4 (x5 + (1 : Int32)) g7))))
def f_X5_dishesOf (γ : GP) (x0 : Nat) (x1 : Int32) (x2 : Int32) (x3 : Int32) (g : AH) : Option (Int32 × AH) := f_X5_dishesOf_L6 γ x0 x1 x2 x3 FU (0 : Int32) (0 : Int32) g
theorem f_X5_dishesOf_L6_w (γ : GP) (l : Launch) (hl : l.stackTraces = false) (G0 : AH) (x0 : Nat) (x1 : Int32) (x2 : Int32) (x3 : Int32) : ∀ (n : Nat) (x4 : Int32) (x5 : Int32) (g : AH), AW ρI γ l ck_X5_dishesOf G0 6 [(0, .ref x0), (1, .int x1), (2, .int x2), (3, .int x3), (4, .int x4), (5, .int x5)] [] g (f_X5_dishesOf_L6 γ x0 x1 x2 x3 n x4 x5 g) := by
  intro n
  induction n with
  | zero => intro x4 x5 g; exact AW_none
  | succ n ih =>
    intro x4 x5 g
    unfold f_X5_dishesOf_L6
    refine r_iload (pc := 6) dX5_dishesOf_6 5 rfl ?_
    refine r_aload_n (pc := 8) dX5_dishesOf_8 rfl 0 rfl ?_
    refine r_getR (f := 30) (pc := 9) dX5_dishesOf_9 q3378 (Or.inl rfl) rfl (fun v1 => ?_)
    refine r_iconst (v := (2 : Int32)) (pc := 12) dX5_dishesOf_12 (by decide) ?_
    refine r_iald (pc := 13) dX5_dishesOf_13 (fun v2 => ?_)
    refine r_icmp_ge (tgt := 58) (pc := 14) dX5_dishesOf_14 (by decide) ?_ ?_
    · skip
      refine r_iload (pc := 58) dX5_dishesOf_58 4 rfl ?_
      exact r_iret (pc := 60) dX5_dishesOf_60 rfl
    · skip
      refine r_aload_n (pc := 17) dX5_dishesOf_17 rfl 0 rfl ?_
      refine r_iload (pc := 18) dX5_dishesOf_18 5 rfl ?_
      refine r_iload_n (pc := 20) dX5_dishesOf_20 rfl 1 rfl ?_
      refine r_cI (pc := 21) (rest := []) (RunOK_chk (fun h => run_V (n := 2) (c9 := 8) (As := [.int x5, .int x1]) (rest := []) (t_X5_isDish γ l hl x0 x5 x1 g) dX5_dishesOf_21 q3495 q3497 qs60 q121 q3498 (by decide +kernel) rfl h ⟨rfl, by decide, by decide⟩ (Nat.le_of_ble_eq_true rfl) (Nat.le_of_ble_eq_true rfl) rfl (Nat.le_of_ble_eq_true rfl))) (fun v4 g3 => ?_)
      refine r_if_eq (tgt := 52) (pc := 24) dX5_dishesOf_24 (by decide) ?_ ?_
      · skip
        refine r_iinc (j := 5) (v := (x5 + (1 : Int32))) (pc := 52) dX5_dishesOf_52 rfl rfl (Nat.le_of_ble_eq_true rfl) rfl ?_
        refine r_goto (tgt := 6) (pc := 55) dX5_dishesOf_55 (by decide) ?_
        refine AW_sub [1, 2, 3, 4, 5, 0] rfl ?_
        exact ih x4 (x5 + (1 : Int32)) g3
      · skip
        refine r_aload_n (pc := 27) dX5_dishesOf_27 rfl 0 rfl ?_
        refine r_iload (pc := 28) dX5_dishesOf_28 5 rfl ?_
        refine r_iload_n (pc := 30) dX5_dishesOf_30 rfl 1 rfl ?_
        refine r_cI (pc := 31) (rest := []) (RunOK_chk (fun h => run_V (n := 2) (c9 := 8) (As := [.int x5, .int x1]) (rest := []) (t_X5_howDish γ l hl x0 x5 x1 g3) dX5_dishesOf_31 q3503 q3505 qs62 q121 q3506 (by decide +kernel) rfl h ⟨rfl, by decide, by decide⟩ (Nat.le_of_ble_eq_true rfl) (Nat.le_of_ble_eq_true rfl) rfl (Nat.le_of_ble_eq_true rfl))) (fun v6 g5 => ?_)
        refine r_iload_n (pc := 34) dX5_dishesOf_34 rfl 2 rfl ?_
        refine r_icmp_eq (tgt := 49) (pc := 35) dX5_dishesOf_35 (by decide) ?_ ?_
        · skip
          refine r_iinc (j := 4) (v := (x4 + (1 : Int32))) (pc := 49) dX5_dishesOf_49 rfl rfl (Nat.le_of_ble_eq_true rfl) rfl ?_
          refine r_iinc (j := 5) (v := (x5 + (1 : Int32))) (pc := 52) dX5_dishesOf_52 rfl rfl (Nat.le_of_ble_eq_true rfl) rfl ?_
          refine r_goto (tgt := 6) (pc := 55) dX5_dishesOf_55 (by decide) ?_
          refine AW_sub [2, 3, 4, 5, 1, 0] rfl ?_
          exact ih (x4 + (1 : Int32)) (x5 + (1 : Int32)) g5
        · skip
          refine r_aload_n (pc := 38) dX5_dishesOf_38 rfl 0 rfl ?_
          refine r_iload (pc := 39) dX5_dishesOf_39 5 rfl ?_
          refine r_iload_n (pc := 41) dX5_dishesOf_41 rfl 1 rfl ?_
          refine r_cI (pc := 42) (rest := []) (RunOK_chk (fun h => run_V (n := 2) (c9 := 8) (As := [.int x5, .int x1]) (rest := []) (t_X5_howDish γ l hl x0 x5 x1 g5) dX5_dishesOf_42 q3503 q3505 qs62 q121 q3506 (by decide +kernel) rfl h ⟨rfl, by decide, by decide⟩ (Nat.le_of_ble_eq_true rfl) (Nat.le_of_ble_eq_true rfl) rfl (Nat.le_of_ble_eq_true rfl))) (fun v8 g7 => ?_)
          refine r_iload_n (pc := 45) dX5_dishesOf_45 rfl 3 rfl ?_
          refine r_icmp_ne (tgt := 52) (pc := 46) dX5_dishesOf_46 (by decide) ?_ ?_
          · skip
            refine r_iinc (j := 4) (v := (x4 + (1 : Int32))) (pc := 49) dX5_dishesOf_49 rfl rfl (Nat.le_of_ble_eq_true rfl) rfl ?_
            refine r_iinc (j := 5) (v := (x5 + (1 : Int32))) (pc := 52) dX5_dishesOf_52 rfl rfl (Nat.le_of_ble_eq_true rfl) rfl ?_
            refine r_goto (tgt := 6) (pc := 55) dX5_dishesOf_55 (by decide) ?_
            refine AW_sub [2, 3, 4, 5, 1, 0] rfl ?_
            exact ih (x4 + (1 : Int32)) (x5 + (1 : Int32)) g7
          · skip
            refine r_iinc (j := 5) (v := (x5 + (1 : Int32))) (pc := 52) dX5_dishesOf_52 rfl rfl (Nat.le_of_ble_eq_true rfl) rfl ?_
            refine r_goto (tgt := 6) (pc := 55) dX5_dishesOf_55 (by decide) ?_
            refine AW_sub [1, 2, 3, 4, 5, 0] rfl ?_
            exact ih x4 (x5 + (1 : Int32)) g7
theorem t_X5_dishesOf (γ : GP) (l : Launch) (hl : l.stackTraces = false) (x0 : Nat) (x1 : Int32) (x2 : Int32) (x3 : Int32) (g : AH) : TrM ρI γ l ⟨"BanquetVotesModel", "dishesOf", "(III)I"⟩ (ws_ ⟨"BanquetVotesModel", "dishesOf", "(III)I"⟩ prog_25_method_25_code 6 (some .int)) 4 [.ref x0, .int x1, .int x2, .int x3] g (f_X5_dishesOf γ x0 x1 x2 x3 g) := by
  refine TrM_of (plainFor_of_name (by decide)) (Nat.le_of_ble_eq_true rfl) ?_
  unfold f_X5_dishesOf
  change AW ρI γ l ck_X5_dishesOf g 0 [(0, .ref x0), (1, .int x1), (2, .int x2), (3, .int x3)] [] g _
  refine r_iconst (v := (0 : Int32)) (pc := 0) dX5_dishesOf_0 (by decide) ?_
  refine r_istore (pc := 1) dX5_dishesOf_1 (Nat.le_of_ble_eq_true rfl) rfl ?_
  refine r_iconst (v := (0 : Int32)) (pc := 3) dX5_dishesOf_3 (by decide) ?_
  refine r_istore (pc := 4) dX5_dishesOf_4 (Nat.le_of_ble_eq_true rfl) rfl ?_
  refine AW_sub [2, 3, 4, 5, 1, 0] rfl ?_
  refine f_X5_dishesOf_L6_w γ l hl _ x0 x1 x2 x3 FU (0 : Int32) (0 : Int32) g
abbrev ck_X5_served : CK := ("BanquetVotesModel", prog_25_method_42_code, 4, (some .int), "served", [], 2)
def f_X5_served_L4 (γ : GP) (x0 : Nat) (x1 : Int32) : Nat → Int32 → Int32 → AH → Option (Int32 × AH)
  | 0, _, _, _ => none
  | n + 1, x2, x3, g => (if (4 : Int32) ≤ x3 then (some (x2, g)) else bI ((if hK g x0 = 8 then f_X5_cook_2 γ x0 x1 ((11 : Int32) + x3) g else none)) fun v2 g1 => f_X5_served_L4 γ x0 x1 n (x2 + v2) (x3 + (1 : Int32)) g1)
def f_X5_served (γ : GP) (x0 : Nat) (x1 : Int32) (g : AH) : Option (Int32 × AH) := f_X5_served_L4 γ x0 x1 FU (0 : Int32) (0 : Int32) g
theorem f_X5_served_L4_w (γ : GP) (l : Launch) (hl : l.stackTraces = false) (G0 : AH) (x0 : Nat) (x1 : Int32) : ∀ (n : Nat) (x2 : Int32) (x3 : Int32) (g : AH), AW ρI γ l ck_X5_served G0 4 [(0, .ref x0), (1, .int x1), (2, .int x2), (3, .int x3)] [] g (f_X5_served_L4 γ x0 x1 n x2 x3 g) := by
  intro n
  induction n with
  | zero => intro x2 x3 g; exact AW_none
  | succ n ih =>
    intro x2 x3 g
    unfold f_X5_served_L4
    refine r_iload_n (pc := 4) dX5_served_4 rfl 3 rfl ?_
    refine r_iconst (v := (4 : Int32)) (pc := 5) dX5_served_5 (by decide) ?_
    refine r_icmp_ge (tgt := 27) (pc := 6) dX5_served_6 (by decide) ?_ ?_
    · skip
      refine r_iload_n (pc := 27) dX5_served_27 rfl 2 rfl ?_
      exact r_iret (pc := 28) dX5_served_28 rfl
    · skip
      refine r_iload_n (pc := 9) dX5_served_9 rfl 2 rfl ?_
      refine r_aload_n (pc := 10) dX5_served_10 rfl 0 rfl ?_
      refine r_iload_n (pc := 11) dX5_served_11 rfl 1 rfl ?_
      refine r_bipush (v := (11 : Int32)) (pc := 12) dX5_served_12 (by decide) ?_
      refine r_iload_n (pc := 14) dX5_served_14 rfl 3 rfl ?_
      refine r_iadd (pc := 15) dX5_served_15 ?_
      refine r_cI (pc := 16) (rest := [.int x2]) (RunOK_chk (fun h => run_V (n := 2) (c9 := 8) (As := [.int x1, .int ((11 : Int32) + x3)]) (rest := [.int x2]) (t_X5_cook_2 γ l hl x0 x1 ((11 : Int32) + x3) g) dX5_served_16 q3483 q3485 qs58 q121 q3486 (by decide +kernel) rfl h ⟨rfl, by decide, by decide⟩ (Nat.le_of_ble_eq_true rfl) (Nat.le_of_ble_eq_true rfl) rfl (Nat.le_of_ble_eq_true rfl))) (fun v2 g1 => ?_)
      refine r_iadd (pc := 19) dX5_served_19 ?_
      refine r_istore_n (pc := 20) dX5_served_20 rfl (Nat.le_of_ble_eq_true rfl) rfl ?_
      refine r_iinc (j := 3) (v := (x3 + (1 : Int32))) (pc := 21) dX5_served_21 rfl rfl (Nat.le_of_ble_eq_true rfl) rfl ?_
      refine r_goto (tgt := 4) (pc := 24) dX5_served_24 (by decide) ?_
      refine AW_sub [2, 3, 1, 0] rfl ?_
      exact ih (x2 + v2) (x3 + (1 : Int32)) g1
theorem t_X5_served (γ : GP) (l : Launch) (hl : l.stackTraces = false) (x0 : Nat) (x1 : Int32) (g : AH) : TrM ρI γ l ⟨"BanquetVotesModel", "served", "(I)I"⟩ (ws_ ⟨"BanquetVotesModel", "served", "(I)I"⟩ prog_25_method_42_code 4 (some .int)) 2 [.ref x0, .int x1] g (f_X5_served γ x0 x1 g) := by
  refine TrM_of (plainFor_of_name (by decide)) (Nat.le_of_ble_eq_true rfl) ?_
  unfold f_X5_served
  change AW ρI γ l ck_X5_served g 0 [(0, .ref x0), (1, .int x1)] [] g _
  refine r_iconst (v := (0 : Int32)) (pc := 0) dX5_served_0 (by decide) ?_
  refine r_istore_n (pc := 1) dX5_served_1 rfl (Nat.le_of_ble_eq_true rfl) rfl ?_
  refine r_iconst (v := (0 : Int32)) (pc := 2) dX5_served_2 (by decide) ?_
  refine r_istore_n (pc := 3) dX5_served_3 rfl (Nat.le_of_ble_eq_true rfl) rfl ?_
  refine AW_sub [2, 3, 1, 0] rfl ?_
  refine f_X5_served_L4_w γ l hl _ x0 x1 FU (0 : Int32) (0 : Int32) g
abbrev ck_X5_cookOf : CK := ("BanquetVotesModel", prog_25_method_43_code, 3, (some .int), "cookOf", [], 5)
def f_X5_cookOf (γ : GP) (x0 : Nat) (x1 : Int32) (x2 : Int32) (g : AH) : Option (Int32 × AH) := pI γ g x0 50 (0 : Int32) fun g1 => bI ((if hK g1 x0 = 8 then f_X5_isCook γ x0 x1 g1 else none)) fun v3 g2 => (if v3 = 0 then bI ((if hK g2 x0 = 8 then f_X5_raises γ x0 (1 : Int32) g2 else none)) fun v5 g4 => (some (v5, g4)) else (if x2 = (0 : Int32) then bI ((if hK g2 x0 = 8 then f_X5_cook_2 γ x0 x1 (0 : Int32) g2 else none)) fun v7 g6 => (some (v7, g6)) else (if x2 = (1 : Int32) then bI ((if hK g2 x0 = 8 then f_X5_cook_2 γ x0 x1 (1 : Int32) g2 else none)) fun v9 g8 => (some (v9, g8)) else (if x2 = (2 : Int32) then bI ((if hK g2 x0 = 8 then f_X5_dishesOf γ x0 x1 (1 : Int32) (1 : Int32) g2 else none)) fun v11 g10 => (some (v11, g10)) else (if x2 = (3 : Int32) then bI ((if hK g2 x0 = 8 then f_X5_dishesOf γ x0 x1 (3 : Int32) (3 : Int32) g2 else none)) fun v13 g12 => (some (v13, g12)) else (if x2 = (4 : Int32) then bI ((if hK g2 x0 = 8 then f_X5_dishesOf γ x0 x1 (2 : Int32) (4 : Int32) g2 else none)) fun v15 g14 => (some (v15, g14)) else (if x2 = (5 : Int32) then bI ((if hK g2 x0 = 8 then f_X5_served γ x0 x1 g2 else none)) fun v17 g16 => (some (v17, g16)) else (if x2 = (6 : Int32) then bI ((if hK g2 x0 = 8 then f_X5_cook_2 γ x0 x1 (2 : Int32) g2 else none)) fun v19 g18 => (some (v19, g18)) else bI ((if hK g2 x0 = 8 then f_X5_raises γ x0 (2 : Int32) g2 else none)) fun v21 g20 => (some (v21, g20))))))))))
theorem t_X5_cookOf (γ : GP) (l : Launch) (hl : l.stackTraces = false) (x0 : Nat) (x1 : Int32) (x2 : Int32) (g : AH) : TrM ρI γ l ⟨"BanquetVotesModel", "cookOf", "(II)I"⟩ (ws_ ⟨"BanquetVotesModel", "cookOf", "(II)I"⟩ prog_25_method_43_code 3 (some .int)) 5 [.ref x0, .int x1, .int x2] g (f_X5_cookOf γ x0 x1 x2 g) := by
  refine TrM_of (plainFor_of_name (by decide)) (Nat.le_of_ble_eq_true rfl) ?_
  unfold f_X5_cookOf
  change AW ρI γ l ck_X5_cookOf g 0 [(0, .ref x0), (1, .int x1), (2, .int x2)] [] g _
  refine r_aload_n (pc := 0) dX5_cookOf_0 rfl 0 rfl ?_
  refine r_iconst (v := (0 : Int32)) (pc := 1) dX5_cookOf_1 (by decide) ?_
  refine r_putI (f := 50) (pc := 2) dX5_cookOf_2 q3398 (Or.inl rfl) (Or.inl rfl) rfl (fun g1 => ?_)
  refine r_aload_n (pc := 5) dX5_cookOf_5 rfl 0 rfl ?_
  refine r_iload_n (pc := 6) dX5_cookOf_6 rfl 1 rfl ?_
  refine r_cI (pc := 7) (rest := []) (RunOK_chk (fun h => run_V (n := 1) (c9 := 8) (As := [.int x1]) (rest := []) (t_X5_isCook γ l hl x0 x1 g1) dX5_cookOf_7 q3479 q3481 qs57 q121 q3482 (by decide +kernel) rfl h ⟨rfl, by decide, by decide⟩ (Nat.le_of_ble_eq_true rfl) (Nat.le_of_ble_eq_true rfl) rfl (Nat.le_of_ble_eq_true rfl))) (fun v3 g2 => ?_)
  refine r_if_ne (tgt := 19) (pc := 10) dX5_cookOf_10 (by decide) ?_ ?_
  · skip
    refine r_aload_n (pc := 13) dX5_cookOf_13 rfl 0 rfl ?_
    refine r_iconst (v := (1 : Int32)) (pc := 14) dX5_cookOf_14 (by decide) ?_
    refine r_cI (pc := 15) (rest := []) (RunOK_chk (fun h => run_V (n := 1) (c9 := 8) (As := [.int (1 : Int32)]) (rest := []) (t_X5_raises γ l hl x0 (1 : Int32) g2) dX5_cookOf_15 q3458 q3460 qs53 q121 q3461 (by decide +kernel) rfl h ⟨rfl, by decide, by decide⟩ (Nat.le_of_ble_eq_true rfl) (Nat.le_of_ble_eq_true rfl) rfl (Nat.le_of_ble_eq_true rfl))) (fun v5 g4 => ?_)
    exact r_iret (pc := 18) dX5_cookOf_18 rfl
  · skip
    refine r_iload_n (pc := 19) dX5_cookOf_19 rfl 2 rfl ?_
    refine r_tabC (v := (0 : Int32)) (tgt := 64) (pc := 20) dX5_cookOf_20 (by decide) (by decide) rfl (by decide) ?_ (fun c0 => ?_)
    · skip
      refine r_aload_n (pc := 64) dX5_cookOf_64 rfl 0 rfl ?_
      refine r_iload_n (pc := 65) dX5_cookOf_65 rfl 1 rfl ?_
      refine r_iconst (v := (0 : Int32)) (pc := 66) dX5_cookOf_66 (by decide) ?_
      refine r_cI (pc := 67) (rest := []) (RunOK_chk (fun h => run_V (n := 2) (c9 := 8) (As := [.int x1, .int (0 : Int32)]) (rest := []) (t_X5_cook_2 γ l hl x0 x1 (0 : Int32) g2) dX5_cookOf_67 q3483 q3485 qs58 q121 q3486 (by decide +kernel) rfl h ⟨rfl, by decide, by decide⟩ (Nat.le_of_ble_eq_true rfl) (Nat.le_of_ble_eq_true rfl) rfl (Nat.le_of_ble_eq_true rfl))) (fun v7 g6 => ?_)
      exact r_iret (pc := 70) dX5_cookOf_70 rfl
    · skip
      refine r_tabC (v := (1 : Int32)) (tgt := 71) (pc := 20) dX5_cookOf_20 (by decide) (by decide) rfl (by decide) ?_ (fun c1 => ?_)
      · skip
        refine r_aload_n (pc := 71) dX5_cookOf_71 rfl 0 rfl ?_
        refine r_iload_n (pc := 72) dX5_cookOf_72 rfl 1 rfl ?_
        refine r_iconst (v := (1 : Int32)) (pc := 73) dX5_cookOf_73 (by decide) ?_
        refine r_cI (pc := 74) (rest := []) (RunOK_chk (fun h => run_V (n := 2) (c9 := 8) (As := [.int x1, .int (1 : Int32)]) (rest := []) (t_X5_cook_2 γ l hl x0 x1 (1 : Int32) g2) dX5_cookOf_74 q3483 q3485 qs58 q121 q3486 (by decide +kernel) rfl h ⟨rfl, by decide, by decide⟩ (Nat.le_of_ble_eq_true rfl) (Nat.le_of_ble_eq_true rfl) rfl (Nat.le_of_ble_eq_true rfl))) (fun v9 g8 => ?_)
        exact r_iret (pc := 77) dX5_cookOf_77 rfl
      · skip
        refine r_tabC (v := (2 : Int32)) (tgt := 78) (pc := 20) dX5_cookOf_20 (by decide) (by decide) rfl (by decide) ?_ (fun c2 => ?_)
        · skip
          refine r_aload_n (pc := 78) dX5_cookOf_78 rfl 0 rfl ?_
          refine r_iload_n (pc := 79) dX5_cookOf_79 rfl 1 rfl ?_
          refine r_iconst (v := (1 : Int32)) (pc := 80) dX5_cookOf_80 (by decide) ?_
          refine r_iconst (v := (1 : Int32)) (pc := 81) dX5_cookOf_81 (by decide) ?_
          refine r_cI (pc := 82) (rest := []) (RunOK_chk (fun h => run_V (n := 3) (c9 := 8) (As := [.int x1, .int (1 : Int32), .int (1 : Int32)]) (rest := []) (t_X5_dishesOf γ l hl x0 x1 (1 : Int32) (1 : Int32) g2) dX5_cookOf_82 q3491 q3493 qs59 q121 q3494 (by decide +kernel) rfl h ⟨rfl, by decide, by decide⟩ (Nat.le_of_ble_eq_true rfl) (Nat.le_of_ble_eq_true rfl) rfl (Nat.le_of_ble_eq_true rfl))) (fun v11 g10 => ?_)
          exact r_iret (pc := 85) dX5_cookOf_85 rfl
        · skip
          refine r_tabC (v := (3 : Int32)) (tgt := 86) (pc := 20) dX5_cookOf_20 (by decide) (by decide) rfl (by decide) ?_ (fun c3 => ?_)
          · skip
            refine r_aload_n (pc := 86) dX5_cookOf_86 rfl 0 rfl ?_
            refine r_iload_n (pc := 87) dX5_cookOf_87 rfl 1 rfl ?_
            refine r_iconst (v := (3 : Int32)) (pc := 88) dX5_cookOf_88 (by decide) ?_
            refine r_iconst (v := (3 : Int32)) (pc := 89) dX5_cookOf_89 (by decide) ?_
            refine r_cI (pc := 90) (rest := []) (RunOK_chk (fun h => run_V (n := 3) (c9 := 8) (As := [.int x1, .int (3 : Int32), .int (3 : Int32)]) (rest := []) (t_X5_dishesOf γ l hl x0 x1 (3 : Int32) (3 : Int32) g2) dX5_cookOf_90 q3491 q3493 qs59 q121 q3494 (by decide +kernel) rfl h ⟨rfl, by decide, by decide⟩ (Nat.le_of_ble_eq_true rfl) (Nat.le_of_ble_eq_true rfl) rfl (Nat.le_of_ble_eq_true rfl))) (fun v13 g12 => ?_)
            exact r_iret (pc := 93) dX5_cookOf_93 rfl
          · skip
            refine r_tabC (v := (4 : Int32)) (tgt := 94) (pc := 20) dX5_cookOf_20 (by decide) (by decide) rfl (by decide) ?_ (fun c4 => ?_)
            · skip
              refine r_aload_n (pc := 94) dX5_cookOf_94 rfl 0 rfl ?_
              refine r_iload_n (pc := 95) dX5_cookOf_95 rfl 1 rfl ?_
              refine r_iconst (v := (2 : Int32)) (pc := 96) dX5_cookOf_96 (by decide) ?_
              refine r_iconst (v := (4 : Int32)) (pc := 97) dX5_cookOf_97 (by decide) ?_
              refine r_cI (pc := 98) (rest := []) (RunOK_chk (fun h => run_V (n := 3) (c9 := 8) (As := [.int x1, .int (2 : Int32), .int (4 : Int32)]) (rest := []) (t_X5_dishesOf γ l hl x0 x1 (2 : Int32) (4 : Int32) g2) dX5_cookOf_98 q3491 q3493 qs59 q121 q3494 (by decide +kernel) rfl h ⟨rfl, by decide, by decide⟩ (Nat.le_of_ble_eq_true rfl) (Nat.le_of_ble_eq_true rfl) rfl (Nat.le_of_ble_eq_true rfl))) (fun v15 g14 => ?_)
              exact r_iret (pc := 101) dX5_cookOf_101 rfl
            · skip
              refine r_tabC (v := (5 : Int32)) (tgt := 102) (pc := 20) dX5_cookOf_20 (by decide) (by decide) rfl (by decide) ?_ (fun c5 => ?_)
              · skip
                refine r_aload_n (pc := 102) dX5_cookOf_102 rfl 0 rfl ?_
                refine r_iload_n (pc := 103) dX5_cookOf_103 rfl 1 rfl ?_
                refine r_cI (pc := 104) (rest := []) (RunOK_chk (fun h => run_V (n := 1) (c9 := 8) (As := [.int x1]) (rest := []) (t_X5_served γ l hl x0 x1 g2) dX5_cookOf_104 q3511 q3513 qs64 q121 q3514 (by decide +kernel) rfl h ⟨rfl, by decide, by decide⟩ (Nat.le_of_ble_eq_true rfl) (Nat.le_of_ble_eq_true rfl) rfl (Nat.le_of_ble_eq_true rfl))) (fun v17 g16 => ?_)
                exact r_iret (pc := 107) dX5_cookOf_107 rfl
              · skip
                refine r_tabC (v := (6 : Int32)) (tgt := 108) (pc := 20) dX5_cookOf_20 (by decide) (by decide) rfl (by decide) ?_ (fun c6 => ?_)
                · skip
                  refine r_aload_n (pc := 108) dX5_cookOf_108 rfl 0 rfl ?_
                  refine r_iload_n (pc := 109) dX5_cookOf_109 rfl 1 rfl ?_
                  refine r_iconst (v := (2 : Int32)) (pc := 110) dX5_cookOf_110 (by decide) ?_
                  refine r_cI (pc := 111) (rest := []) (RunOK_chk (fun h => run_V (n := 2) (c9 := 8) (As := [.int x1, .int (2 : Int32)]) (rest := []) (t_X5_cook_2 γ l hl x0 x1 (2 : Int32) g2) dX5_cookOf_111 q3483 q3485 qs58 q121 q3486 (by decide +kernel) rfl h ⟨rfl, by decide, by decide⟩ (Nat.le_of_ble_eq_true rfl) (Nat.le_of_ble_eq_true rfl) rfl (Nat.le_of_ble_eq_true rfl))) (fun v19 g18 => ?_)
                  exact r_iret (pc := 114) dX5_cookOf_114 rfl
                · skip
                  refine r_tabD (tgt := 115) (pc := 20) dX5_cookOf_20 (by have e0 := lv_neT c0 (a := 0) rfl; have e1 := lv_neT c1 (a := 1) rfl; have e2 := lv_neT c2 (a := 2) rfl; have e3 := lv_neT c3 (a := 3) rfl; have e4 := lv_neT c4 (a := 4) rfl; have e5 := lv_neT c5 (a := 5) rfl; have e6 := lv_neT c6 (a := 6) rfl; omega) (by decide) ?_
                  refine r_aload_n (pc := 115) dX5_cookOf_115 rfl 0 rfl ?_
                  refine r_iconst (v := (2 : Int32)) (pc := 116) dX5_cookOf_116 (by decide) ?_
                  refine r_cI (pc := 117) (rest := []) (RunOK_chk (fun h => run_V (n := 1) (c9 := 8) (As := [.int (2 : Int32)]) (rest := []) (t_X5_raises γ l hl x0 (2 : Int32) g2) dX5_cookOf_117 q3458 q3460 qs53 q121 q3461 (by decide +kernel) rfl h ⟨rfl, by decide, by decide⟩ (Nat.le_of_ble_eq_true rfl) (Nat.le_of_ble_eq_true rfl) rfl (Nat.le_of_ble_eq_true rfl))) (fun v21 g20 => ?_)
                  exact r_iret (pc := 120) dX5_cookOf_120 rfl
abbrev ck_X5_setsCourse : CK := ("BanquetVotesModel", prog_25_method_18_code, 4, none, "setsCourse", [], 1)
def f_X5_setsCourse (γ : GP) (x0 : Nat) (x1 : Int32) (x2 : Int32) (x3 : Int32) (g : AH) : Option (AH) := gR g x0 30 fun v1 => pA γ g 101 v1 (((97 : Int32) + ((28 : Int32) * x1)) + x2) x3 fun g2 => (some g2)
theorem t_X5_setsCourse (γ : GP) (l : Launch) (hl : l.stackTraces = false) (x0 : Nat) (x1 : Int32) (x2 : Int32) (x3 : Int32) (g : AH) : TrM ρV γ l ⟨"BanquetVotesModel", "setsCourse", "(III)V"⟩ (ws_ ⟨"BanquetVotesModel", "setsCourse", "(III)V"⟩ prog_25_method_18_code 4 none) 1 [.ref x0, .int x1, .int x2, .int x3] g (f_X5_setsCourse γ x0 x1 x2 x3 g) := by
  refine TrM_of (plainFor_of_name (by decide)) (Nat.le_of_ble_eq_true rfl) ?_
  unfold f_X5_setsCourse
  change AW ρV γ l ck_X5_setsCourse g 0 [(0, .ref x0), (1, .int x1), (2, .int x2), (3, .int x3)] [] g _
  refine r_aload_n (pc := 0) dX5_setsCourse_0 rfl 0 rfl ?_
  refine r_getR (f := 30) (pc := 1) dX5_setsCourse_1 q3378 (Or.inl rfl) rfl (fun v1 => ?_)
  refine r_bipush (v := (97 : Int32)) (pc := 4) dX5_setsCourse_4 (by decide) ?_
  refine r_bipush (v := (28 : Int32)) (pc := 6) dX5_setsCourse_6 (by decide) ?_
  refine r_iload_n (pc := 8) dX5_setsCourse_8 rfl 1 rfl ?_
  refine r_imul (pc := 9) dX5_setsCourse_9 ?_
  refine r_iadd (pc := 10) dX5_setsCourse_10 ?_
  refine r_iload_n (pc := 11) dX5_setsCourse_11 rfl 2 rfl ?_
  refine r_iadd (pc := 12) dX5_setsCourse_12 ?_
  refine r_iload_n (pc := 13) dX5_setsCourse_13 rfl 3 rfl ?_
  refine r_iast (pc := 14) dX5_setsCourse_14 (fun g2 => ?_)
  exact r_vret (pc := 15) dX5_setsCourse_15 rfl
abbrev ck_X5_course_2 : CK := ("BanquetVotesModel", prog_25_method_44_code, 3, (some .int), "course", [], 2)
def f_X5_course_2_L43 (γ : GP) (x0 : Nat) (x1 : Int32) (K62 : AH → Option (Int32 × AH)) : Nat → Int32 → AH → Option (Int32 × AH)
  | 0, _, _ => none
  | n + 1, x2, g => (if (28 : Int32) ≤ x2 then K62 g else bV ((if hK g x0 = 8 then f_X5_setsCourse γ x0 x1 x2 (0 : Int32) g else none)) fun g11 => f_X5_course_2_L43 γ x0 x1 K62 n (x2 + (1 : Int32)) g11)
def f_X5_course_2 (γ : GP) (x0 : Nat) (g : AH) : Option (Int32 × AH) := bV ((if hK g x0 = 8 then f_X5_tries γ x0 g else none)) fun g1 => gR g1 x0 30 fun v2 => gA g1 101 v2 (2 : Int32) fun v3 => (if v3 = (8 : Int32) then bI ((if hK g1 x0 = 8 then f_X5_refuses γ x0 (1 : Int32) (8 : Int32) g1 else none)) fun v5 g4 => bI ((if hK g4 x0 = 8 then f_X5_raises γ x0 (v5 - (2 : Int32)) g4 else none)) fun v7 g6 => (some (v7, g6)) else gR g1 x0 30 fun v8 => gA g1 101 v8 (2 : Int32) fun v9 => pA γ g1 101 v8 (2 : Int32) (v9 + (1 : Int32)) fun g10 => f_X5_course_2_L43 γ x0 v3 (fun (g12 : AH) => bV ((if hK g12 x0 = 8 then f_X5_setsCourse γ x0 v3 (1 : Int32) (-1 : Int32) g12 else none)) fun g13 => bV ((if hK g13 x0 = 8 then f_X5_setsCourse γ x0 v3 (2 : Int32) (-1 : Int32) g13 else none)) fun g14 => bI ((if hK g14 x0 = 8 then f_X5_keeps γ x0 v3 g14 else none)) fun v16 g15 => (some (v16, g15))) FU (0 : Int32) g10)
theorem f_X5_course_2_L43_w (γ : GP) (l : Launch) (hl : l.stackTraces = false) (G0 : AH) (x0 : Nat) (x1 : Int32) (K62 : AH → Option (Int32 × AH)) (h_K62 : ∀ (g : AH), AW ρI γ l ck_X5_course_2 G0 62 [(0, .ref x0), (1, .int x1)] [] g (K62 g)) : ∀ (n : Nat) (x2 : Int32) (g : AH), AW ρI γ l ck_X5_course_2 G0 43 [(0, .ref x0), (1, .int x1), (2, .int x2)] [] g (f_X5_course_2_L43 γ x0 x1 K62 n x2 g) := by
  intro n
  induction n with
  | zero => intro x2 g; exact AW_none
  | succ n ih =>
    intro x2 g
    unfold f_X5_course_2_L43
    refine r_iload_n (pc := 43) dX5_course_2_43 rfl 2 rfl ?_
    refine r_bipush (v := (28 : Int32)) (pc := 44) dX5_course_2_44 (by decide) ?_
    refine r_icmp_ge (tgt := 62) (pc := 46) dX5_course_2_46 (by decide) ?_ ?_
    · skip
      refine AW_sub [0, 1] rfl ?_
      exact h_K62 g
    · skip
      refine r_aload_n (pc := 49) dX5_course_2_49 rfl 0 rfl ?_
      refine r_iload_n (pc := 50) dX5_course_2_50 rfl 1 rfl ?_
      refine r_iload_n (pc := 51) dX5_course_2_51 rfl 2 rfl ?_
      refine r_iconst (v := (0 : Int32)) (pc := 52) dX5_course_2_52 (by decide) ?_
      refine r_cV (pc := 53) (rest := []) (RunOK_chk (fun h => run_V (n := 3) (c9 := 8) (As := [.int x1, .int x2, .int (0 : Int32)]) (rest := []) (t_X5_setsCourse γ l hl x0 x1 x2 (0 : Int32) g) dX5_course_2_53 q3519 q3521 qs65 q121 q3522 (by decide +kernel) rfl h ⟨rfl, by decide, by decide⟩ (Nat.le_of_ble_eq_true rfl) (Nat.le_of_ble_eq_true rfl) rfl (Nat.le_of_ble_eq_true rfl))) (fun g11 => ?_)
      refine r_iinc (j := 2) (v := (x2 + (1 : Int32))) (pc := 56) dX5_course_2_56 rfl rfl (Nat.le_of_ble_eq_true rfl) rfl ?_
      refine r_goto (tgt := 43) (pc := 59) dX5_course_2_59 (by decide) ?_
      refine AW_sub [1, 2, 0] rfl ?_
      exact ih (x2 + (1 : Int32)) g11
theorem t_X5_course_2 (γ : GP) (l : Launch) (hl : l.stackTraces = false) (x0 : Nat) (g : AH) : TrM ρI γ l ⟨"BanquetVotesModel", "course", "()I"⟩ (ws_ ⟨"BanquetVotesModel", "course", "()I"⟩ prog_25_method_44_code 3 (some .int)) 2 [.ref x0] g (f_X5_course_2 γ x0 g) := by
  refine TrM_of (plainFor_of_name (by decide)) (Nat.le_of_ble_eq_true rfl) ?_
  unfold f_X5_course_2
  change AW ρI γ l ck_X5_course_2 g 0 [(0, .ref x0)] [] g _
  refine r_aload_n (pc := 0) dX5_course_2_0 rfl 0 rfl ?_
  refine r_cV (pc := 1) (rest := []) (RunOK_chk (fun h => run_V (n := 0) (c9 := 8) (As := []) (rest := []) (t_X5_tries γ l hl x0 g) dX5_course_2_1 q3451 q3453 qs52 q121 q3454 (by decide +kernel) rfl h ⟨rfl, by decide, by decide⟩ (Nat.le_of_ble_eq_true rfl) (Nat.le_of_ble_eq_true rfl) rfl (Nat.le_of_ble_eq_true rfl))) (fun g1 => ?_)
  refine r_aload_n (pc := 4) dX5_course_2_4 rfl 0 rfl ?_
  refine r_getR (f := 30) (pc := 5) dX5_course_2_5 q3378 (Or.inl rfl) rfl (fun v2 => ?_)
  refine r_iconst (v := (2 : Int32)) (pc := 8) dX5_course_2_8 (by decide) ?_
  refine r_iald (pc := 9) dX5_course_2_9 (fun v3 => ?_)
  refine r_istore_n (pc := 10) dX5_course_2_10 rfl (Nat.le_of_ble_eq_true rfl) rfl ?_
  refine r_iload_n (pc := 11) dX5_course_2_11 rfl 0 rfl ?_
  refine r_bipush (v := (8 : Int32)) (pc := 12) dX5_course_2_12 (by decide) ?_
  refine r_icmp_ne (tgt := 31) (pc := 14) dX5_course_2_14 (by decide) ?_ ?_
  · skip
    refine r_aload_n (pc := 17) dX5_course_2_17 rfl 1 rfl ?_
    refine r_aload_n (pc := 18) dX5_course_2_18 rfl 1 rfl ?_
    refine r_iconst (v := (1 : Int32)) (pc := 19) dX5_course_2_19 (by decide) ?_
    refine r_bipush (v := (8 : Int32)) (pc := 20) dX5_course_2_20 (by decide) ?_
    refine r_cI (pc := 22) (rest := [.ref x0]) (RunOK_chk (fun h => run_V (n := 2) (c9 := 8) (As := [.int (1 : Int32), .int (8 : Int32)]) (rest := [.ref x0]) (t_X5_refuses γ l hl x0 (1 : Int32) (8 : Int32) g1) dX5_course_2_22 q3462 q3464 qs54 q121 q3465 (by decide +kernel) rfl h ⟨rfl, by decide, by decide⟩ (Nat.le_of_ble_eq_true rfl) (Nat.le_of_ble_eq_true rfl) rfl (Nat.le_of_ble_eq_true rfl))) (fun v5 g4 => ?_)
    refine r_iconst (v := (2 : Int32)) (pc := 25) dX5_course_2_25 (by decide) ?_
    refine r_isub (pc := 26) dX5_course_2_26 ?_
    refine r_cI (pc := 27) (rest := []) (RunOK_chk (fun h => run_V (n := 1) (c9 := 8) (As := [.int (v5 - (2 : Int32))]) (rest := []) (t_X5_raises γ l hl x0 (v5 - (2 : Int32)) g4) dX5_course_2_27 q3458 q3460 qs53 q121 q3461 (by decide +kernel) rfl h ⟨rfl, by decide, by decide⟩ (Nat.le_of_ble_eq_true rfl) (Nat.le_of_ble_eq_true rfl) rfl (Nat.le_of_ble_eq_true rfl))) (fun v7 g6 => ?_)
    exact r_iret (pc := 30) dX5_course_2_30 rfl
  · skip
    refine r_aload_n (pc := 31) dX5_course_2_31 rfl 1 rfl ?_
    refine r_getR (f := 30) (pc := 32) dX5_course_2_32 q3378 (Or.inl rfl) rfl (fun v8 => ?_)
    refine r_iconst (v := (2 : Int32)) (pc := 35) dX5_course_2_35 (by decide) ?_
    refine r_dup2 (pc := 36) dX5_course_2_36 rfl rfl ?_
    refine r_iald (pc := 37) dX5_course_2_37 (fun v9 => ?_)
    refine r_iconst (v := (1 : Int32)) (pc := 38) dX5_course_2_38 (by decide) ?_
    refine r_iadd (pc := 39) dX5_course_2_39 ?_
    refine r_iast (pc := 40) dX5_course_2_40 (fun g10 => ?_)
    refine r_iconst (v := (0 : Int32)) (pc := 41) dX5_course_2_41 (by decide) ?_
    refine r_istore_n (pc := 42) dX5_course_2_42 rfl (Nat.le_of_ble_eq_true rfl) rfl ?_
    refine AW_sub [2, 1, 0] rfl ?_
    refine f_X5_course_2_L43_w γ l hl _ x0 v3 _ ?_ FU (0 : Int32) g10
    · intro g12
      refine r_aload_n (pc := 62) dX5_course_2_62 rfl 0 rfl ?_
      refine r_iload_n (pc := 63) dX5_course_2_63 rfl 1 rfl ?_
      refine r_iconst (v := (1 : Int32)) (pc := 64) dX5_course_2_64 (by decide) ?_
      refine r_iconst (v := (-1 : Int32)) (pc := 65) dX5_course_2_65 (by decide) ?_
      refine r_cV (pc := 66) (rest := []) (RunOK_chk (fun h => run_V (n := 3) (c9 := 8) (As := [.int v3, .int (1 : Int32), .int (-1 : Int32)]) (rest := []) (t_X5_setsCourse γ l hl x0 v3 (1 : Int32) (-1 : Int32) g12) dX5_course_2_66 q3519 q3521 qs65 q121 q3522 (by decide +kernel) rfl h ⟨rfl, by decide, by decide⟩ (Nat.le_of_ble_eq_true rfl) (Nat.le_of_ble_eq_true rfl) rfl (Nat.le_of_ble_eq_true rfl))) (fun g13 => ?_)
      refine r_aload_n (pc := 69) dX5_course_2_69 rfl 0 rfl ?_
      refine r_iload_n (pc := 70) dX5_course_2_70 rfl 1 rfl ?_
      refine r_iconst (v := (2 : Int32)) (pc := 71) dX5_course_2_71 (by decide) ?_
      refine r_iconst (v := (-1 : Int32)) (pc := 72) dX5_course_2_72 (by decide) ?_
      refine r_cV (pc := 73) (rest := []) (RunOK_chk (fun h => run_V (n := 3) (c9 := 8) (As := [.int v3, .int (2 : Int32), .int (-1 : Int32)]) (rest := []) (t_X5_setsCourse γ l hl x0 v3 (2 : Int32) (-1 : Int32) g13) dX5_course_2_73 q3519 q3521 qs65 q121 q3522 (by decide +kernel) rfl h ⟨rfl, by decide, by decide⟩ (Nat.le_of_ble_eq_true rfl) (Nat.le_of_ble_eq_true rfl) rfl (Nat.le_of_ble_eq_true rfl))) (fun g14 => ?_)
      refine r_aload_n (pc := 76) dX5_course_2_76 rfl 0 rfl ?_
      refine r_iload_n (pc := 77) dX5_course_2_77 rfl 1 rfl ?_
      refine r_cI (pc := 78) (rest := []) (RunOK_chk (fun h => run_V (n := 1) (c9 := 8) (As := [.int v3]) (rest := []) (t_X5_keeps γ l hl x0 v3 g14) dX5_course_2_78 q3470 q3472 qs56 q121 q3473 (by decide +kernel) rfl h ⟨rfl, by decide, by decide⟩ (Nat.le_of_ble_eq_true rfl) (Nat.le_of_ble_eq_true rfl) rfl (Nat.le_of_ble_eq_true rfl))) (fun v16 g15 => ?_)
      exact r_iret (pc := 81) dX5_course_2_81 rfl
abbrev ck_X5_isCourse : CK := ("BanquetVotesModel", prog_25_method_13_code, 2, (some .boolean), "isCourse", [], 2)
def f_X5_isCourse (γ : GP) (x0 : Nat) (x1 : Int32) (g : AH) : Option (Int32 × AH) := gR g x0 30 fun v1 => gA g 101 v1 (2 : Int32) fun v2 => bI (f_X5_in γ x1 (0 : Int32) (v2 - (1 : Int32)) g) fun v4 g3 => (rtN .boolean v4 g3)
theorem t_X5_isCourse (γ : GP) (l : Launch) (hl : l.stackTraces = false) (x0 : Nat) (x1 : Int32) (g : AH) : TrM ρI γ l ⟨"BanquetVotesModel", "isCourse", "(I)Z"⟩ (ws_ ⟨"BanquetVotesModel", "isCourse", "(I)Z"⟩ prog_25_method_13_code 2 (some .boolean)) 2 [.ref x0, .int x1] g (f_X5_isCourse γ x0 x1 g) := by
  refine TrM_of (plainFor_of_name (by decide)) (Nat.le_of_ble_eq_true rfl) ?_
  unfold f_X5_isCourse
  change AW ρI γ l ck_X5_isCourse g 0 [(0, .ref x0), (1, .int x1)] [] g _
  refine r_iload_n (pc := 0) dX5_isCourse_0 rfl 1 rfl ?_
  refine r_iconst (v := (0 : Int32)) (pc := 1) dX5_isCourse_1 (by decide) ?_
  refine r_aload_n (pc := 2) dX5_isCourse_2 rfl 0 rfl ?_
  refine r_getR (f := 30) (pc := 3) dX5_isCourse_3 q3378 (Or.inl rfl) rfl (fun v1 => ?_)
  refine r_iconst (v := (2 : Int32)) (pc := 6) dX5_isCourse_6 (by decide) ?_
  refine r_iald (pc := 7) dX5_isCourse_7 (fun v2 => ?_)
  refine r_iconst (v := (1 : Int32)) (pc := 8) dX5_isCourse_8 (by decide) ?_
  refine r_isub (pc := 9) dX5_isCourse_9 ?_
  refine r_cI (pc := 10) (rest := []) (run_S (n := 3) (As := [.int x1, .int (0 : Int32), .int (v2 - (1 : Int32))]) (rest := []) (t_X5_in γ l hl x1 (0 : Int32) (v2 - (1 : Int32)) g) dX5_isCourse_10 q3455 q3456 q121 q3457 (by decide +kernel) rfl (Nat.le_of_ble_eq_true rfl) (Nat.le_of_ble_eq_true rfl) rfl (Nat.le_of_ble_eq_true rfl)) (fun v4 g3 => ?_)
  exact r_zret (ty := .boolean) (pc := 13) dX5_isCourse_13 rfl
abbrev ck_X5_how : CK := ("BanquetVotesModel", prog_25_method_19_code, 2, (some .int), "how", [], 2)
def f_X5_how (γ : GP) (x0 : Nat) (x1 : Int32) (g : AH) : Option (Int32 × AH) := bI ((if hK g x0 = 8 then f_X5_course γ x0 x1 (0 : Int32) g else none)) fun v2 g1 => (some (v2, g1))
theorem t_X5_how (γ : GP) (l : Launch) (hl : l.stackTraces = false) (x0 : Nat) (x1 : Int32) (g : AH) : TrM ρI γ l ⟨"BanquetVotesModel", "how", "(I)I"⟩ (ws_ ⟨"BanquetVotesModel", "how", "(I)I"⟩ prog_25_method_19_code 2 (some .int)) 2 [.ref x0, .int x1] g (f_X5_how γ x0 x1 g) := by
  refine TrM_of (plainFor_of_name (by decide)) (Nat.le_of_ble_eq_true rfl) ?_
  unfold f_X5_how
  change AW ρI γ l ck_X5_how g 0 [(0, .ref x0), (1, .int x1)] [] g _
  refine r_aload_n (pc := 0) dX5_how_0 rfl 0 rfl ?_
  refine r_iload_n (pc := 1) dX5_how_1 rfl 1 rfl ?_
  refine r_iconst (v := (0 : Int32)) (pc := 2) dX5_how_2 (by decide) ?_
  refine r_cI (pc := 3) (rest := []) (RunOK_chk (fun h => run_V (n := 2) (c9 := 8) (As := [.int x1, .int (0 : Int32)]) (rest := []) (t_X5_course γ l hl x0 x1 (0 : Int32) g) dX5_how_3 q3499 q3501 qs61 q121 q3502 (by decide +kernel) rfl h ⟨rfl, by decide, by decide⟩ (Nat.le_of_ble_eq_true rfl) (Nat.le_of_ble_eq_true rfl) rfl (Nat.le_of_ble_eq_true rfl))) (fun v2 g1 => ?_)
  exact r_iret (pc := 6) dX5_how_6 rfl
abbrev ck_X5_dishes : CK := ("BanquetVotesModel", prog_25_method_23_code, 4, (some .int), "dishes", [], 3)
def f_X5_dishes_L4 (γ : GP) (x0 : Nat) (x1 : Int32) : Nat → Int32 → Int32 → AH → Option (Int32 × AH)
  | 0, _, _, _ => none
  | n + 1, x2, x3, g => (if (6 : Int32) ≤ x3 then (some (x2, g)) else bI ((if hK g x0 = 8 then f_X5_isDish γ x0 x1 x3 g else none)) fun v2 g1 => (if v2 = 0 then f_X5_dishes_L4 γ x0 x1 n x2 (x3 + (1 : Int32)) g1 else f_X5_dishes_L4 γ x0 x1 n (x2 + (1 : Int32)) (x3 + (1 : Int32)) g1))
def f_X5_dishes (γ : GP) (x0 : Nat) (x1 : Int32) (g : AH) : Option (Int32 × AH) := f_X5_dishes_L4 γ x0 x1 FU (0 : Int32) (0 : Int32) g
theorem f_X5_dishes_L4_w (γ : GP) (l : Launch) (hl : l.stackTraces = false) (G0 : AH) (x0 : Nat) (x1 : Int32) : ∀ (n : Nat) (x2 : Int32) (x3 : Int32) (g : AH), AW ρI γ l ck_X5_dishes G0 4 [(0, .ref x0), (1, .int x1), (2, .int x2), (3, .int x3)] [] g (f_X5_dishes_L4 γ x0 x1 n x2 x3 g) := by
  intro n
  induction n with
  | zero => intro x2 x3 g; exact AW_none
  | succ n ih =>
    intro x2 x3 g
    unfold f_X5_dishes_L4
    refine r_iload_n (pc := 4) dX5_dishes_4 rfl 3 rfl ?_
    refine r_bipush (v := (6 : Int32)) (pc := 5) dX5_dishes_5 (by decide) ?_
    refine r_icmp_ge (tgt := 28) (pc := 7) dX5_dishes_7 (by decide) ?_ ?_
    · skip
      refine r_iload_n (pc := 28) dX5_dishes_28 rfl 2 rfl ?_
      exact r_iret (pc := 29) dX5_dishes_29 rfl
    · skip
      refine r_aload_n (pc := 10) dX5_dishes_10 rfl 0 rfl ?_
      refine r_iload_n (pc := 11) dX5_dishes_11 rfl 1 rfl ?_
      refine r_iload_n (pc := 12) dX5_dishes_12 rfl 3 rfl ?_
      refine r_cI (pc := 13) (rest := []) (RunOK_chk (fun h => run_V (n := 2) (c9 := 8) (As := [.int x1, .int x3]) (rest := []) (t_X5_isDish γ l hl x0 x1 x3 g) dX5_dishes_13 q3495 q3497 qs60 q121 q3498 (by decide +kernel) rfl h ⟨rfl, by decide, by decide⟩ (Nat.le_of_ble_eq_true rfl) (Nat.le_of_ble_eq_true rfl) rfl (Nat.le_of_ble_eq_true rfl))) (fun v2 g1 => ?_)
      refine r_if_eq (tgt := 22) (pc := 16) dX5_dishes_16 (by decide) ?_ ?_
      · skip
        refine r_iinc (j := 3) (v := (x3 + (1 : Int32))) (pc := 22) dX5_dishes_22 rfl rfl (Nat.le_of_ble_eq_true rfl) rfl ?_
        refine r_goto (tgt := 4) (pc := 25) dX5_dishes_25 (by decide) ?_
        refine AW_sub [1, 2, 3, 0] rfl ?_
        exact ih x2 (x3 + (1 : Int32)) g1
      · skip
        refine r_iinc (j := 2) (v := (x2 + (1 : Int32))) (pc := 19) dX5_dishes_19 rfl rfl (Nat.le_of_ble_eq_true rfl) rfl ?_
        refine r_iinc (j := 3) (v := (x3 + (1 : Int32))) (pc := 22) dX5_dishes_22 rfl rfl (Nat.le_of_ble_eq_true rfl) rfl ?_
        refine r_goto (tgt := 4) (pc := 25) dX5_dishes_25 (by decide) ?_
        refine AW_sub [2, 3, 1, 0] rfl ?_
        exact ih (x2 + (1 : Int32)) (x3 + (1 : Int32)) g1
theorem t_X5_dishes (γ : GP) (l : Launch) (hl : l.stackTraces = false) (x0 : Nat) (x1 : Int32) (g : AH) : TrM ρI γ l ⟨"BanquetVotesModel", "dishes", "(I)I"⟩ (ws_ ⟨"BanquetVotesModel", "dishes", "(I)I"⟩ prog_25_method_23_code 4 (some .int)) 3 [.ref x0, .int x1] g (f_X5_dishes γ x0 x1 g) := by
  refine TrM_of (plainFor_of_name (by decide)) (Nat.le_of_ble_eq_true rfl) ?_
  unfold f_X5_dishes
  change AW ρI γ l ck_X5_dishes g 0 [(0, .ref x0), (1, .int x1)] [] g _
  refine r_iconst (v := (0 : Int32)) (pc := 0) dX5_dishes_0 (by decide) ?_
  refine r_istore_n (pc := 1) dX5_dishes_1 rfl (Nat.le_of_ble_eq_true rfl) rfl ?_
  refine r_iconst (v := (0 : Int32)) (pc := 2) dX5_dishes_2 (by decide) ?_
  refine r_istore_n (pc := 3) dX5_dishes_3 rfl (Nat.le_of_ble_eq_true rfl) rfl ?_
  refine AW_sub [2, 3, 1, 0] rfl ?_
  refine f_X5_dishes_L4_w γ l hl _ x0 x1 FU (0 : Int32) (0 : Int32) g
abbrev ck_X5_dish_2 : CK := ("BanquetVotesModel", prog_25_method_45_code, 6, (some .int), "dish", [], 4)
def f_X5_dish_2 (γ : GP) (x0 : Nat) (x1 : Int32) (x2 : Int32) (x3 : Int32) (x4 : Int32) (g : AH) : Option (Int32 × AH) := bV ((if hK g x0 = 8 then f_X5_tries γ x0 g else none)) fun g1 => bI ((if hK g1 x0 = 8 then f_X5_isCourse γ x0 x1 g1 else none)) fun v3 g2 => jn (fun (g4 : AH) => bI ((if hK g4 x0 = 8 then f_X5_raises γ x0 (1 : Int32) g4 else none)) fun v7 g6 => (some (v7, g6))) (fun (j5 : AH → Option (Int32 × AH)) => (if v3 = 0 then j5 g2 else bI ((if hK g2 x0 = 8 then f_X5_isCook γ x0 x2 g2 else none)) fun v9 g8 => (if v9 = 0 then j5 g8 else bI (f_X5_in γ x3 (0 : Int32) (3 : Int32) g8) fun v11 g10 => jn (fun (g12 : AH) => bI ((if hK g12 x0 = 8 then f_X5_raises γ x0 (2 : Int32) g12 else none)) fun v15 g14 => (some (v15, g14))) (fun (j13 : AH → Option (Int32 × AH)) => (if v11 = 0 then j13 g10 else bI (f_X5_in γ x4 (1 : Int32) (20 : Int32) g10) fun v17 g16 => (if v17 = 0 then j13 g16 else bI ((if hK g16 x0 = 8 then f_X5_how γ x0 x1 g16 else none)) fun v19 g18 => (if v19 = 0 then bI ((if hK g18 x0 = 8 then f_X5_isDish γ x0 x1 x2 g18 else none)) fun v21 g20 => (if v21 = 0 then bV ((if hK g20 x0 = 8 then f_X5_setsCourse γ x0 x1 ((4 : Int32) + ((4 : Int32) * x2)) (x3 + (1 : Int32)) g20 else none)) fun g22 => bV ((if hK g22 x0 = 8 then f_X5_setsCourse γ x0 x1 (((4 : Int32) + ((4 : Int32) * x2)) + (1 : Int32)) x4 g22 else none)) fun g23 => bV ((if hK g23 x0 = 8 then f_X5_setsCourse γ x0 x1 (((4 : Int32) + ((4 : Int32) * x2)) + (2 : Int32)) (0 : Int32) g23 else none)) fun g24 => bV ((if hK g24 x0 = 8 then f_X5_setsCourse γ x0 x1 (((4 : Int32) + ((4 : Int32) * x2)) + (3 : Int32)) (-1 : Int32) g24 else none)) fun g25 => bI ((if hK g25 x0 = 8 then f_X5_dishes γ x0 x1 g25 else none)) fun v27 g26 => bI ((if hK g26 x0 = 8 then f_X5_keeps γ x0 v27 g26 else none)) fun v29 g28 => (some (v29, g28)) else bI ((if hK g20 x0 = 8 then f_X5_dish γ x0 x1 x2 (0 : Int32) g20 else none)) fun v31 g30 => bI ((if hK g30 x0 = 8 then f_X5_refuses γ x0 (4 : Int32) (v31 - (1 : Int32)) g30 else none)) fun v33 g32 => bI ((if hK g32 x0 = 8 then f_X5_raises γ x0 v33 g32 else none)) fun v35 g34 => (some (v35, g34))) else bI ((if hK g18 x0 = 8 then f_X5_how γ x0 x1 g18 else none)) fun v37 g36 => bI ((if hK g36 x0 = 8 then f_X5_refuses γ x0 (3 : Int32) v37 g36 else none)) fun v39 g38 => bI ((if hK g38 x0 = 8 then f_X5_raises γ x0 v39 g38 else none)) fun v41 g40 => (some (v41, g40)))))))))
theorem t_X5_dish_2 (γ : GP) (l : Launch) (hl : l.stackTraces = false) (x0 : Nat) (x1 : Int32) (x2 : Int32) (x3 : Int32) (x4 : Int32) (g : AH) : TrM ρI γ l ⟨"BanquetVotesModel", "dish", "(IIII)I"⟩ (ws_ ⟨"BanquetVotesModel", "dish", "(IIII)I"⟩ prog_25_method_45_code 6 (some .int)) 4 [.ref x0, .int x1, .int x2, .int x3, .int x4] g (f_X5_dish_2 γ x0 x1 x2 x3 x4 g) := by
  refine TrM_of (plainFor_of_name (by decide)) (Nat.le_of_ble_eq_true rfl) ?_
  unfold f_X5_dish_2
  change AW ρI γ l ck_X5_dish_2 g 0 [(0, .ref x0), (1, .int x1), (2, .int x2), (3, .int x3), (4, .int x4)] [] g _
  refine r_aload_n (pc := 0) dX5_dish_2_0 rfl 0 rfl ?_
  refine r_cV (pc := 1) (rest := []) (RunOK_chk (fun h => run_V (n := 0) (c9 := 8) (As := []) (rest := []) (t_X5_tries γ l hl x0 g) dX5_dish_2_1 q3451 q3453 qs52 q121 q3454 (by decide +kernel) rfl h ⟨rfl, by decide, by decide⟩ (Nat.le_of_ble_eq_true rfl) (Nat.le_of_ble_eq_true rfl) rfl (Nat.le_of_ble_eq_true rfl))) (fun g1 => ?_)
  refine r_aload_n (pc := 4) dX5_dish_2_4 rfl 0 rfl ?_
  refine r_iload_n (pc := 5) dX5_dish_2_5 rfl 1 rfl ?_
  refine r_cI (pc := 6) (rest := []) (RunOK_chk (fun h => run_V (n := 1) (c9 := 8) (As := [.int x1]) (rest := []) (t_X5_isCourse γ l hl x0 x1 g1) dX5_dish_2_6 q3527 q3529 qs66 q121 q3530 (by decide +kernel) rfl h ⟨rfl, by decide, by decide⟩ (Nat.le_of_ble_eq_true rfl) (Nat.le_of_ble_eq_true rfl) rfl (Nat.le_of_ble_eq_true rfl))) (fun v3 g2 => ?_)
  refine AW_jn (P := fun (j : AH → Option (Int32 × AH)) => ∀ (g4 : AH), AW ρI γ l ck_X5_dish_2 g 20 [(0, .ref x0)] [] g4 (j g4)) (fun g4 => ?_) (fun j5 h_j5 => ?_)
  · skip
    refine r_aload_n (pc := 20) dX5_dish_2_20 rfl 0 rfl ?_
    refine r_iconst (v := (1 : Int32)) (pc := 21) dX5_dish_2_21 (by decide) ?_
    refine r_cI (pc := 22) (rest := []) (RunOK_chk (fun h => run_V (n := 1) (c9 := 8) (As := [.int (1 : Int32)]) (rest := []) (t_X5_raises γ l hl x0 (1 : Int32) g4) dX5_dish_2_22 q3458 q3460 qs53 q121 q3461 (by decide +kernel) rfl h ⟨rfl, by decide, by decide⟩ (Nat.le_of_ble_eq_true rfl) (Nat.le_of_ble_eq_true rfl) rfl (Nat.le_of_ble_eq_true rfl))) (fun v7 g6 => ?_)
    exact r_iret (pc := 25) dX5_dish_2_25 rfl
  · skip
    refine r_if_eq (tgt := 20) (pc := 9) dX5_dish_2_9 (by decide) ?_ ?_
    · skip
      refine AW_sub [0] rfl ?_
      exact h_j5 g2
    · skip
      refine r_aload_n (pc := 12) dX5_dish_2_12 rfl 0 rfl ?_
      refine r_iload_n (pc := 13) dX5_dish_2_13 rfl 2 rfl ?_
      refine r_cI (pc := 14) (rest := []) (RunOK_chk (fun h => run_V (n := 1) (c9 := 8) (As := [.int x2]) (rest := []) (t_X5_isCook γ l hl x0 x2 g2) dX5_dish_2_14 q3479 q3481 qs57 q121 q3482 (by decide +kernel) rfl h ⟨rfl, by decide, by decide⟩ (Nat.le_of_ble_eq_true rfl) (Nat.le_of_ble_eq_true rfl) rfl (Nat.le_of_ble_eq_true rfl))) (fun v9 g8 => ?_)
      refine r_if_ne (tgt := 26) (pc := 17) dX5_dish_2_17 (by decide) ?_ ?_
      · skip
        refine AW_sub [0] rfl ?_
        exact h_j5 g8
      · skip
        refine r_iload_n (pc := 26) dX5_dish_2_26 rfl 3 rfl ?_
        refine r_iconst (v := (0 : Int32)) (pc := 27) dX5_dish_2_27 (by decide) ?_
        refine r_iconst (v := (3 : Int32)) (pc := 28) dX5_dish_2_28 (by decide) ?_
        refine r_cI (pc := 29) (rest := []) (run_S (n := 3) (As := [.int x3, .int (0 : Int32), .int (3 : Int32)]) (rest := []) (t_X5_in γ l hl x3 (0 : Int32) (3 : Int32) g8) dX5_dish_2_29 q3455 q3456 q121 q3457 (by decide +kernel) rfl (Nat.le_of_ble_eq_true rfl) (Nat.le_of_ble_eq_true rfl) rfl (Nat.le_of_ble_eq_true rfl)) (fun v11 g10 => ?_)
        refine AW_jn (P := fun (j : AH → Option (Int32 × AH)) => ∀ (g12 : AH), AW ρI γ l ck_X5_dish_2 g 46 [(0, .ref x0)] [] g12 (j g12)) (fun g12 => ?_) (fun j13 h_j13 => ?_)
        · skip
          refine r_aload_n (pc := 46) dX5_dish_2_46 rfl 0 rfl ?_
          refine r_iconst (v := (2 : Int32)) (pc := 47) dX5_dish_2_47 (by decide) ?_
          refine r_cI (pc := 48) (rest := []) (RunOK_chk (fun h => run_V (n := 1) (c9 := 8) (As := [.int (2 : Int32)]) (rest := []) (t_X5_raises γ l hl x0 (2 : Int32) g12) dX5_dish_2_48 q3458 q3460 qs53 q121 q3461 (by decide +kernel) rfl h ⟨rfl, by decide, by decide⟩ (Nat.le_of_ble_eq_true rfl) (Nat.le_of_ble_eq_true rfl) rfl (Nat.le_of_ble_eq_true rfl))) (fun v15 g14 => ?_)
          exact r_iret (pc := 51) dX5_dish_2_51 rfl
        · skip
          refine r_if_eq (tgt := 46) (pc := 32) dX5_dish_2_32 (by decide) ?_ ?_
          · skip
            refine AW_sub [0] rfl ?_
            exact h_j13 g10
          · skip
            refine r_iload (pc := 35) dX5_dish_2_35 4 rfl ?_
            refine r_iconst (v := (1 : Int32)) (pc := 37) dX5_dish_2_37 (by decide) ?_
            refine r_bipush (v := (20 : Int32)) (pc := 38) dX5_dish_2_38 (by decide) ?_
            refine r_cI (pc := 40) (rest := []) (run_S (n := 3) (As := [.int x4, .int (1 : Int32), .int (20 : Int32)]) (rest := []) (t_X5_in γ l hl x4 (1 : Int32) (20 : Int32) g10) dX5_dish_2_40 q3455 q3456 q121 q3457 (by decide +kernel) rfl (Nat.le_of_ble_eq_true rfl) (Nat.le_of_ble_eq_true rfl) rfl (Nat.le_of_ble_eq_true rfl)) (fun v17 g16 => ?_)
            refine r_if_ne (tgt := 52) (pc := 43) dX5_dish_2_43 (by decide) ?_ ?_
            · skip
              refine AW_sub [0] rfl ?_
              exact h_j13 g16
            · skip
              refine r_aload_n (pc := 52) dX5_dish_2_52 rfl 0 rfl ?_
              refine r_iload_n (pc := 53) dX5_dish_2_53 rfl 1 rfl ?_
              refine r_cI (pc := 54) (rest := []) (RunOK_chk (fun h => run_V (n := 1) (c9 := 8) (As := [.int x1]) (rest := []) (t_X5_how γ l hl x0 x1 g16) dX5_dish_2_54 q3531 q3533 qs67 q121 q3534 (by decide +kernel) rfl h ⟨rfl, by decide, by decide⟩ (Nat.le_of_ble_eq_true rfl) (Nat.le_of_ble_eq_true rfl) rfl (Nat.le_of_ble_eq_true rfl))) (fun v19 g18 => ?_)
              refine r_if_eq (tgt := 75) (pc := 57) dX5_dish_2_57 (by decide) ?_ ?_
              · skip
                refine r_aload_n (pc := 75) dX5_dish_2_75 rfl 0 rfl ?_
                refine r_iload_n (pc := 76) dX5_dish_2_76 rfl 1 rfl ?_
                refine r_iload_n (pc := 77) dX5_dish_2_77 rfl 2 rfl ?_
                refine r_cI (pc := 78) (rest := []) (RunOK_chk (fun h => run_V (n := 2) (c9 := 8) (As := [.int x1, .int x2]) (rest := []) (t_X5_isDish γ l hl x0 x1 x2 g18) dX5_dish_2_78 q3495 q3497 qs60 q121 q3498 (by decide +kernel) rfl h ⟨rfl, by decide, by decide⟩ (Nat.le_of_ble_eq_true rfl) (Nat.le_of_ble_eq_true rfl) rfl (Nat.le_of_ble_eq_true rfl))) (fun v21 g20 => ?_)
                refine r_if_eq (tgt := 103) (pc := 81) dX5_dish_2_81 (by decide) ?_ ?_
                · skip
                  refine r_iconst (v := (4 : Int32)) (pc := 103) dX5_dish_2_103 (by decide) ?_
                  refine r_iconst (v := (4 : Int32)) (pc := 104) dX5_dish_2_104 (by decide) ?_
                  refine r_iload_n (pc := 105) dX5_dish_2_105 rfl 2 rfl ?_
                  refine r_imul (pc := 106) dX5_dish_2_106 ?_
                  refine r_iadd (pc := 107) dX5_dish_2_107 ?_
                  refine r_istore (pc := 108) dX5_dish_2_108 (Nat.le_of_ble_eq_true rfl) rfl ?_
                  refine r_aload_n (pc := 110) dX5_dish_2_110 rfl 1 rfl ?_
                  refine r_iload_n (pc := 111) dX5_dish_2_111 rfl 2 rfl ?_
                  refine r_iload (pc := 112) dX5_dish_2_112 0 rfl ?_
                  refine r_iload_n (pc := 114) dX5_dish_2_114 rfl 4 rfl ?_
                  refine r_iconst (v := (1 : Int32)) (pc := 115) dX5_dish_2_115 (by decide) ?_
                  refine r_iadd (pc := 116) dX5_dish_2_116 ?_
                  refine r_cV (pc := 117) (rest := []) (RunOK_chk (fun h => run_V (n := 3) (c9 := 8) (As := [.int x1, .int ((4 : Int32) + ((4 : Int32) * x2)), .int (x3 + (1 : Int32))]) (rest := []) (t_X5_setsCourse γ l hl x0 x1 ((4 : Int32) + ((4 : Int32) * x2)) (x3 + (1 : Int32)) g20) dX5_dish_2_117 q3519 q3521 qs65 q121 q3522 (by decide +kernel) rfl h ⟨rfl, by decide, by decide⟩ (Nat.le_of_ble_eq_true rfl) (Nat.le_of_ble_eq_true rfl) rfl (Nat.le_of_ble_eq_true rfl))) (fun g22 => ?_)
                  refine r_aload_n (pc := 120) dX5_dish_2_120 rfl 1 rfl ?_
                  refine r_iload_n (pc := 121) dX5_dish_2_121 rfl 2 rfl ?_
                  refine r_iload (pc := 122) dX5_dish_2_122 0 rfl ?_
                  refine r_iconst (v := (1 : Int32)) (pc := 124) dX5_dish_2_124 (by decide) ?_
                  refine r_iadd (pc := 125) dX5_dish_2_125 ?_
                  refine r_iload (pc := 126) dX5_dish_2_126 5 rfl ?_
                  refine r_cV (pc := 128) (rest := []) (RunOK_chk (fun h => run_V (n := 3) (c9 := 8) (As := [.int x1, .int (((4 : Int32) + ((4 : Int32) * x2)) + (1 : Int32)), .int x4]) (rest := []) (t_X5_setsCourse γ l hl x0 x1 (((4 : Int32) + ((4 : Int32) * x2)) + (1 : Int32)) x4 g22) dX5_dish_2_128 q3519 q3521 qs65 q121 q3522 (by decide +kernel) rfl h ⟨rfl, by decide, by decide⟩ (Nat.le_of_ble_eq_true rfl) (Nat.le_of_ble_eq_true rfl) rfl (Nat.le_of_ble_eq_true rfl))) (fun g23 => ?_)
                  refine r_aload_n (pc := 131) dX5_dish_2_131 rfl 1 rfl ?_
                  refine r_iload_n (pc := 132) dX5_dish_2_132 rfl 2 rfl ?_
                  refine r_iload (pc := 133) dX5_dish_2_133 0 rfl ?_
                  refine r_iconst (v := (2 : Int32)) (pc := 135) dX5_dish_2_135 (by decide) ?_
                  refine r_iadd (pc := 136) dX5_dish_2_136 ?_
                  refine r_iconst (v := (0 : Int32)) (pc := 137) dX5_dish_2_137 (by decide) ?_
                  refine r_cV (pc := 138) (rest := []) (RunOK_chk (fun h => run_V (n := 3) (c9 := 8) (As := [.int x1, .int (((4 : Int32) + ((4 : Int32) * x2)) + (2 : Int32)), .int (0 : Int32)]) (rest := []) (t_X5_setsCourse γ l hl x0 x1 (((4 : Int32) + ((4 : Int32) * x2)) + (2 : Int32)) (0 : Int32) g23) dX5_dish_2_138 q3519 q3521 qs65 q121 q3522 (by decide +kernel) rfl h ⟨rfl, by decide, by decide⟩ (Nat.le_of_ble_eq_true rfl) (Nat.le_of_ble_eq_true rfl) rfl (Nat.le_of_ble_eq_true rfl))) (fun g24 => ?_)
                  refine r_aload_n (pc := 141) dX5_dish_2_141 rfl 1 rfl ?_
                  refine r_iload_n (pc := 142) dX5_dish_2_142 rfl 2 rfl ?_
                  refine r_iload (pc := 143) dX5_dish_2_143 0 rfl ?_
                  refine r_iconst (v := (3 : Int32)) (pc := 145) dX5_dish_2_145 (by decide) ?_
                  refine r_iadd (pc := 146) dX5_dish_2_146 ?_
                  refine r_iconst (v := (-1 : Int32)) (pc := 147) dX5_dish_2_147 (by decide) ?_
                  refine r_cV (pc := 148) (rest := []) (RunOK_chk (fun h => run_V (n := 3) (c9 := 8) (As := [.int x1, .int (((4 : Int32) + ((4 : Int32) * x2)) + (3 : Int32)), .int (-1 : Int32)]) (rest := []) (t_X5_setsCourse γ l hl x0 x1 (((4 : Int32) + ((4 : Int32) * x2)) + (3 : Int32)) (-1 : Int32) g24) dX5_dish_2_148 q3519 q3521 qs65 q121 q3522 (by decide +kernel) rfl h ⟨rfl, by decide, by decide⟩ (Nat.le_of_ble_eq_true rfl) (Nat.le_of_ble_eq_true rfl) rfl (Nat.le_of_ble_eq_true rfl))) (fun g25 => ?_)
                  refine r_aload_n (pc := 151) dX5_dish_2_151 rfl 1 rfl ?_
                  refine r_aload_n (pc := 152) dX5_dish_2_152 rfl 1 rfl ?_
                  refine r_iload_n (pc := 153) dX5_dish_2_153 rfl 2 rfl ?_
                  refine r_cI (pc := 154) (rest := [.ref x0]) (RunOK_chk (fun h => run_V (n := 1) (c9 := 8) (As := [.int x1]) (rest := [.ref x0]) (t_X5_dishes γ l hl x0 x1 g25) dX5_dish_2_154 q3535 q3537 qs68 q121 q3538 (by decide +kernel) rfl h ⟨rfl, by decide, by decide⟩ (Nat.le_of_ble_eq_true rfl) (Nat.le_of_ble_eq_true rfl) rfl (Nat.le_of_ble_eq_true rfl))) (fun v27 g26 => ?_)
                  refine r_cI (pc := 157) (rest := []) (RunOK_chk (fun h => run_V (n := 1) (c9 := 8) (As := [.int v27]) (rest := []) (t_X5_keeps γ l hl x0 v27 g26) dX5_dish_2_157 q3470 q3472 qs56 q121 q3473 (by decide +kernel) rfl h ⟨rfl, by decide, by decide⟩ (Nat.le_of_ble_eq_true rfl) (Nat.le_of_ble_eq_true rfl) rfl (Nat.le_of_ble_eq_true rfl))) (fun v29 g28 => ?_)
                  exact r_iret (pc := 160) dX5_dish_2_160 rfl
                · skip
                  refine r_aload_n (pc := 84) dX5_dish_2_84 rfl 0 rfl ?_
                  refine r_aload_n (pc := 85) dX5_dish_2_85 rfl 0 rfl ?_
                  refine r_iconst (v := (4 : Int32)) (pc := 86) dX5_dish_2_86 (by decide) ?_
                  refine r_aload_n (pc := 87) dX5_dish_2_87 rfl 0 rfl ?_
                  refine r_iload_n (pc := 88) dX5_dish_2_88 rfl 1 rfl ?_
                  refine r_iload_n (pc := 89) dX5_dish_2_89 rfl 2 rfl ?_
                  refine r_iconst (v := (0 : Int32)) (pc := 90) dX5_dish_2_90 (by decide) ?_
                  refine r_cI (pc := 91) (rest := [.int (4 : Int32), .ref x0, .ref x0]) (RunOK_chk (fun h => run_V (n := 3) (c9 := 8) (As := [.int x1, .int x2, .int (0 : Int32)]) (rest := [.int (4 : Int32), .ref x0, .ref x0]) (t_X5_dish γ l hl x0 x1 x2 (0 : Int32) g20) dX5_dish_2_91 q3507 q3509 qs63 q121 q3510 (by decide +kernel) rfl h ⟨rfl, by decide, by decide⟩ (Nat.le_of_ble_eq_true rfl) (Nat.le_of_ble_eq_true rfl) rfl (Nat.le_of_ble_eq_true rfl))) (fun v31 g30 => ?_)
                  refine r_iconst (v := (1 : Int32)) (pc := 94) dX5_dish_2_94 (by decide) ?_
                  refine r_isub (pc := 95) dX5_dish_2_95 ?_
                  refine r_cI (pc := 96) (rest := [.ref x0]) (RunOK_chk (fun h => run_V (n := 2) (c9 := 8) (As := [.int (4 : Int32), .int (v31 - (1 : Int32))]) (rest := [.ref x0]) (t_X5_refuses γ l hl x0 (4 : Int32) (v31 - (1 : Int32)) g30) dX5_dish_2_96 q3462 q3464 qs54 q121 q3465 (by decide +kernel) rfl h ⟨rfl, by decide, by decide⟩ (Nat.le_of_ble_eq_true rfl) (Nat.le_of_ble_eq_true rfl) rfl (Nat.le_of_ble_eq_true rfl))) (fun v33 g32 => ?_)
                  refine r_cI (pc := 99) (rest := []) (RunOK_chk (fun h => run_V (n := 1) (c9 := 8) (As := [.int v33]) (rest := []) (t_X5_raises γ l hl x0 v33 g32) dX5_dish_2_99 q3458 q3460 qs53 q121 q3461 (by decide +kernel) rfl h ⟨rfl, by decide, by decide⟩ (Nat.le_of_ble_eq_true rfl) (Nat.le_of_ble_eq_true rfl) rfl (Nat.le_of_ble_eq_true rfl))) (fun v35 g34 => ?_)
                  exact r_iret (pc := 102) dX5_dish_2_102 rfl
              · skip
                refine r_aload_n (pc := 60) dX5_dish_2_60 rfl 0 rfl ?_
                refine r_aload_n (pc := 61) dX5_dish_2_61 rfl 0 rfl ?_
                refine r_iconst (v := (3 : Int32)) (pc := 62) dX5_dish_2_62 (by decide) ?_
                refine r_aload_n (pc := 63) dX5_dish_2_63 rfl 0 rfl ?_
                refine r_iload_n (pc := 64) dX5_dish_2_64 rfl 1 rfl ?_
                refine r_cI (pc := 65) (rest := [.int (3 : Int32), .ref x0, .ref x0]) (RunOK_chk (fun h => run_V (n := 1) (c9 := 8) (As := [.int x1]) (rest := [.int (3 : Int32), .ref x0, .ref x0]) (t_X5_how γ l hl x0 x1 g18) dX5_dish_2_65 q3531 q3533 qs67 q121 q3534 (by decide +kernel) rfl h ⟨rfl, by decide, by decide⟩ (Nat.le_of_ble_eq_true rfl) (Nat.le_of_ble_eq_true rfl) rfl (Nat.le_of_ble_eq_true rfl))) (fun v37 g36 => ?_)
                refine r_cI (pc := 68) (rest := [.ref x0]) (RunOK_chk (fun h => run_V (n := 2) (c9 := 8) (As := [.int (3 : Int32), .int v37]) (rest := [.ref x0]) (t_X5_refuses γ l hl x0 (3 : Int32) v37 g36) dX5_dish_2_68 q3462 q3464 qs54 q121 q3465 (by decide +kernel) rfl h ⟨rfl, by decide, by decide⟩ (Nat.le_of_ble_eq_true rfl) (Nat.le_of_ble_eq_true rfl) rfl (Nat.le_of_ble_eq_true rfl))) (fun v39 g38 => ?_)
                refine r_cI (pc := 71) (rest := []) (RunOK_chk (fun h => run_V (n := 1) (c9 := 8) (As := [.int v39]) (rest := []) (t_X5_raises γ l hl x0 v39 g38) dX5_dish_2_71 q3458 q3460 qs53 q121 q3461 (by decide +kernel) rfl h ⟨rfl, by decide, by decide⟩ (Nat.le_of_ble_eq_true rfl) (Nat.le_of_ble_eq_true rfl) rfl (Nat.le_of_ble_eq_true rfl))) (fun v41 g40 => ?_)
                exact r_iret (pc := 74) dX5_dish_2_74 rfl
abbrev ck_X5_dishesThat : CK := ("BanquetVotesModel", prog_25_method_24_code, 6, (some .int), "dishesThat", [], 4)
def f_X5_dishesThat_L6 (γ : GP) (x0 : Nat) (x1 : Int32) (x2 : Int32) (x3 : Int32) : Nat → Int32 → Int32 → AH → Option (Int32 × AH)
  | 0, _, _, _ => none
  | n + 1, x4, x5, g => (if (6 : Int32) ≤ x5 then (some (x4, g)) else bI ((if hK g x0 = 8 then f_X5_isDish γ x0 x1 x5 g else none)) fun v2 g1 => (if v2 = 0 then f_X5_dishesThat_L6 γ x0 x1 x2 x3 n x4 (x5 + (1 : Int32)) g1 else bI ((if hK g1 x0 = 8 then f_X5_howDish γ x0 x1 x5 g1 else none)) fun v4 g3 => (if v4 = x2 then f_X5_dishesThat_L6 γ x0 x1 x2 x3 n (x4 + (1 : Int32)) (x5 + (1 : Int32)) g3 else bI ((if hK g3 x0 = 8 then f_X5_howDish γ x0 x1 x5 g3 else none)) fun v6 g5 => (if v6 = x3 then f_X5_dishesThat_L6 γ x0 x1 x2 x3 n (x4 + (1 : Int32)) (x5 + (1 : Int32)) g5 else f_X5_dishesThat_L6 γ x0 x1 x2 x3 n x4 (x5 + (1 : Int32)) g5))))
def f_X5_dishesThat (γ : GP) (x0 : Nat) (x1 : Int32) (x2 : Int32) (x3 : Int32) (g : AH) : Option (Int32 × AH) := f_X5_dishesThat_L6 γ x0 x1 x2 x3 FU (0 : Int32) (0 : Int32) g
theorem f_X5_dishesThat_L6_w (γ : GP) (l : Launch) (hl : l.stackTraces = false) (G0 : AH) (x0 : Nat) (x1 : Int32) (x2 : Int32) (x3 : Int32) : ∀ (n : Nat) (x4 : Int32) (x5 : Int32) (g : AH), AW ρI γ l ck_X5_dishesThat G0 6 [(0, .ref x0), (1, .int x1), (2, .int x2), (3, .int x3), (4, .int x4), (5, .int x5)] [] g (f_X5_dishesThat_L6 γ x0 x1 x2 x3 n x4 x5 g) := by
  intro n
  induction n with
  | zero => intro x4 x5 g; exact AW_none
  | succ n ih =>
    intro x4 x5 g
    unfold f_X5_dishesThat_L6
    refine r_iload (pc := 6) dX5_dishesThat_6 5 rfl ?_
    refine r_bipush (v := (6 : Int32)) (pc := 8) dX5_dishesThat_8 (by decide) ?_
    refine r_icmp_ge (tgt := 54) (pc := 10) dX5_dishesThat_10 (by decide) ?_ ?_
    · skip
      refine r_iload (pc := 54) dX5_dishesThat_54 4 rfl ?_
      exact r_iret (pc := 56) dX5_dishesThat_56 rfl
    · skip
      refine r_aload_n (pc := 13) dX5_dishesThat_13 rfl 0 rfl ?_
      refine r_iload_n (pc := 14) dX5_dishesThat_14 rfl 1 rfl ?_
      refine r_iload (pc := 15) dX5_dishesThat_15 5 rfl ?_
      refine r_cI (pc := 17) (rest := []) (RunOK_chk (fun h => run_V (n := 2) (c9 := 8) (As := [.int x1, .int x5]) (rest := []) (t_X5_isDish γ l hl x0 x1 x5 g) dX5_dishesThat_17 q3495 q3497 qs60 q121 q3498 (by decide +kernel) rfl h ⟨rfl, by decide, by decide⟩ (Nat.le_of_ble_eq_true rfl) (Nat.le_of_ble_eq_true rfl) rfl (Nat.le_of_ble_eq_true rfl))) (fun v2 g1 => ?_)
      refine r_if_eq (tgt := 48) (pc := 20) dX5_dishesThat_20 (by decide) ?_ ?_
      · skip
        refine r_iinc (j := 5) (v := (x5 + (1 : Int32))) (pc := 48) dX5_dishesThat_48 rfl rfl (Nat.le_of_ble_eq_true rfl) rfl ?_
        refine r_goto (tgt := 6) (pc := 51) dX5_dishesThat_51 (by decide) ?_
        refine AW_sub [1, 2, 3, 4, 5, 0] rfl ?_
        exact ih x4 (x5 + (1 : Int32)) g1
      · skip
        refine r_aload_n (pc := 23) dX5_dishesThat_23 rfl 0 rfl ?_
        refine r_iload_n (pc := 24) dX5_dishesThat_24 rfl 1 rfl ?_
        refine r_iload (pc := 25) dX5_dishesThat_25 5 rfl ?_
        refine r_cI (pc := 27) (rest := []) (RunOK_chk (fun h => run_V (n := 2) (c9 := 8) (As := [.int x1, .int x5]) (rest := []) (t_X5_howDish γ l hl x0 x1 x5 g1) dX5_dishesThat_27 q3503 q3505 qs62 q121 q3506 (by decide +kernel) rfl h ⟨rfl, by decide, by decide⟩ (Nat.le_of_ble_eq_true rfl) (Nat.le_of_ble_eq_true rfl) rfl (Nat.le_of_ble_eq_true rfl))) (fun v4 g3 => ?_)
        refine r_iload_n (pc := 30) dX5_dishesThat_30 rfl 2 rfl ?_
        refine r_icmp_eq (tgt := 45) (pc := 31) dX5_dishesThat_31 (by decide) ?_ ?_
        · skip
          refine r_iinc (j := 4) (v := (x4 + (1 : Int32))) (pc := 45) dX5_dishesThat_45 rfl rfl (Nat.le_of_ble_eq_true rfl) rfl ?_
          refine r_iinc (j := 5) (v := (x5 + (1 : Int32))) (pc := 48) dX5_dishesThat_48 rfl rfl (Nat.le_of_ble_eq_true rfl) rfl ?_
          refine r_goto (tgt := 6) (pc := 51) dX5_dishesThat_51 (by decide) ?_
          refine AW_sub [2, 3, 4, 5, 1, 0] rfl ?_
          exact ih (x4 + (1 : Int32)) (x5 + (1 : Int32)) g3
        · skip
          refine r_aload_n (pc := 34) dX5_dishesThat_34 rfl 0 rfl ?_
          refine r_iload_n (pc := 35) dX5_dishesThat_35 rfl 1 rfl ?_
          refine r_iload (pc := 36) dX5_dishesThat_36 5 rfl ?_
          refine r_cI (pc := 38) (rest := []) (RunOK_chk (fun h => run_V (n := 2) (c9 := 8) (As := [.int x1, .int x5]) (rest := []) (t_X5_howDish γ l hl x0 x1 x5 g3) dX5_dishesThat_38 q3503 q3505 qs62 q121 q3506 (by decide +kernel) rfl h ⟨rfl, by decide, by decide⟩ (Nat.le_of_ble_eq_true rfl) (Nat.le_of_ble_eq_true rfl) rfl (Nat.le_of_ble_eq_true rfl))) (fun v6 g5 => ?_)
          refine r_iload_n (pc := 41) dX5_dishesThat_41 rfl 3 rfl ?_
          refine r_icmp_ne (tgt := 48) (pc := 42) dX5_dishesThat_42 (by decide) ?_ ?_
          · skip
            refine r_iinc (j := 4) (v := (x4 + (1 : Int32))) (pc := 45) dX5_dishesThat_45 rfl rfl (Nat.le_of_ble_eq_true rfl) rfl ?_
            refine r_iinc (j := 5) (v := (x5 + (1 : Int32))) (pc := 48) dX5_dishesThat_48 rfl rfl (Nat.le_of_ble_eq_true rfl) rfl ?_
            refine r_goto (tgt := 6) (pc := 51) dX5_dishesThat_51 (by decide) ?_
            refine AW_sub [2, 3, 4, 5, 1, 0] rfl ?_
            exact ih (x4 + (1 : Int32)) (x5 + (1 : Int32)) g5
          · skip
            refine r_iinc (j := 5) (v := (x5 + (1 : Int32))) (pc := 48) dX5_dishesThat_48 rfl rfl (Nat.le_of_ble_eq_true rfl) rfl ?_
            refine r_goto (tgt := 6) (pc := 51) dX5_dishesThat_51 (by decide) ?_
            refine AW_sub [1, 2, 3, 4, 5, 0] rfl ?_
            exact ih x4 (x5 + (1 : Int32)) g5
theorem t_X5_dishesThat (γ : GP) (l : Launch) (hl : l.stackTraces = false) (x0 : Nat) (x1 : Int32) (x2 : Int32) (x3 : Int32) (g : AH) : TrM ρI γ l ⟨"BanquetVotesModel", "dishesThat", "(III)I"⟩ (ws_ ⟨"BanquetVotesModel", "dishesThat", "(III)I"⟩ prog_25_method_24_code 6 (some .int)) 4 [.ref x0, .int x1, .int x2, .int x3] g (f_X5_dishesThat γ x0 x1 x2 x3 g) := by
  refine TrM_of (plainFor_of_name (by decide)) (Nat.le_of_ble_eq_true rfl) ?_
  unfold f_X5_dishesThat
  change AW ρI γ l ck_X5_dishesThat g 0 [(0, .ref x0), (1, .int x1), (2, .int x2), (3, .int x3)] [] g _
  refine r_iconst (v := (0 : Int32)) (pc := 0) dX5_dishesThat_0 (by decide) ?_
  refine r_istore (pc := 1) dX5_dishesThat_1 (Nat.le_of_ble_eq_true rfl) rfl ?_
  refine r_iconst (v := (0 : Int32)) (pc := 3) dX5_dishesThat_3 (by decide) ?_
  refine r_istore (pc := 4) dX5_dishesThat_4 (Nat.le_of_ble_eq_true rfl) rfl ?_
  refine AW_sub [2, 3, 4, 5, 1, 0] rfl ?_
  refine f_X5_dishesThat_L6_w γ l hl _ x0 x1 x2 x3 FU (0 : Int32) (0 : Int32) g
abbrev ck_X5_courseOf : CK := ("BanquetVotesModel", prog_25_method_46_code, 3, (some .int), "courseOf", [], 5)
def f_X5_courseOf (γ : GP) (x0 : Nat) (x1 : Int32) (x2 : Int32) (g : AH) : Option (Int32 × AH) := pI γ g x0 50 (0 : Int32) fun g1 => bI ((if hK g1 x0 = 8 then f_X5_isCourse γ x0 x1 g1 else none)) fun v3 g2 => (if v3 = 0 then bI ((if hK g2 x0 = 8 then f_X5_raises γ x0 (1 : Int32) g2 else none)) fun v5 g4 => (some (v5, g4)) else (if x2 = (0 : Int32) then bI ((if hK g2 x0 = 8 then f_X5_how γ x0 x1 g2 else none)) fun v7 g6 => (some (v7, g6)) else (if x2 = (1 : Int32) then bI ((if hK g2 x0 = 8 then f_X5_dishes γ x0 x1 g2 else none)) fun v9 g8 => (some (v9, g8)) else (if x2 = (2 : Int32) then bI ((if hK g2 x0 = 8 then f_X5_dishesThat γ x0 x1 (1 : Int32) (1 : Int32) g2 else none)) fun v11 g10 => (some (v11, g10)) else (if x2 = (3 : Int32) then bI ((if hK g2 x0 = 8 then f_X5_dishesThat γ x0 x1 (3 : Int32) (3 : Int32) g2 else none)) fun v13 g12 => (some (v13, g12)) else (if x2 = (4 : Int32) then bI ((if hK g2 x0 = 8 then f_X5_dishesThat γ x0 x1 (2 : Int32) (4 : Int32) g2 else none)) fun v15 g14 => (some (v15, g14)) else (if x2 = (5 : Int32) then bI ((if hK g2 x0 = 8 then f_X5_course γ x0 x1 (x2 - (4 : Int32)) g2 else none)) fun v17 g16 => (some (v17, g16)) else (if x2 = (6 : Int32) then bI ((if hK g2 x0 = 8 then f_X5_course γ x0 x1 (x2 - (4 : Int32)) g2 else none)) fun v19 g18 => (some (v19, g18)) else (if x2 = (7 : Int32) then bI ((if hK g2 x0 = 8 then f_X5_course γ x0 x1 (3 : Int32) g2 else none)) fun v21 g20 => (some (v21, g20)) else bI ((if hK g2 x0 = 8 then f_X5_raises γ x0 (2 : Int32) g2 else none)) fun v23 g22 => (some (v23, g22)))))))))))
theorem t_X5_courseOf (γ : GP) (l : Launch) (hl : l.stackTraces = false) (x0 : Nat) (x1 : Int32) (x2 : Int32) (g : AH) : TrM ρI γ l ⟨"BanquetVotesModel", "courseOf", "(II)I"⟩ (ws_ ⟨"BanquetVotesModel", "courseOf", "(II)I"⟩ prog_25_method_46_code 3 (some .int)) 5 [.ref x0, .int x1, .int x2] g (f_X5_courseOf γ x0 x1 x2 g) := by
  refine TrM_of (plainFor_of_name (by decide)) (Nat.le_of_ble_eq_true rfl) ?_
  unfold f_X5_courseOf
  change AW ρI γ l ck_X5_courseOf g 0 [(0, .ref x0), (1, .int x1), (2, .int x2)] [] g _
  refine r_aload_n (pc := 0) dX5_courseOf_0 rfl 0 rfl ?_
  refine r_iconst (v := (0 : Int32)) (pc := 1) dX5_courseOf_1 (by decide) ?_
  refine r_putI (f := 50) (pc := 2) dX5_courseOf_2 q3398 (Or.inl rfl) (Or.inl rfl) rfl (fun g1 => ?_)
  refine r_aload_n (pc := 5) dX5_courseOf_5 rfl 0 rfl ?_
  refine r_iload_n (pc := 6) dX5_courseOf_6 rfl 1 rfl ?_
  refine r_cI (pc := 7) (rest := []) (RunOK_chk (fun h => run_V (n := 1) (c9 := 8) (As := [.int x1]) (rest := []) (t_X5_isCourse γ l hl x0 x1 g1) dX5_courseOf_7 q3527 q3529 qs66 q121 q3530 (by decide +kernel) rfl h ⟨rfl, by decide, by decide⟩ (Nat.le_of_ble_eq_true rfl) (Nat.le_of_ble_eq_true rfl) rfl (Nat.le_of_ble_eq_true rfl))) (fun v3 g2 => ?_)
  refine r_if_ne (tgt := 19) (pc := 10) dX5_courseOf_10 (by decide) ?_ ?_
  · skip
    refine r_aload_n (pc := 13) dX5_courseOf_13 rfl 0 rfl ?_
    refine r_iconst (v := (1 : Int32)) (pc := 14) dX5_courseOf_14 (by decide) ?_
    refine r_cI (pc := 15) (rest := []) (RunOK_chk (fun h => run_V (n := 1) (c9 := 8) (As := [.int (1 : Int32)]) (rest := []) (t_X5_raises γ l hl x0 (1 : Int32) g2) dX5_courseOf_15 q3458 q3460 qs53 q121 q3461 (by decide +kernel) rfl h ⟨rfl, by decide, by decide⟩ (Nat.le_of_ble_eq_true rfl) (Nat.le_of_ble_eq_true rfl) rfl (Nat.le_of_ble_eq_true rfl))) (fun v5 g4 => ?_)
    exact r_iret (pc := 18) dX5_courseOf_18 rfl
  · skip
    refine r_iload_n (pc := 19) dX5_courseOf_19 rfl 2 rfl ?_
    refine r_tabC (v := (0 : Int32)) (tgt := 68) (pc := 20) dX5_courseOf_20 (by decide) (by decide) rfl (by decide) ?_ (fun c0 => ?_)
    · skip
      refine r_aload_n (pc := 68) dX5_courseOf_68 rfl 0 rfl ?_
      refine r_iload_n (pc := 69) dX5_courseOf_69 rfl 1 rfl ?_
      refine r_cI (pc := 70) (rest := []) (RunOK_chk (fun h => run_V (n := 1) (c9 := 8) (As := [.int x1]) (rest := []) (t_X5_how γ l hl x0 x1 g2) dX5_courseOf_70 q3531 q3533 qs67 q121 q3534 (by decide +kernel) rfl h ⟨rfl, by decide, by decide⟩ (Nat.le_of_ble_eq_true rfl) (Nat.le_of_ble_eq_true rfl) rfl (Nat.le_of_ble_eq_true rfl))) (fun v7 g6 => ?_)
      exact r_iret (pc := 73) dX5_courseOf_73 rfl
    · skip
      refine r_tabC (v := (1 : Int32)) (tgt := 74) (pc := 20) dX5_courseOf_20 (by decide) (by decide) rfl (by decide) ?_ (fun c1 => ?_)
      · skip
        refine r_aload_n (pc := 74) dX5_courseOf_74 rfl 0 rfl ?_
        refine r_iload_n (pc := 75) dX5_courseOf_75 rfl 1 rfl ?_
        refine r_cI (pc := 76) (rest := []) (RunOK_chk (fun h => run_V (n := 1) (c9 := 8) (As := [.int x1]) (rest := []) (t_X5_dishes γ l hl x0 x1 g2) dX5_courseOf_76 q3535 q3537 qs68 q121 q3538 (by decide +kernel) rfl h ⟨rfl, by decide, by decide⟩ (Nat.le_of_ble_eq_true rfl) (Nat.le_of_ble_eq_true rfl) rfl (Nat.le_of_ble_eq_true rfl))) (fun v9 g8 => ?_)
        exact r_iret (pc := 79) dX5_courseOf_79 rfl
      · skip
        refine r_tabC (v := (2 : Int32)) (tgt := 80) (pc := 20) dX5_courseOf_20 (by decide) (by decide) rfl (by decide) ?_ (fun c2 => ?_)
        · skip
          refine r_aload_n (pc := 80) dX5_courseOf_80 rfl 0 rfl ?_
          refine r_iload_n (pc := 81) dX5_courseOf_81 rfl 1 rfl ?_
          refine r_iconst (v := (1 : Int32)) (pc := 82) dX5_courseOf_82 (by decide) ?_
          refine r_iconst (v := (1 : Int32)) (pc := 83) dX5_courseOf_83 (by decide) ?_
          refine r_cI (pc := 84) (rest := []) (RunOK_chk (fun h => run_V (n := 3) (c9 := 8) (As := [.int x1, .int (1 : Int32), .int (1 : Int32)]) (rest := []) (t_X5_dishesThat γ l hl x0 x1 (1 : Int32) (1 : Int32) g2) dX5_courseOf_84 q3543 q3545 qs69 q121 q3546 (by decide +kernel) rfl h ⟨rfl, by decide, by decide⟩ (Nat.le_of_ble_eq_true rfl) (Nat.le_of_ble_eq_true rfl) rfl (Nat.le_of_ble_eq_true rfl))) (fun v11 g10 => ?_)
          exact r_iret (pc := 87) dX5_courseOf_87 rfl
        · skip
          refine r_tabC (v := (3 : Int32)) (tgt := 88) (pc := 20) dX5_courseOf_20 (by decide) (by decide) rfl (by decide) ?_ (fun c3 => ?_)
          · skip
            refine r_aload_n (pc := 88) dX5_courseOf_88 rfl 0 rfl ?_
            refine r_iload_n (pc := 89) dX5_courseOf_89 rfl 1 rfl ?_
            refine r_iconst (v := (3 : Int32)) (pc := 90) dX5_courseOf_90 (by decide) ?_
            refine r_iconst (v := (3 : Int32)) (pc := 91) dX5_courseOf_91 (by decide) ?_
            refine r_cI (pc := 92) (rest := []) (RunOK_chk (fun h => run_V (n := 3) (c9 := 8) (As := [.int x1, .int (3 : Int32), .int (3 : Int32)]) (rest := []) (t_X5_dishesThat γ l hl x0 x1 (3 : Int32) (3 : Int32) g2) dX5_courseOf_92 q3543 q3545 qs69 q121 q3546 (by decide +kernel) rfl h ⟨rfl, by decide, by decide⟩ (Nat.le_of_ble_eq_true rfl) (Nat.le_of_ble_eq_true rfl) rfl (Nat.le_of_ble_eq_true rfl))) (fun v13 g12 => ?_)
            exact r_iret (pc := 95) dX5_courseOf_95 rfl
          · skip
            refine r_tabC (v := (4 : Int32)) (tgt := 96) (pc := 20) dX5_courseOf_20 (by decide) (by decide) rfl (by decide) ?_ (fun c4 => ?_)
            · skip
              refine r_aload_n (pc := 96) dX5_courseOf_96 rfl 0 rfl ?_
              refine r_iload_n (pc := 97) dX5_courseOf_97 rfl 1 rfl ?_
              refine r_iconst (v := (2 : Int32)) (pc := 98) dX5_courseOf_98 (by decide) ?_
              refine r_iconst (v := (4 : Int32)) (pc := 99) dX5_courseOf_99 (by decide) ?_
              refine r_cI (pc := 100) (rest := []) (RunOK_chk (fun h => run_V (n := 3) (c9 := 8) (As := [.int x1, .int (2 : Int32), .int (4 : Int32)]) (rest := []) (t_X5_dishesThat γ l hl x0 x1 (2 : Int32) (4 : Int32) g2) dX5_courseOf_100 q3543 q3545 qs69 q121 q3546 (by decide +kernel) rfl h ⟨rfl, by decide, by decide⟩ (Nat.le_of_ble_eq_true rfl) (Nat.le_of_ble_eq_true rfl) rfl (Nat.le_of_ble_eq_true rfl))) (fun v15 g14 => ?_)
              exact r_iret (pc := 103) dX5_courseOf_103 rfl
            · skip
              refine r_tabC (v := (5 : Int32)) (tgt := 104) (pc := 20) dX5_courseOf_20 (by decide) (by decide) rfl (by decide) ?_ (fun c5 => ?_)
              · skip
                refine r_aload_n (pc := 104) dX5_courseOf_104 rfl 0 rfl ?_
                refine r_iload_n (pc := 105) dX5_courseOf_105 rfl 1 rfl ?_
                refine r_iload_n (pc := 106) dX5_courseOf_106 rfl 2 rfl ?_
                refine r_iconst (v := (4 : Int32)) (pc := 107) dX5_courseOf_107 (by decide) ?_
                refine r_isub (pc := 108) dX5_courseOf_108 ?_
                refine r_cI (pc := 109) (rest := []) (RunOK_chk (fun h => run_V (n := 2) (c9 := 8) (As := [.int x1, .int (x2 - (4 : Int32))]) (rest := []) (t_X5_course γ l hl x0 x1 (x2 - (4 : Int32)) g2) dX5_courseOf_109 q3499 q3501 qs61 q121 q3502 (by decide +kernel) rfl h ⟨rfl, by decide, by decide⟩ (Nat.le_of_ble_eq_true rfl) (Nat.le_of_ble_eq_true rfl) rfl (Nat.le_of_ble_eq_true rfl))) (fun v17 g16 => ?_)
                exact r_iret (pc := 112) dX5_courseOf_112 rfl
              · skip
                refine r_tabC (v := (6 : Int32)) (tgt := 104) (pc := 20) dX5_courseOf_20 (by decide) (by decide) rfl (by decide) ?_ (fun c6 => ?_)
                · skip
                  refine r_aload_n (pc := 104) dX5_courseOf_104 rfl 0 rfl ?_
                  refine r_iload_n (pc := 105) dX5_courseOf_105 rfl 1 rfl ?_
                  refine r_iload_n (pc := 106) dX5_courseOf_106 rfl 2 rfl ?_
                  refine r_iconst (v := (4 : Int32)) (pc := 107) dX5_courseOf_107 (by decide) ?_
                  refine r_isub (pc := 108) dX5_courseOf_108 ?_
                  refine r_cI (pc := 109) (rest := []) (RunOK_chk (fun h => run_V (n := 2) (c9 := 8) (As := [.int x1, .int (x2 - (4 : Int32))]) (rest := []) (t_X5_course γ l hl x0 x1 (x2 - (4 : Int32)) g2) dX5_courseOf_109 q3499 q3501 qs61 q121 q3502 (by decide +kernel) rfl h ⟨rfl, by decide, by decide⟩ (Nat.le_of_ble_eq_true rfl) (Nat.le_of_ble_eq_true rfl) rfl (Nat.le_of_ble_eq_true rfl))) (fun v19 g18 => ?_)
                  exact r_iret (pc := 112) dX5_courseOf_112 rfl
                · skip
                  refine r_tabC (v := (7 : Int32)) (tgt := 113) (pc := 20) dX5_courseOf_20 (by decide) (by decide) rfl (by decide) ?_ (fun c7 => ?_)
                  · skip
                    refine r_aload_n (pc := 113) dX5_courseOf_113 rfl 0 rfl ?_
                    refine r_iload_n (pc := 114) dX5_courseOf_114 rfl 1 rfl ?_
                    refine r_iconst (v := (3 : Int32)) (pc := 115) dX5_courseOf_115 (by decide) ?_
                    refine r_cI (pc := 116) (rest := []) (RunOK_chk (fun h => run_V (n := 2) (c9 := 8) (As := [.int x1, .int (3 : Int32)]) (rest := []) (t_X5_course γ l hl x0 x1 (3 : Int32) g2) dX5_courseOf_116 q3499 q3501 qs61 q121 q3502 (by decide +kernel) rfl h ⟨rfl, by decide, by decide⟩ (Nat.le_of_ble_eq_true rfl) (Nat.le_of_ble_eq_true rfl) rfl (Nat.le_of_ble_eq_true rfl))) (fun v21 g20 => ?_)
                    exact r_iret (pc := 119) dX5_courseOf_119 rfl
                  · skip
                    refine r_tabD (tgt := 120) (pc := 20) dX5_courseOf_20 (by have e0 := lv_neT c0 (a := 0) rfl; have e1 := lv_neT c1 (a := 1) rfl; have e2 := lv_neT c2 (a := 2) rfl; have e3 := lv_neT c3 (a := 3) rfl; have e4 := lv_neT c4 (a := 4) rfl; have e5 := lv_neT c5 (a := 5) rfl; have e6 := lv_neT c6 (a := 6) rfl; have e7 := lv_neT c7 (a := 7) rfl; omega) (by decide) ?_
                    refine r_aload_n (pc := 120) dX5_courseOf_120 rfl 0 rfl ?_
                    refine r_iconst (v := (2 : Int32)) (pc := 121) dX5_courseOf_121 (by decide) ?_
                    refine r_cI (pc := 122) (rest := []) (RunOK_chk (fun h => run_V (n := 1) (c9 := 8) (As := [.int (2 : Int32)]) (rest := []) (t_X5_raises γ l hl x0 (2 : Int32) g2) dX5_courseOf_122 q3458 q3460 qs53 q121 q3461 (by decide +kernel) rfl h ⟨rfl, by decide, by decide⟩ (Nat.le_of_ble_eq_true rfl) (Nat.le_of_ble_eq_true rfl) rfl (Nat.le_of_ble_eq_true rfl))) (fun v23 g22 => ?_)
                    exact r_iret (pc := 125) dX5_courseOf_125 rfl
abbrev ck_X5_dishOf : CK := ("BanquetVotesModel", prog_25_method_47_code, 4, (some .int), "dishOf", [], 3)
def f_X5_dishOf (γ : GP) (x0 : Nat) (x1 : Int32) (x2 : Int32) (x3 : Int32) (g : AH) : Option (Int32 × AH) := pI γ g x0 50 (0 : Int32) fun g1 => bI ((if hK g1 x0 = 8 then f_X5_isCourse γ x0 x1 g1 else none)) fun v3 g2 => jn (fun (g4 : AH) => bI ((if hK g4 x0 = 8 then f_X5_raises γ x0 (1 : Int32) g4 else none)) fun v7 g6 => (some (v7, g6))) (fun (j5 : AH → Option (Int32 × AH)) => (if v3 = 0 then j5 g2 else bI ((if hK g2 x0 = 8 then f_X5_isCook γ x0 x2 g2 else none)) fun v9 g8 => (if v9 = 0 then j5 g8 else bI (f_X5_in γ x3 (0 : Int32) (3 : Int32) g8) fun v11 g10 => (if v11 = 0 then bI ((if hK g10 x0 = 8 then f_X5_raises γ x0 (2 : Int32) g10 else none)) fun v13 g12 => (some (v13, g12)) else bI ((if hK g10 x0 = 8 then f_X5_isDish γ x0 x1 x2 g10 else none)) fun v15 g14 => (if v15 = 0 then bI ((if hK g14 x0 = 8 then f_X5_raises γ x0 (3 : Int32) g14 else none)) fun v17 g16 => (some (v17, g16)) else (if x3 = 0 then bI ((if hK g14 x0 = 8 then f_X5_dish γ x0 x1 x2 (0 : Int32) g14 else none)) fun v19 g18 => (some ((v19 - (1 : Int32)), g18)) else bI ((if hK g14 x0 = 8 then f_X5_dish γ x0 x1 x2 x3 g14 else none)) fun v21 g20 => (some (v21, g20))))))))
theorem t_X5_dishOf (γ : GP) (l : Launch) (hl : l.stackTraces = false) (x0 : Nat) (x1 : Int32) (x2 : Int32) (x3 : Int32) (g : AH) : TrM ρI γ l ⟨"BanquetVotesModel", "dishOf", "(III)I"⟩ (ws_ ⟨"BanquetVotesModel", "dishOf", "(III)I"⟩ prog_25_method_47_code 4 (some .int)) 3 [.ref x0, .int x1, .int x2, .int x3] g (f_X5_dishOf γ x0 x1 x2 x3 g) := by
  refine TrM_of (plainFor_of_name (by decide)) (Nat.le_of_ble_eq_true rfl) ?_
  unfold f_X5_dishOf
  change AW ρI γ l ck_X5_dishOf g 0 [(0, .ref x0), (1, .int x1), (2, .int x2), (3, .int x3)] [] g _
  refine r_aload_n (pc := 0) dX5_dishOf_0 rfl 0 rfl ?_
  refine r_iconst (v := (0 : Int32)) (pc := 1) dX5_dishOf_1 (by decide) ?_
  refine r_putI (f := 50) (pc := 2) dX5_dishOf_2 q3398 (Or.inl rfl) (Or.inl rfl) rfl (fun g1 => ?_)
  refine r_aload_n (pc := 5) dX5_dishOf_5 rfl 0 rfl ?_
  refine r_iload_n (pc := 6) dX5_dishOf_6 rfl 1 rfl ?_
  refine r_cI (pc := 7) (rest := []) (RunOK_chk (fun h => run_V (n := 1) (c9 := 8) (As := [.int x1]) (rest := []) (t_X5_isCourse γ l hl x0 x1 g1) dX5_dishOf_7 q3527 q3529 qs66 q121 q3530 (by decide +kernel) rfl h ⟨rfl, by decide, by decide⟩ (Nat.le_of_ble_eq_true rfl) (Nat.le_of_ble_eq_true rfl) rfl (Nat.le_of_ble_eq_true rfl))) (fun v3 g2 => ?_)
  refine AW_jn (P := fun (j : AH → Option (Int32 × AH)) => ∀ (g4 : AH), AW ρI γ l ck_X5_dishOf g 21 [(0, .ref x0)] [] g4 (j g4)) (fun g4 => ?_) (fun j5 h_j5 => ?_)
  · skip
    refine r_aload_n (pc := 21) dX5_dishOf_21 rfl 0 rfl ?_
    refine r_iconst (v := (1 : Int32)) (pc := 22) dX5_dishOf_22 (by decide) ?_
    refine r_cI (pc := 23) (rest := []) (RunOK_chk (fun h => run_V (n := 1) (c9 := 8) (As := [.int (1 : Int32)]) (rest := []) (t_X5_raises γ l hl x0 (1 : Int32) g4) dX5_dishOf_23 q3458 q3460 qs53 q121 q3461 (by decide +kernel) rfl h ⟨rfl, by decide, by decide⟩ (Nat.le_of_ble_eq_true rfl) (Nat.le_of_ble_eq_true rfl) rfl (Nat.le_of_ble_eq_true rfl))) (fun v7 g6 => ?_)
    exact r_iret (pc := 26) dX5_dishOf_26 rfl
  · skip
    refine r_if_eq (tgt := 21) (pc := 10) dX5_dishOf_10 (by decide) ?_ ?_
    · skip
      refine AW_sub [0] rfl ?_
      exact h_j5 g2
    · skip
      refine r_aload_n (pc := 13) dX5_dishOf_13 rfl 0 rfl ?_
      refine r_iload_n (pc := 14) dX5_dishOf_14 rfl 2 rfl ?_
      refine r_cI (pc := 15) (rest := []) (RunOK_chk (fun h => run_V (n := 1) (c9 := 8) (As := [.int x2]) (rest := []) (t_X5_isCook γ l hl x0 x2 g2) dX5_dishOf_15 q3479 q3481 qs57 q121 q3482 (by decide +kernel) rfl h ⟨rfl, by decide, by decide⟩ (Nat.le_of_ble_eq_true rfl) (Nat.le_of_ble_eq_true rfl) rfl (Nat.le_of_ble_eq_true rfl))) (fun v9 g8 => ?_)
      refine r_if_ne (tgt := 27) (pc := 18) dX5_dishOf_18 (by decide) ?_ ?_
      · skip
        refine AW_sub [0] rfl ?_
        exact h_j5 g8
      · skip
        refine r_iload_n (pc := 27) dX5_dishOf_27 rfl 3 rfl ?_
        refine r_iconst (v := (0 : Int32)) (pc := 28) dX5_dishOf_28 (by decide) ?_
        refine r_iconst (v := (3 : Int32)) (pc := 29) dX5_dishOf_29 (by decide) ?_
        refine r_cI (pc := 30) (rest := []) (run_S (n := 3) (As := [.int x3, .int (0 : Int32), .int (3 : Int32)]) (rest := []) (t_X5_in γ l hl x3 (0 : Int32) (3 : Int32) g8) dX5_dishOf_30 q3455 q3456 q121 q3457 (by decide +kernel) rfl (Nat.le_of_ble_eq_true rfl) (Nat.le_of_ble_eq_true rfl) rfl (Nat.le_of_ble_eq_true rfl)) (fun v11 g10 => ?_)
        refine r_if_ne (tgt := 42) (pc := 33) dX5_dishOf_33 (by decide) ?_ ?_
        · skip
          refine r_aload_n (pc := 36) dX5_dishOf_36 rfl 0 rfl ?_
          refine r_iconst (v := (2 : Int32)) (pc := 37) dX5_dishOf_37 (by decide) ?_
          refine r_cI (pc := 38) (rest := []) (RunOK_chk (fun h => run_V (n := 1) (c9 := 8) (As := [.int (2 : Int32)]) (rest := []) (t_X5_raises γ l hl x0 (2 : Int32) g10) dX5_dishOf_38 q3458 q3460 qs53 q121 q3461 (by decide +kernel) rfl h ⟨rfl, by decide, by decide⟩ (Nat.le_of_ble_eq_true rfl) (Nat.le_of_ble_eq_true rfl) rfl (Nat.le_of_ble_eq_true rfl))) (fun v13 g12 => ?_)
          exact r_iret (pc := 41) dX5_dishOf_41 rfl
        · skip
          refine r_aload_n (pc := 42) dX5_dishOf_42 rfl 0 rfl ?_
          refine r_iload_n (pc := 43) dX5_dishOf_43 rfl 1 rfl ?_
          refine r_iload_n (pc := 44) dX5_dishOf_44 rfl 2 rfl ?_
          refine r_cI (pc := 45) (rest := []) (RunOK_chk (fun h => run_V (n := 2) (c9 := 8) (As := [.int x1, .int x2]) (rest := []) (t_X5_isDish γ l hl x0 x1 x2 g10) dX5_dishOf_45 q3495 q3497 qs60 q121 q3498 (by decide +kernel) rfl h ⟨rfl, by decide, by decide⟩ (Nat.le_of_ble_eq_true rfl) (Nat.le_of_ble_eq_true rfl) rfl (Nat.le_of_ble_eq_true rfl))) (fun v15 g14 => ?_)
          refine r_if_ne (tgt := 57) (pc := 48) dX5_dishOf_48 (by decide) ?_ ?_
          · skip
            refine r_aload_n (pc := 51) dX5_dishOf_51 rfl 0 rfl ?_
            refine r_iconst (v := (3 : Int32)) (pc := 52) dX5_dishOf_52 (by decide) ?_
            refine r_cI (pc := 53) (rest := []) (RunOK_chk (fun h => run_V (n := 1) (c9 := 8) (As := [.int (3 : Int32)]) (rest := []) (t_X5_raises γ l hl x0 (3 : Int32) g14) dX5_dishOf_53 q3458 q3460 qs53 q121 q3461 (by decide +kernel) rfl h ⟨rfl, by decide, by decide⟩ (Nat.le_of_ble_eq_true rfl) (Nat.le_of_ble_eq_true rfl) rfl (Nat.le_of_ble_eq_true rfl))) (fun v17 g16 => ?_)
            exact r_iret (pc := 56) dX5_dishOf_56 rfl
          · skip
            refine r_iload_n (pc := 57) dX5_dishOf_57 rfl 3 rfl ?_
            refine r_if_ne (tgt := 73) (pc := 58) dX5_dishOf_58 (by decide) ?_ ?_
            · skip
              refine r_aload_n (pc := 61) dX5_dishOf_61 rfl 0 rfl ?_
              refine r_iload_n (pc := 62) dX5_dishOf_62 rfl 1 rfl ?_
              refine r_iload_n (pc := 63) dX5_dishOf_63 rfl 2 rfl ?_
              refine r_iconst (v := (0 : Int32)) (pc := 64) dX5_dishOf_64 (by decide) ?_
              refine r_cI (pc := 65) (rest := []) (RunOK_chk (fun h => run_V (n := 3) (c9 := 8) (As := [.int x1, .int x2, .int (0 : Int32)]) (rest := []) (t_X5_dish γ l hl x0 x1 x2 (0 : Int32) g14) dX5_dishOf_65 q3507 q3509 qs63 q121 q3510 (by decide +kernel) rfl h ⟨rfl, by decide, by decide⟩ (Nat.le_of_ble_eq_true rfl) (Nat.le_of_ble_eq_true rfl) rfl (Nat.le_of_ble_eq_true rfl))) (fun v19 g18 => ?_)
              refine r_iconst (v := (1 : Int32)) (pc := 68) dX5_dishOf_68 (by decide) ?_
              refine r_isub (pc := 69) dX5_dishOf_69 ?_
              refine r_goto (tgt := 80) (pc := 70) dX5_dishOf_70 (by decide) ?_
              exact r_iret (pc := 80) dX5_dishOf_80 rfl
            · skip
              refine r_aload_n (pc := 73) dX5_dishOf_73 rfl 0 rfl ?_
              refine r_iload_n (pc := 74) dX5_dishOf_74 rfl 1 rfl ?_
              refine r_iload_n (pc := 75) dX5_dishOf_75 rfl 2 rfl ?_
              refine r_iload_n (pc := 76) dX5_dishOf_76 rfl 3 rfl ?_
              refine r_cI (pc := 77) (rest := []) (RunOK_chk (fun h => run_V (n := 3) (c9 := 8) (As := [.int x1, .int x2, .int x3]) (rest := []) (t_X5_dish γ l hl x0 x1 x2 x3 g14) dX5_dishOf_77 q3507 q3509 qs63 q121 q3510 (by decide +kernel) rfl h ⟨rfl, by decide, by decide⟩ (Nat.le_of_ble_eq_true rfl) (Nat.le_of_ble_eq_true rfl) rfl (Nat.le_of_ble_eq_true rfl))) (fun v21 g20 => ?_)
              exact r_iret (pc := 80) dX5_dishOf_80 rfl
abbrev ck_X5_free : CK := ("BanquetVotesModel", prog_25_method_32_code, 5, (some .int), "free", [], 4)
def f_X5_free_L12 (γ : GP) (x0 : Nat) (x1 : Int32) (x2 : Int32) : Nat → Int32 → Int32 → AH → Option (Int32 × AH)
  | 0, _, _, _ => none
  | n + 1, x3, x4, g => gR g x0 30 fun v3 => gA g 101 v3 (2 : Int32) fun v4 => (if v4 ≤ x4 then (some (x3, g)) else bI ((if hK g x0 = 8 then f_X5_isDish γ x0 x4 x1 g else none)) fun v6 g5 => (if v6 = 0 then f_X5_free_L12 γ x0 x1 x2 n x3 (x4 + (1 : Int32)) g5 else bI ((if hK g5 x0 = 8 then f_X5_howDish γ x0 x4 x1 g5 else none)) fun v8 g7 => (if v8 = (1 : Int32) then bI ((if hK g7 x0 = 8 then f_X5_dish γ x0 x4 x1 (0 : Int32) g7 else none)) fun v10 g9 => (if v10 = (x2 + (1 : Int32)) then bI ((if hK g9 x0 = 8 then f_X5_dish γ x0 x4 x1 (1 : Int32) g9 else none)) fun v12 g11 => f_X5_free_L12 γ x0 x1 x2 n (x3 - v12) (x4 + (1 : Int32)) g11 else f_X5_free_L12 γ x0 x1 x2 n x3 (x4 + (1 : Int32)) g9) else f_X5_free_L12 γ x0 x1 x2 n x3 (x4 + (1 : Int32)) g7)))
def f_X5_free (γ : GP) (x0 : Nat) (x1 : Int32) (x2 : Int32) (g : AH) : Option (Int32 × AH) := bI ((if hK g x0 = 8 then f_X5_cook_2 γ x0 x1 ((3 : Int32) + x2) g else none)) fun v2 g1 => f_X5_free_L12 γ x0 x1 x2 FU v2 (0 : Int32) g1
theorem f_X5_free_L12_w (γ : GP) (l : Launch) (hl : l.stackTraces = false) (G0 : AH) (x0 : Nat) (x1 : Int32) (x2 : Int32) : ∀ (n : Nat) (x3 : Int32) (x4 : Int32) (g : AH), AW ρI γ l ck_X5_free G0 12 [(0, .ref x0), (1, .int x1), (2, .int x2), (3, .int x3), (4, .int x4)] [] g (f_X5_free_L12 γ x0 x1 x2 n x3 x4 g) := by
  intro n
  induction n with
  | zero => intro x3 x4 g; exact AW_none
  | succ n ih =>
    intro x3 x4 g
    unfold f_X5_free_L12
    refine r_iload (pc := 12) dX5_free_12 4 rfl ?_
    refine r_aload_n (pc := 14) dX5_free_14 rfl 0 rfl ?_
    refine r_getR (f := 30) (pc := 15) dX5_free_15 q3378 (Or.inl rfl) rfl (fun v3 => ?_)
    refine r_iconst (v := (2 : Int32)) (pc := 18) dX5_free_18 (by decide) ?_
    refine r_iald (pc := 19) dX5_free_19 (fun v4 => ?_)
    refine r_icmp_ge (tgt := 75) (pc := 20) dX5_free_20 (by decide) ?_ ?_
    · skip
      refine r_iload_n (pc := 75) dX5_free_75 rfl 3 rfl ?_
      exact r_iret (pc := 76) dX5_free_76 rfl
    · skip
      refine r_aload_n (pc := 23) dX5_free_23 rfl 0 rfl ?_
      refine r_iload (pc := 24) dX5_free_24 4 rfl ?_
      refine r_iload_n (pc := 26) dX5_free_26 rfl 1 rfl ?_
      refine r_cI (pc := 27) (rest := []) (RunOK_chk (fun h => run_V (n := 2) (c9 := 8) (As := [.int x4, .int x1]) (rest := []) (t_X5_isDish γ l hl x0 x4 x1 g) dX5_free_27 q3495 q3497 qs60 q121 q3498 (by decide +kernel) rfl h ⟨rfl, by decide, by decide⟩ (Nat.le_of_ble_eq_true rfl) (Nat.le_of_ble_eq_true rfl) rfl (Nat.le_of_ble_eq_true rfl))) (fun v6 g5 => ?_)
      refine r_if_eq (tgt := 69) (pc := 30) dX5_free_30 (by decide) ?_ ?_
      · skip
        refine r_iinc (j := 4) (v := (x4 + (1 : Int32))) (pc := 69) dX5_free_69 rfl rfl (Nat.le_of_ble_eq_true rfl) rfl ?_
        refine r_goto (tgt := 12) (pc := 72) dX5_free_72 (by decide) ?_
        refine AW_sub [1, 2, 3, 4, 0] rfl ?_
        exact ih x3 (x4 + (1 : Int32)) g5
      · skip
        refine r_aload_n (pc := 33) dX5_free_33 rfl 0 rfl ?_
        refine r_iload (pc := 34) dX5_free_34 4 rfl ?_
        refine r_iload_n (pc := 36) dX5_free_36 rfl 1 rfl ?_
        refine r_cI (pc := 37) (rest := []) (RunOK_chk (fun h => run_V (n := 2) (c9 := 8) (As := [.int x4, .int x1]) (rest := []) (t_X5_howDish γ l hl x0 x4 x1 g5) dX5_free_37 q3503 q3505 qs62 q121 q3506 (by decide +kernel) rfl h ⟨rfl, by decide, by decide⟩ (Nat.le_of_ble_eq_true rfl) (Nat.le_of_ble_eq_true rfl) rfl (Nat.le_of_ble_eq_true rfl))) (fun v8 g7 => ?_)
        refine r_iconst (v := (1 : Int32)) (pc := 40) dX5_free_40 (by decide) ?_
        refine r_icmp_ne (tgt := 69) (pc := 41) dX5_free_41 (by decide) ?_ ?_
        · skip
          refine r_aload_n (pc := 44) dX5_free_44 rfl 0 rfl ?_
          refine r_iload (pc := 45) dX5_free_45 4 rfl ?_
          refine r_iload_n (pc := 47) dX5_free_47 rfl 1 rfl ?_
          refine r_iconst (v := (0 : Int32)) (pc := 48) dX5_free_48 (by decide) ?_
          refine r_cI (pc := 49) (rest := []) (RunOK_chk (fun h => run_V (n := 3) (c9 := 8) (As := [.int x4, .int x1, .int (0 : Int32)]) (rest := []) (t_X5_dish γ l hl x0 x4 x1 (0 : Int32) g7) dX5_free_49 q3507 q3509 qs63 q121 q3510 (by decide +kernel) rfl h ⟨rfl, by decide, by decide⟩ (Nat.le_of_ble_eq_true rfl) (Nat.le_of_ble_eq_true rfl) rfl (Nat.le_of_ble_eq_true rfl))) (fun v10 g9 => ?_)
          refine r_iload_n (pc := 52) dX5_free_52 rfl 2 rfl ?_
          refine r_iconst (v := (1 : Int32)) (pc := 53) dX5_free_53 (by decide) ?_
          refine r_iadd (pc := 54) dX5_free_54 ?_
          refine r_icmp_ne (tgt := 69) (pc := 55) dX5_free_55 (by decide) ?_ ?_
          · skip
            refine r_iload_n (pc := 58) dX5_free_58 rfl 3 rfl ?_
            refine r_aload_n (pc := 59) dX5_free_59 rfl 0 rfl ?_
            refine r_iload (pc := 60) dX5_free_60 4 rfl ?_
            refine r_iload_n (pc := 62) dX5_free_62 rfl 1 rfl ?_
            refine r_iconst (v := (1 : Int32)) (pc := 63) dX5_free_63 (by decide) ?_
            refine r_cI (pc := 64) (rest := [.int x3]) (RunOK_chk (fun h => run_V (n := 3) (c9 := 8) (As := [.int x4, .int x1, .int (1 : Int32)]) (rest := [.int x3]) (t_X5_dish γ l hl x0 x4 x1 (1 : Int32) g9) dX5_free_64 q3507 q3509 qs63 q121 q3510 (by decide +kernel) rfl h ⟨rfl, by decide, by decide⟩ (Nat.le_of_ble_eq_true rfl) (Nat.le_of_ble_eq_true rfl) rfl (Nat.le_of_ble_eq_true rfl))) (fun v12 g11 => ?_)
            refine r_isub (pc := 67) dX5_free_67 ?_
            refine r_istore_n (pc := 68) dX5_free_68 rfl (Nat.le_of_ble_eq_true rfl) rfl ?_
            refine r_iinc (j := 4) (v := (x4 + (1 : Int32))) (pc := 69) dX5_free_69 rfl rfl (Nat.le_of_ble_eq_true rfl) rfl ?_
            refine r_goto (tgt := 12) (pc := 72) dX5_free_72 (by decide) ?_
            refine AW_sub [2, 3, 4, 1, 0] rfl ?_
            exact ih (x3 - v12) (x4 + (1 : Int32)) g11
          · skip
            refine r_iinc (j := 4) (v := (x4 + (1 : Int32))) (pc := 69) dX5_free_69 rfl rfl (Nat.le_of_ble_eq_true rfl) rfl ?_
            refine r_goto (tgt := 12) (pc := 72) dX5_free_72 (by decide) ?_
            refine AW_sub [1, 2, 3, 4, 0] rfl ?_
            exact ih x3 (x4 + (1 : Int32)) g9
        · skip
          refine r_iinc (j := 4) (v := (x4 + (1 : Int32))) (pc := 69) dX5_free_69 rfl rfl (Nat.le_of_ble_eq_true rfl) rfl ?_
          refine r_goto (tgt := 12) (pc := 72) dX5_free_72 (by decide) ?_
          refine AW_sub [1, 2, 3, 4, 0] rfl ?_
          exact ih x3 (x4 + (1 : Int32)) g7
theorem t_X5_free (γ : GP) (l : Launch) (hl : l.stackTraces = false) (x0 : Nat) (x1 : Int32) (x2 : Int32) (g : AH) : TrM ρI γ l ⟨"BanquetVotesModel", "free", "(II)I"⟩ (ws_ ⟨"BanquetVotesModel", "free", "(II)I"⟩ prog_25_method_32_code 5 (some .int)) 4 [.ref x0, .int x1, .int x2] g (f_X5_free γ x0 x1 x2 g) := by
  refine TrM_of (plainFor_of_name (by decide)) (Nat.le_of_ble_eq_true rfl) ?_
  unfold f_X5_free
  change AW ρI γ l ck_X5_free g 0 [(0, .ref x0), (1, .int x1), (2, .int x2)] [] g _
  refine r_aload_n (pc := 0) dX5_free_0 rfl 0 rfl ?_
  refine r_iload_n (pc := 1) dX5_free_1 rfl 1 rfl ?_
  refine r_iconst (v := (3 : Int32)) (pc := 2) dX5_free_2 (by decide) ?_
  refine r_iload_n (pc := 3) dX5_free_3 rfl 2 rfl ?_
  refine r_iadd (pc := 4) dX5_free_4 ?_
  refine r_cI (pc := 5) (rest := []) (RunOK_chk (fun h => run_V (n := 2) (c9 := 8) (As := [.int x1, .int ((3 : Int32) + x2)]) (rest := []) (t_X5_cook_2 γ l hl x0 x1 ((3 : Int32) + x2) g) dX5_free_5 q3483 q3485 qs58 q121 q3486 (by decide +kernel) rfl h ⟨rfl, by decide, by decide⟩ (Nat.le_of_ble_eq_true rfl) (Nat.le_of_ble_eq_true rfl) rfl (Nat.le_of_ble_eq_true rfl))) (fun v2 g1 => ?_)
  refine r_istore_n (pc := 8) dX5_free_8 rfl (Nat.le_of_ble_eq_true rfl) rfl ?_
  refine r_iconst (v := (0 : Int32)) (pc := 9) dX5_free_9 (by decide) ?_
  refine r_istore (pc := 10) dX5_free_10 (Nat.le_of_ble_eq_true rfl) rfl ?_
  refine AW_sub [2, 3, 4, 1, 0] rfl ?_
  refine f_X5_free_L12_w γ l hl _ x0 x1 x2 FU v2 (0 : Int32) g1
abbrev ck_X5_has : CK := ("BanquetVotesModel", prog_25_method_48_code, 4, (some .int), "has", [], 5)
def f_X5_has (γ : GP) (x0 : Nat) (x1 : Int32) (x2 : Int32) (x3 : Int32) (g : AH) : Option (Int32 × AH) := pI γ g x0 50 (0 : Int32) fun g1 => bI ((if hK g1 x0 = 8 then f_X5_isCook γ x0 x1 g1 else none)) fun v3 g2 => (if v3 = 0 then bI ((if hK g2 x0 = 8 then f_X5_raises γ x0 (1 : Int32) g2 else none)) fun v5 g4 => (some (v5, g4)) else bI (f_X5_in γ x2 (0 : Int32) (3 : Int32) g2) fun v7 g6 => (if v7 = 0 then bI ((if hK g6 x0 = 8 then f_X5_raises γ x0 (2 : Int32) g6 else none)) fun v9 g8 => (some (v9, g8)) else (if x3 = 0 then bI ((if hK g6 x0 = 8 then f_X5_cook_2 γ x0 x1 ((3 : Int32) + x2) g6 else none)) fun v11 g10 => (some (v11, g10)) else bI ((if hK g6 x0 = 8 then f_X5_free γ x0 x1 x2 g6 else none)) fun v13 g12 => (some (v13, g12)))))
theorem t_X5_has (γ : GP) (l : Launch) (hl : l.stackTraces = false) (x0 : Nat) (x1 : Int32) (x2 : Int32) (x3 : Int32) (g : AH) : TrM ρI γ l ⟨"BanquetVotesModel", "has", "(IIZ)I"⟩ (ws_ ⟨"BanquetVotesModel", "has", "(IIZ)I"⟩ prog_25_method_48_code 4 (some .int)) 5 [.ref x0, .int x1, .int x2, .int x3] g (f_X5_has γ x0 x1 x2 x3 g) := by
  refine TrM_of (plainFor_of_name (by decide)) (Nat.le_of_ble_eq_true rfl) ?_
  unfold f_X5_has
  change AW ρI γ l ck_X5_has g 0 [(0, .ref x0), (1, .int x1), (2, .int x2), (3, .int x3)] [] g _
  refine r_aload_n (pc := 0) dX5_has_0 rfl 0 rfl ?_
  refine r_iconst (v := (0 : Int32)) (pc := 1) dX5_has_1 (by decide) ?_
  refine r_putI (f := 50) (pc := 2) dX5_has_2 q3398 (Or.inl rfl) (Or.inl rfl) rfl (fun g1 => ?_)
  refine r_aload_n (pc := 5) dX5_has_5 rfl 0 rfl ?_
  refine r_iload_n (pc := 6) dX5_has_6 rfl 1 rfl ?_
  refine r_cI (pc := 7) (rest := []) (RunOK_chk (fun h => run_V (n := 1) (c9 := 8) (As := [.int x1]) (rest := []) (t_X5_isCook γ l hl x0 x1 g1) dX5_has_7 q3479 q3481 qs57 q121 q3482 (by decide +kernel) rfl h ⟨rfl, by decide, by decide⟩ (Nat.le_of_ble_eq_true rfl) (Nat.le_of_ble_eq_true rfl) rfl (Nat.le_of_ble_eq_true rfl))) (fun v3 g2 => ?_)
  refine r_if_ne (tgt := 19) (pc := 10) dX5_has_10 (by decide) ?_ ?_
  · skip
    refine r_aload_n (pc := 13) dX5_has_13 rfl 0 rfl ?_
    refine r_iconst (v := (1 : Int32)) (pc := 14) dX5_has_14 (by decide) ?_
    refine r_cI (pc := 15) (rest := []) (RunOK_chk (fun h => run_V (n := 1) (c9 := 8) (As := [.int (1 : Int32)]) (rest := []) (t_X5_raises γ l hl x0 (1 : Int32) g2) dX5_has_15 q3458 q3460 qs53 q121 q3461 (by decide +kernel) rfl h ⟨rfl, by decide, by decide⟩ (Nat.le_of_ble_eq_true rfl) (Nat.le_of_ble_eq_true rfl) rfl (Nat.le_of_ble_eq_true rfl))) (fun v5 g4 => ?_)
    exact r_iret (pc := 18) dX5_has_18 rfl
  · skip
    refine r_iload_n (pc := 19) dX5_has_19 rfl 2 rfl ?_
    refine r_iconst (v := (0 : Int32)) (pc := 20) dX5_has_20 (by decide) ?_
    refine r_iconst (v := (3 : Int32)) (pc := 21) dX5_has_21 (by decide) ?_
    refine r_cI (pc := 22) (rest := []) (run_S (n := 3) (As := [.int x2, .int (0 : Int32), .int (3 : Int32)]) (rest := []) (t_X5_in γ l hl x2 (0 : Int32) (3 : Int32) g2) dX5_has_22 q3455 q3456 q121 q3457 (by decide +kernel) rfl (Nat.le_of_ble_eq_true rfl) (Nat.le_of_ble_eq_true rfl) rfl (Nat.le_of_ble_eq_true rfl)) (fun v7 g6 => ?_)
    refine r_if_ne (tgt := 34) (pc := 25) dX5_has_25 (by decide) ?_ ?_
    · skip
      refine r_aload_n (pc := 28) dX5_has_28 rfl 0 rfl ?_
      refine r_iconst (v := (2 : Int32)) (pc := 29) dX5_has_29 (by decide) ?_
      refine r_cI (pc := 30) (rest := []) (RunOK_chk (fun h => run_V (n := 1) (c9 := 8) (As := [.int (2 : Int32)]) (rest := []) (t_X5_raises γ l hl x0 (2 : Int32) g6) dX5_has_30 q3458 q3460 qs53 q121 q3461 (by decide +kernel) rfl h ⟨rfl, by decide, by decide⟩ (Nat.le_of_ble_eq_true rfl) (Nat.le_of_ble_eq_true rfl) rfl (Nat.le_of_ble_eq_true rfl))) (fun v9 g8 => ?_)
      exact r_iret (pc := 33) dX5_has_33 rfl
    · skip
      refine r_iload_n (pc := 34) dX5_has_34 rfl 3 rfl ?_
      refine r_if_eq (tgt := 47) (pc := 35) dX5_has_35 (by decide) ?_ ?_
      · skip
        refine r_aload_n (pc := 47) dX5_has_47 rfl 0 rfl ?_
        refine r_iload_n (pc := 48) dX5_has_48 rfl 1 rfl ?_
        refine r_iconst (v := (3 : Int32)) (pc := 49) dX5_has_49 (by decide) ?_
        refine r_iload_n (pc := 50) dX5_has_50 rfl 2 rfl ?_
        refine r_iadd (pc := 51) dX5_has_51 ?_
        refine r_cI (pc := 52) (rest := []) (RunOK_chk (fun h => run_V (n := 2) (c9 := 8) (As := [.int x1, .int ((3 : Int32) + x2)]) (rest := []) (t_X5_cook_2 γ l hl x0 x1 ((3 : Int32) + x2) g6) dX5_has_52 q3483 q3485 qs58 q121 q3486 (by decide +kernel) rfl h ⟨rfl, by decide, by decide⟩ (Nat.le_of_ble_eq_true rfl) (Nat.le_of_ble_eq_true rfl) rfl (Nat.le_of_ble_eq_true rfl))) (fun v11 g10 => ?_)
        exact r_iret (pc := 55) dX5_has_55 rfl
      · skip
        refine r_aload_n (pc := 38) dX5_has_38 rfl 0 rfl ?_
        refine r_iload_n (pc := 39) dX5_has_39 rfl 1 rfl ?_
        refine r_iload_n (pc := 40) dX5_has_40 rfl 2 rfl ?_
        refine r_cI (pc := 41) (rest := []) (RunOK_chk (fun h => run_V (n := 2) (c9 := 8) (As := [.int x1, .int x2]) (rest := []) (t_X5_free γ l hl x0 x1 x2 g6) dX5_has_41 q3555 q3557 qs70 q121 q3558 (by decide +kernel) rfl h ⟨rfl, by decide, by decide⟩ (Nat.le_of_ble_eq_true rfl) (Nat.le_of_ble_eq_true rfl) rfl (Nat.le_of_ble_eq_true rfl))) (fun v13 g12 => ?_)
        refine r_goto (tgt := 55) (pc := 44) dX5_has_44 (by decide) ?_
        exact r_iret (pc := 55) dX5_has_55 rfl
abbrev ck_X5_freeAgain : CK := ("BanquetVotesModel", prog_25_method_49_code, 3, (some .int), "freeAgain", [], 6)
def f_X5_freeAgain (γ : GP) (x0 : Nat) (x1 : Int32) (x2 : Int32) (g : AH) : Option (Int32 × AH) := bI ((if hK g x0 = 8 then f_X5_has γ x0 x1 x2 (1 : Int32) g else none)) fun v2 g1 => (some (v2, g1))
theorem t_X5_freeAgain (γ : GP) (l : Launch) (hl : l.stackTraces = false) (x0 : Nat) (x1 : Int32) (x2 : Int32) (g : AH) : TrM ρI γ l ⟨"BanquetVotesModel", "freeAgain", "(II)I"⟩ (ws_ ⟨"BanquetVotesModel", "freeAgain", "(II)I"⟩ prog_25_method_49_code 3 (some .int)) 6 [.ref x0, .int x1, .int x2] g (f_X5_freeAgain γ x0 x1 x2 g) := by
  refine TrM_of (plainFor_of_name (by decide)) (Nat.le_of_ble_eq_true rfl) ?_
  unfold f_X5_freeAgain
  change AW ρI γ l ck_X5_freeAgain g 0 [(0, .ref x0), (1, .int x1), (2, .int x2)] [] g _
  refine r_aload_n (pc := 0) dX5_freeAgain_0 rfl 0 rfl ?_
  refine r_iload_n (pc := 1) dX5_freeAgain_1 rfl 1 rfl ?_
  refine r_iload_n (pc := 2) dX5_freeAgain_2 rfl 2 rfl ?_
  refine r_iconst (v := (1 : Int32)) (pc := 3) dX5_freeAgain_3 (by decide) ?_
  refine r_cI (pc := 4) (rest := []) (RunOK_chk (fun h => run_V (n := 3) (c9 := 8) (As := [.int x1, .int x2, .int (1 : Int32)]) (rest := []) (t_X5_has γ l hl x0 x1 x2 (1 : Int32) g) dX5_freeAgain_4 q3563 q3552 q3553 q121 q3554 (by decide +kernel) rfl h ⟨rfl, by decide, by decide⟩ (Nat.le_of_ble_eq_true rfl) (Nat.le_of_ble_eq_true rfl) rfl (Nat.le_of_ble_eq_true rfl))) (fun v2 g1 => ?_)
  exact r_iret (pc := 7) dX5_freeAgain_7 rfl
abbrev ck_X5_isOut : CK := ("BanquetVotesModel", prog_25_method_16_code, 2, (some .boolean), "isOut", [], 2)
def f_X5_isOut (γ : GP) (x0 : Nat) (x1 : Int32) (g : AH) : Option (Int32 × AH) := (if x1 = (-1 : Int32) then gR g x0 30 fun v1 => gA g 101 v1 (3 : Int32) fun v2 => (if v2 = (1 : Int32) then (rtN .boolean (1 : Int32) g) else (rtN .boolean (0 : Int32) g)) else bI ((if hK g x0 = 8 then f_X5_cook_2 γ x0 x1 (1 : Int32) g else none)) fun v4 g3 => (if v4 = (1 : Int32) then (rtN .boolean (1 : Int32) g3) else (rtN .boolean (0 : Int32) g3)))
theorem t_X5_isOut (γ : GP) (l : Launch) (hl : l.stackTraces = false) (x0 : Nat) (x1 : Int32) (g : AH) : TrM ρI γ l ⟨"BanquetVotesModel", "isOut", "(I)Z"⟩ (ws_ ⟨"BanquetVotesModel", "isOut", "(I)Z"⟩ prog_25_method_16_code 2 (some .boolean)) 2 [.ref x0, .int x1] g (f_X5_isOut γ x0 x1 g) := by
  refine TrM_of (plainFor_of_name (by decide)) (Nat.le_of_ble_eq_true rfl) ?_
  unfold f_X5_isOut
  change AW ρI γ l ck_X5_isOut g 0 [(0, .ref x0), (1, .int x1)] [] g _
  refine r_iload_n (pc := 0) dX5_isOut_0 rfl 1 rfl ?_
  refine r_iconst (v := (-1 : Int32)) (pc := 1) dX5_isOut_1 (by decide) ?_
  refine r_icmp_ne (tgt := 23) (pc := 2) dX5_isOut_2 (by decide) ?_ ?_
  · skip
    refine r_aload_n (pc := 5) dX5_isOut_5 rfl 0 rfl ?_
    refine r_getR (f := 30) (pc := 6) dX5_isOut_6 q3378 (Or.inl rfl) rfl (fun v1 => ?_)
    refine r_iconst (v := (3 : Int32)) (pc := 9) dX5_isOut_9 (by decide) ?_
    refine r_iald (pc := 10) dX5_isOut_10 (fun v2 => ?_)
    refine r_iconst (v := (1 : Int32)) (pc := 11) dX5_isOut_11 (by decide) ?_
    refine r_icmp_ne (tgt := 19) (pc := 12) dX5_isOut_12 (by decide) ?_ ?_
    · skip
      refine r_iconst (v := (1 : Int32)) (pc := 15) dX5_isOut_15 (by decide) ?_
      refine r_goto (tgt := 38) (pc := 16) dX5_isOut_16 (by decide) ?_
      exact r_zret (ty := .boolean) (pc := 38) dX5_isOut_38 rfl
    · skip
      refine r_iconst (v := (0 : Int32)) (pc := 19) dX5_isOut_19 (by decide) ?_
      refine r_goto (tgt := 38) (pc := 20) dX5_isOut_20 (by decide) ?_
      exact r_zret (ty := .boolean) (pc := 38) dX5_isOut_38 rfl
  · skip
    refine r_aload_n (pc := 23) dX5_isOut_23 rfl 0 rfl ?_
    refine r_iload_n (pc := 24) dX5_isOut_24 rfl 1 rfl ?_
    refine r_iconst (v := (1 : Int32)) (pc := 25) dX5_isOut_25 (by decide) ?_
    refine r_cI (pc := 26) (rest := []) (RunOK_chk (fun h => run_V (n := 2) (c9 := 8) (As := [.int x1, .int (1 : Int32)]) (rest := []) (t_X5_cook_2 γ l hl x0 x1 (1 : Int32) g) dX5_isOut_26 q3483 q3485 qs58 q121 q3486 (by decide +kernel) rfl h ⟨rfl, by decide, by decide⟩ (Nat.le_of_ble_eq_true rfl) (Nat.le_of_ble_eq_true rfl) rfl (Nat.le_of_ble_eq_true rfl))) (fun v4 g3 => ?_)
    refine r_iconst (v := (1 : Int32)) (pc := 29) dX5_isOut_29 (by decide) ?_
    refine r_icmp_ne (tgt := 37) (pc := 30) dX5_isOut_30 (by decide) ?_ ?_
    · skip
      refine r_iconst (v := (1 : Int32)) (pc := 33) dX5_isOut_33 (by decide) ?_
      refine r_goto (tgt := 38) (pc := 34) dX5_isOut_34 (by decide) ?_
      exact r_zret (ty := .boolean) (pc := 38) dX5_isOut_38 rfl
    · skip
      refine r_iconst (v := (0 : Int32)) (pc := 37) dX5_isOut_37 (by decide) ?_
      exact r_zret (ty := .boolean) (pc := 38) dX5_isOut_38 rfl
abbrev ck_X5_writes : CK := ("BanquetVotesModel", prog_25_method_27_code, 6, none, "writes", [], 1)
def f_X5_writes (γ : GP) (x0 : Nat) (x1 : Int32) (x2 : Int32) (x3 : Int32) (g : AH) : Option (AH) := jn (fun (z1 : Int32) (g2 : AH) => gR g2 x0 30 fun v4 => gA g2 101 v4 z1 fun v5 => gR g2 x0 30 fun v6 => pA γ g2 101 v6 ((321 : Int32) + ((3 : Int32) * (((16 : Int32) * (x1 + (1 : Int32))) + v5))) x2 fun g7 => gR g7 x0 30 fun v8 => pA γ g7 101 v8 (((321 : Int32) + ((3 : Int32) * (((16 : Int32) * (x1 + (1 : Int32))) + v5))) + (1 : Int32)) x3 fun g9 => gR g9 x0 30 fun v10 => gR g9 x0 30 fun v11 => gA g9 101 v11 (0 : Int32) fun v12 => pA γ g9 101 v10 (((321 : Int32) + ((3 : Int32) * (((16 : Int32) * (x1 + (1 : Int32))) + v5))) + (2 : Int32)) v12 fun g13 => gR g13 x0 30 fun v14 => gA g13 101 v14 z1 fun v15 => pA γ g13 101 v14 z1 (v15 + (1 : Int32)) fun g16 => (some g16)) (fun (j3 : Int32 → AH → Option (AH)) => (if x1 = (-1 : Int32) then j3 (6 : Int32) g else j3 (((7 : Int32) + ((15 : Int32) * x1)) + (2 : Int32)) g))
theorem t_X5_writes (γ : GP) (l : Launch) (hl : l.stackTraces = false) (x0 : Nat) (x1 : Int32) (x2 : Int32) (x3 : Int32) (g : AH) : TrM ρV γ l ⟨"BanquetVotesModel", "writes", "(III)V"⟩ (ws_ ⟨"BanquetVotesModel", "writes", "(III)V"⟩ prog_25_method_27_code 6 none) 1 [.ref x0, .int x1, .int x2, .int x3] g (f_X5_writes γ x0 x1 x2 x3 g) := by
  refine TrM_of (plainFor_of_name (by decide)) (Nat.le_of_ble_eq_true rfl) ?_
  unfold f_X5_writes
  change AW ρV γ l ck_X5_writes g 0 [(0, .ref x0), (1, .int x1), (2, .int x2), (3, .int x3)] [] g _
  refine r_iload_n (pc := 0) dX5_writes_0 rfl 1 rfl ?_
  refine r_iconst (v := (-1 : Int32)) (pc := 1) dX5_writes_1 (by decide) ?_
  refine AW_jn (P := fun (j : Int32 → AH → Option (AH)) => ∀ (z1 : Int32) (g2 : AH), AW ρV γ l ck_X5_writes g 19 [(0, .ref x0), (1, .int x1), (2, .int x2), (3, .int x3)] [.int z1] g2 (j z1 g2)) (fun z1 g2 => ?_) (fun j3 h_j3 => ?_)
  · skip
    refine r_istore (pc := 19) dX5_writes_19 (Nat.le_of_ble_eq_true rfl) rfl ?_
    refine r_sipush (v := (321 : Int32)) (pc := 21) dX5_writes_21 (by decide) ?_
    refine r_iconst (v := (3 : Int32)) (pc := 24) dX5_writes_24 (by decide) ?_
    refine r_bipush (v := (16 : Int32)) (pc := 25) dX5_writes_25 (by decide) ?_
    refine r_iload_n (pc := 27) dX5_writes_27 rfl 2 rfl ?_
    refine r_iconst (v := (1 : Int32)) (pc := 28) dX5_writes_28 (by decide) ?_
    refine r_iadd (pc := 29) dX5_writes_29 ?_
    refine r_imul (pc := 30) dX5_writes_30 ?_
    refine r_aload_n (pc := 31) dX5_writes_31 rfl 1 rfl ?_
    refine r_getR (f := 30) (pc := 32) dX5_writes_32 q3378 (Or.inl rfl) rfl (fun v4 => ?_)
    refine r_iload (pc := 35) dX5_writes_35 0 rfl ?_
    refine r_iald (pc := 37) dX5_writes_37 (fun v5 => ?_)
    refine r_iadd (pc := 38) dX5_writes_38 ?_
    refine r_imul (pc := 39) dX5_writes_39 ?_
    refine r_iadd (pc := 40) dX5_writes_40 ?_
    refine r_istore (pc := 41) dX5_writes_41 (Nat.le_of_ble_eq_true rfl) rfl ?_
    refine r_aload_n (pc := 43) dX5_writes_43 rfl 2 rfl ?_
    refine r_getR (f := 30) (pc := 44) dX5_writes_44 q3378 (Or.inl rfl) rfl (fun v6 => ?_)
    refine r_iload (pc := 47) dX5_writes_47 0 rfl ?_
    refine r_iload_n (pc := 49) dX5_writes_49 rfl 4 rfl ?_
    refine r_iast (pc := 50) dX5_writes_50 (fun g7 => ?_)
    refine r_aload_n (pc := 51) dX5_writes_51 rfl 2 rfl ?_
    refine r_getR (f := 30) (pc := 52) dX5_writes_52 q3378 (Or.inl rfl) rfl (fun v8 => ?_)
    refine r_iload (pc := 55) dX5_writes_55 0 rfl ?_
    refine r_iconst (v := (1 : Int32)) (pc := 57) dX5_writes_57 (by decide) ?_
    refine r_iadd (pc := 58) dX5_writes_58 ?_
    refine r_iload_n (pc := 59) dX5_writes_59 rfl 5 rfl ?_
    refine r_iast (pc := 60) dX5_writes_60 (fun g9 => ?_)
    refine r_aload_n (pc := 61) dX5_writes_61 rfl 2 rfl ?_
    refine r_getR (f := 30) (pc := 62) dX5_writes_62 q3378 (Or.inl rfl) rfl (fun v10 => ?_)
    refine r_iload (pc := 65) dX5_writes_65 0 rfl ?_
    refine r_iconst (v := (2 : Int32)) (pc := 67) dX5_writes_67 (by decide) ?_
    refine r_iadd (pc := 68) dX5_writes_68 ?_
    refine r_aload_n (pc := 69) dX5_writes_69 rfl 2 rfl ?_
    refine r_getR (f := 30) (pc := 70) dX5_writes_70 q3378 (Or.inl rfl) rfl (fun v11 => ?_)
    refine r_iconst (v := (0 : Int32)) (pc := 73) dX5_writes_73 (by decide) ?_
    refine r_iald (pc := 74) dX5_writes_74 (fun v12 => ?_)
    refine r_iast (pc := 75) dX5_writes_75 (fun g13 => ?_)
    refine r_aload_n (pc := 76) dX5_writes_76 rfl 2 rfl ?_
    refine r_getR (f := 30) (pc := 77) dX5_writes_77 q3378 (Or.inl rfl) rfl (fun v14 => ?_)
    refine r_iload (pc := 80) dX5_writes_80 1 rfl ?_
    refine r_dup2 (pc := 82) dX5_writes_82 rfl rfl ?_
    refine r_iald (pc := 83) dX5_writes_83 (fun v15 => ?_)
    refine r_iconst (v := (1 : Int32)) (pc := 84) dX5_writes_84 (by decide) ?_
    refine r_iadd (pc := 85) dX5_writes_85 ?_
    refine r_iast (pc := 86) dX5_writes_86 (fun g16 => ?_)
    exact r_vret (pc := 87) dX5_writes_87 rfl
  · skip
    refine r_icmp_ne (tgt := 10) (pc := 2) dX5_writes_2 (by decide) ?_ ?_
    · skip
      refine r_bipush (v := (6 : Int32)) (pc := 5) dX5_writes_5 (by decide) ?_
      refine r_goto (tgt := 19) (pc := 7) dX5_writes_7 (by decide) ?_
      exact h_j3 (6 : Int32) g
    · skip
      refine r_bipush (v := (7 : Int32)) (pc := 10) dX5_writes_10 (by decide) ?_
      refine r_bipush (v := (15 : Int32)) (pc := 12) dX5_writes_12 (by decide) ?_
      refine r_iload_n (pc := 14) dX5_writes_14 rfl 1 rfl ?_
      refine r_imul (pc := 15) dX5_writes_15 ?_
      refine r_iadd (pc := 16) dX5_writes_16 ?_
      refine r_iconst (v := (2 : Int32)) (pc := 17) dX5_writes_17 (by decide) ?_
      refine r_iadd (pc := 18) dX5_writes_18 ?_
      exact h_j3 (((7 : Int32) + ((15 : Int32) * x1)) + (2 : Int32)) g
abbrev ck_X5_sends : CK := ("BanquetVotesModel", prog_25_method_29_code, 5, none, "sends", [], 2)
def f_X5_sends (γ : GP) (x0 : Nat) (x1 : Int32) (x2 : Int32) (x3 : Int32) (g : AH) : Option (AH) := gR g x0 30 fun v1 => gA g 101 v1 (5 : Int32) fun v2 => pA γ g 101 v1 (5 : Int32) (v2 + (1 : Int32)) fun g3 => gR g3 x0 30 fun v4 => pA γ g3 101 v4 ((657 : Int32) + ((4 : Int32) * v2)) x1 fun g5 => gR g5 x0 30 fun v6 => pA γ g5 101 v6 (((657 : Int32) + ((4 : Int32) * v2)) + (1 : Int32)) x2 fun g7 => gR g7 x0 30 fun v8 => pA γ g7 101 v8 (((657 : Int32) + ((4 : Int32) * v2)) + (2 : Int32)) x3 fun g9 => gR g9 x0 30 fun v10 => gR g9 x0 30 fun v11 => gA g9 101 v11 (0 : Int32) fun v12 => bI ((if hK g9 x0 = 8 then f_X5_cook_2 γ x0 x2 (0 : Int32) g9 else none)) fun v14 g13 => pA γ g13 101 v10 (((657 : Int32) + ((4 : Int32) * v2)) + (3 : Int32)) (v12 + v14) fun g15 => gI g15 x0 49 fun v16 => pI γ g15 x0 49 (v16 + (1 : Int32)) fun g17 => (some g17)
theorem t_X5_sends (γ : GP) (l : Launch) (hl : l.stackTraces = false) (x0 : Nat) (x1 : Int32) (x2 : Int32) (x3 : Int32) (g : AH) : TrM ρV γ l ⟨"BanquetVotesModel", "sends", "(III)V"⟩ (ws_ ⟨"BanquetVotesModel", "sends", "(III)V"⟩ prog_25_method_29_code 5 none) 2 [.ref x0, .int x1, .int x2, .int x3] g (f_X5_sends γ x0 x1 x2 x3 g) := by
  refine TrM_of (plainFor_of_name (by decide)) (Nat.le_of_ble_eq_true rfl) ?_
  unfold f_X5_sends
  change AW ρV γ l ck_X5_sends g 0 [(0, .ref x0), (1, .int x1), (2, .int x2), (3, .int x3)] [] g _
  refine r_sipush (v := (657 : Int32)) (pc := 0) dX5_sends_0 (by decide) ?_
  refine r_iconst (v := (4 : Int32)) (pc := 3) dX5_sends_3 (by decide) ?_
  refine r_aload_n (pc := 4) dX5_sends_4 rfl 0 rfl ?_
  refine r_getR (f := 30) (pc := 5) dX5_sends_5 q3378 (Or.inl rfl) rfl (fun v1 => ?_)
  refine r_iconst (v := (5 : Int32)) (pc := 8) dX5_sends_8 (by decide) ?_
  refine r_dup2 (pc := 9) dX5_sends_9 rfl rfl ?_
  refine r_iald (pc := 10) dX5_sends_10 (fun v2 => ?_)
  refine r_dup_x2 (pc := 11) dX5_sends_11 rfl rfl rfl ?_
  refine r_iconst (v := (1 : Int32)) (pc := 12) dX5_sends_12 (by decide) ?_
  refine r_iadd (pc := 13) dX5_sends_13 ?_
  refine r_iast (pc := 14) dX5_sends_14 (fun g3 => ?_)
  refine r_imul (pc := 15) dX5_sends_15 ?_
  refine r_iadd (pc := 16) dX5_sends_16 ?_
  refine r_istore (pc := 17) dX5_sends_17 (Nat.le_of_ble_eq_true rfl) rfl ?_
  refine r_aload_n (pc := 19) dX5_sends_19 rfl 1 rfl ?_
  refine r_getR (f := 30) (pc := 20) dX5_sends_20 q3378 (Or.inl rfl) rfl (fun v4 => ?_)
  refine r_iload (pc := 23) dX5_sends_23 0 rfl ?_
  refine r_iload_n (pc := 25) dX5_sends_25 rfl 2 rfl ?_
  refine r_iast (pc := 26) dX5_sends_26 (fun g5 => ?_)
  refine r_aload_n (pc := 27) dX5_sends_27 rfl 1 rfl ?_
  refine r_getR (f := 30) (pc := 28) dX5_sends_28 q3378 (Or.inl rfl) rfl (fun v6 => ?_)
  refine r_iload (pc := 31) dX5_sends_31 0 rfl ?_
  refine r_iconst (v := (1 : Int32)) (pc := 33) dX5_sends_33 (by decide) ?_
  refine r_iadd (pc := 34) dX5_sends_34 ?_
  refine r_iload_n (pc := 35) dX5_sends_35 rfl 3 rfl ?_
  refine r_iast (pc := 36) dX5_sends_36 (fun g7 => ?_)
  refine r_aload_n (pc := 37) dX5_sends_37 rfl 1 rfl ?_
  refine r_getR (f := 30) (pc := 38) dX5_sends_38 q3378 (Or.inl rfl) rfl (fun v8 => ?_)
  refine r_iload (pc := 41) dX5_sends_41 0 rfl ?_
  refine r_iconst (v := (2 : Int32)) (pc := 43) dX5_sends_43 (by decide) ?_
  refine r_iadd (pc := 44) dX5_sends_44 ?_
  refine r_iload_n (pc := 45) dX5_sends_45 rfl 4 rfl ?_
  refine r_iast (pc := 46) dX5_sends_46 (fun g9 => ?_)
  refine r_aload_n (pc := 47) dX5_sends_47 rfl 1 rfl ?_
  refine r_getR (f := 30) (pc := 48) dX5_sends_48 q3378 (Or.inl rfl) rfl (fun v10 => ?_)
  refine r_iload (pc := 51) dX5_sends_51 0 rfl ?_
  refine r_iconst (v := (3 : Int32)) (pc := 53) dX5_sends_53 (by decide) ?_
  refine r_iadd (pc := 54) dX5_sends_54 ?_
  refine r_aload_n (pc := 55) dX5_sends_55 rfl 1 rfl ?_
  refine r_getR (f := 30) (pc := 56) dX5_sends_56 q3378 (Or.inl rfl) rfl (fun v11 => ?_)
  refine r_iconst (v := (0 : Int32)) (pc := 59) dX5_sends_59 (by decide) ?_
  refine r_iald (pc := 60) dX5_sends_60 (fun v12 => ?_)
  refine r_aload_n (pc := 61) dX5_sends_61 rfl 1 rfl ?_
  refine r_iload_n (pc := 62) dX5_sends_62 rfl 3 rfl ?_
  refine r_iconst (v := (0 : Int32)) (pc := 63) dX5_sends_63 (by decide) ?_
  refine r_cI (pc := 64) (rest := [.int v12, .int (((657 : Int32) + ((4 : Int32) * v2)) + (3 : Int32)), .ref v10]) (RunOK_chk (fun h => run_V (n := 2) (c9 := 8) (As := [.int x2, .int (0 : Int32)]) (rest := [.int v12, .int (((657 : Int32) + ((4 : Int32) * v2)) + (3 : Int32)), .ref v10]) (t_X5_cook_2 γ l hl x0 x2 (0 : Int32) g9) dX5_sends_64 q3483 q3485 qs58 q121 q3486 (by decide +kernel) rfl h ⟨rfl, by decide, by decide⟩ (Nat.le_of_ble_eq_true rfl) (Nat.le_of_ble_eq_true rfl) rfl (Nat.le_of_ble_eq_true rfl))) (fun v14 g13 => ?_)
  refine r_iadd (pc := 67) dX5_sends_67 ?_
  refine r_iast (pc := 68) dX5_sends_68 (fun g15 => ?_)
  refine r_aload_n (pc := 69) dX5_sends_69 rfl 1 rfl ?_
  refine r_dup (pc := 70) dX5_sends_70 rfl ?_
  refine r_getI (f := 49) (pc := 71) dX5_sends_71 q3397 (Or.inl rfl) rfl (fun v16 => ?_)
  refine r_iconst (v := (1 : Int32)) (pc := 74) dX5_sends_74 (by decide) ?_
  refine r_iadd (pc := 75) dX5_sends_75 ?_
  refine r_putI (f := 49) (pc := 76) dX5_sends_76 q3397 (Or.inl rfl) (Or.inl rfl) rfl (fun g17 => ?_)
  exact r_vret (pc := 79) dX5_sends_79 rfl
abbrev ck_X5_sendsAll : CK := ("BanquetVotesModel", prog_25_method_30_code, 4, none, "sendsAll", [], 3)
def f_X5_sendsAll_L2 (γ : GP) (x0 : Nat) (x1 : Int32) (x2 : Int32) : Nat → Int32 → AH → Option (AH)
  | 0, _, _ => none
  | n + 1, x3, g => (if (6 : Int32) ≤ x3 then (some g) else bI ((if hK g x0 = 8 then f_X5_isDish γ x0 x2 x3 g else none)) fun v2 g1 => (if v2 = 0 then f_X5_sendsAll_L2 γ x0 x1 x2 n (x3 + (1 : Int32)) g1 else bV ((if hK g1 x0 = 8 then f_X5_sends γ x0 x1 x3 x2 g1 else none)) fun g3 => f_X5_sendsAll_L2 γ x0 x1 x2 n (x3 + (1 : Int32)) g3))
def f_X5_sendsAll (γ : GP) (x0 : Nat) (x1 : Int32) (x2 : Int32) (g : AH) : Option (AH) := f_X5_sendsAll_L2 γ x0 x1 x2 FU (0 : Int32) g
theorem f_X5_sendsAll_L2_w (γ : GP) (l : Launch) (hl : l.stackTraces = false) (G0 : AH) (x0 : Nat) (x1 : Int32) (x2 : Int32) : ∀ (n : Nat) (x3 : Int32) (g : AH), AW ρV γ l ck_X5_sendsAll G0 2 [(0, .ref x0), (1, .int x1), (2, .int x2), (3, .int x3)] [] g (f_X5_sendsAll_L2 γ x0 x1 x2 n x3 g) := by
  intro n
  induction n with
  | zero => intro x3 g; exact AW_none
  | succ n ih =>
    intro x3 g
    unfold f_X5_sendsAll_L2
    refine r_iload_n (pc := 2) dX5_sendsAll_2 rfl 3 rfl ?_
    refine r_bipush (v := (6 : Int32)) (pc := 3) dX5_sendsAll_3 (by decide) ?_
    refine r_icmp_ge (tgt := 30) (pc := 5) dX5_sendsAll_5 (by decide) ?_ ?_
    · skip
      exact r_vret (pc := 30) dX5_sendsAll_30 rfl
    · skip
      refine r_aload_n (pc := 8) dX5_sendsAll_8 rfl 0 rfl ?_
      refine r_iload_n (pc := 9) dX5_sendsAll_9 rfl 2 rfl ?_
      refine r_iload_n (pc := 10) dX5_sendsAll_10 rfl 3 rfl ?_
      refine r_cI (pc := 11) (rest := []) (RunOK_chk (fun h => run_V (n := 2) (c9 := 8) (As := [.int x2, .int x3]) (rest := []) (t_X5_isDish γ l hl x0 x2 x3 g) dX5_sendsAll_11 q3495 q3497 qs60 q121 q3498 (by decide +kernel) rfl h ⟨rfl, by decide, by decide⟩ (Nat.le_of_ble_eq_true rfl) (Nat.le_of_ble_eq_true rfl) rfl (Nat.le_of_ble_eq_true rfl))) (fun v2 g1 => ?_)
      refine r_if_eq (tgt := 24) (pc := 14) dX5_sendsAll_14 (by decide) ?_ ?_
      · skip
        refine r_iinc (j := 3) (v := (x3 + (1 : Int32))) (pc := 24) dX5_sendsAll_24 rfl rfl (Nat.le_of_ble_eq_true rfl) rfl ?_
        refine r_goto (tgt := 2) (pc := 27) dX5_sendsAll_27 (by decide) ?_
        refine AW_sub [1, 2, 3, 0] rfl ?_
        exact ih (x3 + (1 : Int32)) g1
      · skip
        refine r_aload_n (pc := 17) dX5_sendsAll_17 rfl 0 rfl ?_
        refine r_iload_n (pc := 18) dX5_sendsAll_18 rfl 1 rfl ?_
        refine r_iload_n (pc := 19) dX5_sendsAll_19 rfl 3 rfl ?_
        refine r_iload_n (pc := 20) dX5_sendsAll_20 rfl 2 rfl ?_
        refine r_cV (pc := 21) (rest := []) (RunOK_chk (fun h => run_V (n := 3) (c9 := 8) (As := [.int x1, .int x3, .int x2]) (rest := []) (t_X5_sends γ l hl x0 x1 x3 x2 g1) dX5_sendsAll_21 q3584 q3586 qs75 q121 q3587 (by decide +kernel) rfl h ⟨rfl, by decide, by decide⟩ (Nat.le_of_ble_eq_true rfl) (Nat.le_of_ble_eq_true rfl) rfl (Nat.le_of_ble_eq_true rfl))) (fun g3 => ?_)
        refine r_iinc (j := 3) (v := (x3 + (1 : Int32))) (pc := 24) dX5_sendsAll_24 rfl rfl (Nat.le_of_ble_eq_true rfl) rfl ?_
        refine r_goto (tgt := 2) (pc := 27) dX5_sendsAll_27 (by decide) ?_
        refine AW_sub [1, 2, 3, 0] rfl ?_
        exact ih (x3 + (1 : Int32)) g3
theorem t_X5_sendsAll (γ : GP) (l : Launch) (hl : l.stackTraces = false) (x0 : Nat) (x1 : Int32) (x2 : Int32) (g : AH) : TrM ρV γ l ⟨"BanquetVotesModel", "sendsAll", "(II)V"⟩ (ws_ ⟨"BanquetVotesModel", "sendsAll", "(II)V"⟩ prog_25_method_30_code 4 none) 3 [.ref x0, .int x1, .int x2] g (f_X5_sendsAll γ x0 x1 x2 g) := by
  refine TrM_of (plainFor_of_name (by decide)) (Nat.le_of_ble_eq_true rfl) ?_
  unfold f_X5_sendsAll
  change AW ρV γ l ck_X5_sendsAll g 0 [(0, .ref x0), (1, .int x1), (2, .int x2)] [] g _
  refine r_iconst (v := (0 : Int32)) (pc := 0) dX5_sendsAll_0 (by decide) ?_
  refine r_istore_n (pc := 1) dX5_sendsAll_1 rfl (Nat.le_of_ble_eq_true rfl) rfl ?_
  refine AW_sub [1, 2, 3, 0] rfl ?_
  refine f_X5_sendsAll_L2_w γ l hl _ x0 x1 x2 FU (0 : Int32) g
abbrev ck_X5_does : CK := ("BanquetVotesModel", prog_25_method_10_code, 2, (some .int), "does", [], 1)
def f_X5_does (γ : GP) (x0 : Nat) (x1 : Int32) (g : AH) : Option (Int32 × AH) := pI γ g x0 47 x1 fun g1 => (some ((0 : Int32), g1))
theorem t_X5_does (γ : GP) (l : Launch) (hl : l.stackTraces = false) (x0 : Nat) (x1 : Int32) (g : AH) : TrM ρI γ l ⟨"BanquetVotesModel", "does", "(I)I"⟩ (ws_ ⟨"BanquetVotesModel", "does", "(I)I"⟩ prog_25_method_10_code 2 (some .int)) 1 [.ref x0, .int x1] g (f_X5_does γ x0 x1 g) := by
  refine TrM_of (plainFor_of_name (by decide)) (Nat.le_of_ble_eq_true rfl) ?_
  unfold f_X5_does
  change AW ρI γ l ck_X5_does g 0 [(0, .ref x0), (1, .int x1)] [] g _
  refine r_aload_n (pc := 0) dX5_does_0 rfl 0 rfl ?_
  refine r_iload_n (pc := 1) dX5_does_1 rfl 1 rfl ?_
  refine r_putI (f := 47) (pc := 2) dX5_does_2 q3395 (Or.inl rfl) (Or.inl rfl) rfl (fun g1 => ?_)
  refine r_iconst (v := (0 : Int32)) (pc := 5) dX5_does_5 (by decide) ?_
  exact r_iret (pc := 6) dX5_does_6 rfl
abbrev ck_X5_asks : CK := ("BanquetVotesModel", prog_25_method_50_code, 2, (some .int), "asks", [], 4)
def f_X5_asks (γ : GP) (x0 : Nat) (x1 : Int32) (g : AH) : Option (Int32 × AH) := bI ((if hK g x0 = 8 then f_X5_isCourse γ x0 x1 g else none)) fun v2 g1 => (if v2 = 0 then (some ((1 : Int32), g1)) else bI ((if hK g1 x0 = 8 then f_X5_isOut γ x0 (-1 : Int32) g1 else none)) fun v4 g3 => (if v4 = 0 then bI ((if hK g3 x0 = 8 then f_X5_how γ x0 x1 g3 else none)) fun v6 g5 => (if v6 = 0 then bI ((if hK g5 x0 = 8 then f_X5_dishes γ x0 x1 g5 else none)) fun v8 g7 => (if v8 = 0 then bI ((if hK g7 x0 = 8 then f_X5_refuses γ x0 (5 : Int32) x1 g7 else none)) fun v10 g9 => (some (v10, g9)) else bV ((if hK g7 x0 = 8 then f_X5_setsCourse γ x0 x1 (0 : Int32) (1 : Int32) g7 else none)) fun g11 => gR g11 x0 30 fun v12 => gA g11 101 v12 (0 : Int32) fun v13 => bV ((if hK g11 x0 = 8 then f_X5_setsCourse γ x0 x1 (1 : Int32) v13 g11 else none)) fun g14 => bV ((if hK g14 x0 = 8 then f_X5_writes γ x0 (-1 : Int32) (0 : Int32) x1 g14 else none)) fun g15 => pI γ g15 x0 49 (0 : Int32) fun g16 => bV ((if hK g16 x0 = 8 then f_X5_sendsAll γ x0 (0 : Int32) x1 g16 else none)) fun g17 => gI g17 x0 49 fun v18 => bI ((if hK g17 x0 = 8 then f_X5_does γ x0 v18 g17 else none)) fun v20 g19 => (some (v20, g19))) else bI ((if hK g5 x0 = 8 then f_X5_how γ x0 x1 g5 else none)) fun v22 g21 => bI ((if hK g21 x0 = 8 then f_X5_refuses γ x0 (3 : Int32) v22 g21 else none)) fun v24 g23 => (some (v24, g23))) else bI ((if hK g3 x0 = 8 then f_X5_refuses γ x0 (6 : Int32) (-1 : Int32) g3 else none)) fun v26 g25 => (some (v26, g25))))
theorem t_X5_asks (γ : GP) (l : Launch) (hl : l.stackTraces = false) (x0 : Nat) (x1 : Int32) (g : AH) : TrM ρI γ l ⟨"BanquetVotesModel", "asks", "(I)I"⟩ (ws_ ⟨"BanquetVotesModel", "asks", "(I)I"⟩ prog_25_method_50_code 2 (some .int)) 4 [.ref x0, .int x1] g (f_X5_asks γ x0 x1 g) := by
  refine TrM_of (plainFor_of_name (by decide)) (Nat.le_of_ble_eq_true rfl) ?_
  unfold f_X5_asks
  change AW ρI γ l ck_X5_asks g 0 [(0, .ref x0), (1, .int x1)] [] g _
  refine r_aload_n (pc := 0) dX5_asks_0 rfl 0 rfl ?_
  refine r_iload_n (pc := 1) dX5_asks_1 rfl 1 rfl ?_
  refine r_cI (pc := 2) (rest := []) (RunOK_chk (fun h => run_V (n := 1) (c9 := 8) (As := [.int x1]) (rest := []) (t_X5_isCourse γ l hl x0 x1 g) dX5_asks_2 q3527 q3529 qs66 q121 q3530 (by decide +kernel) rfl h ⟨rfl, by decide, by decide⟩ (Nat.le_of_ble_eq_true rfl) (Nat.le_of_ble_eq_true rfl) rfl (Nat.le_of_ble_eq_true rfl))) (fun v2 g1 => ?_)
  refine r_if_ne (tgt := 10) (pc := 5) dX5_asks_5 (by decide) ?_ ?_
  · skip
    refine r_iconst (v := (1 : Int32)) (pc := 8) dX5_asks_8 (by decide) ?_
    exact r_iret (pc := 9) dX5_asks_9 rfl
  · skip
    refine r_aload_n (pc := 10) dX5_asks_10 rfl 0 rfl ?_
    refine r_iconst (v := (-1 : Int32)) (pc := 11) dX5_asks_11 (by decide) ?_
    refine r_cI (pc := 12) (rest := []) (RunOK_chk (fun h => run_V (n := 1) (c9 := 8) (As := [.int (-1 : Int32)]) (rest := []) (t_X5_isOut γ l hl x0 (-1 : Int32) g1) dX5_asks_12 q3572 q3574 qs72 q121 q3575 (by decide +kernel) rfl h ⟨rfl, by decide, by decide⟩ (Nat.le_of_ble_eq_true rfl) (Nat.le_of_ble_eq_true rfl) rfl (Nat.le_of_ble_eq_true rfl))) (fun v4 g3 => ?_)
    refine r_if_eq (tgt := 26) (pc := 15) dX5_asks_15 (by decide) ?_ ?_
    · skip
      refine r_aload_n (pc := 26) dX5_asks_26 rfl 0 rfl ?_
      refine r_iload_n (pc := 27) dX5_asks_27 rfl 1 rfl ?_
      refine r_cI (pc := 28) (rest := []) (RunOK_chk (fun h => run_V (n := 1) (c9 := 8) (As := [.int x1]) (rest := []) (t_X5_how γ l hl x0 x1 g3) dX5_asks_28 q3531 q3533 qs67 q121 q3534 (by decide +kernel) rfl h ⟨rfl, by decide, by decide⟩ (Nat.le_of_ble_eq_true rfl) (Nat.le_of_ble_eq_true rfl) rfl (Nat.le_of_ble_eq_true rfl))) (fun v6 g5 => ?_)
      refine r_if_eq (tgt := 45) (pc := 31) dX5_asks_31 (by decide) ?_ ?_
      · skip
        refine r_aload_n (pc := 45) dX5_asks_45 rfl 0 rfl ?_
        refine r_iload_n (pc := 46) dX5_asks_46 rfl 1 rfl ?_
        refine r_cI (pc := 47) (rest := []) (RunOK_chk (fun h => run_V (n := 1) (c9 := 8) (As := [.int x1]) (rest := []) (t_X5_dishes γ l hl x0 x1 g5) dX5_asks_47 q3535 q3537 qs68 q121 q3538 (by decide +kernel) rfl h ⟨rfl, by decide, by decide⟩ (Nat.le_of_ble_eq_true rfl) (Nat.le_of_ble_eq_true rfl) rfl (Nat.le_of_ble_eq_true rfl))) (fun v8 g7 => ?_)
        refine r_if_ne (tgt := 60) (pc := 50) dX5_asks_50 (by decide) ?_ ?_
        · skip
          refine r_aload_n (pc := 53) dX5_asks_53 rfl 0 rfl ?_
          refine r_iconst (v := (5 : Int32)) (pc := 54) dX5_asks_54 (by decide) ?_
          refine r_iload_n (pc := 55) dX5_asks_55 rfl 1 rfl ?_
          refine r_cI (pc := 56) (rest := []) (RunOK_chk (fun h => run_V (n := 2) (c9 := 8) (As := [.int (5 : Int32), .int x1]) (rest := []) (t_X5_refuses γ l hl x0 (5 : Int32) x1 g7) dX5_asks_56 q3462 q3464 qs54 q121 q3465 (by decide +kernel) rfl h ⟨rfl, by decide, by decide⟩ (Nat.le_of_ble_eq_true rfl) (Nat.le_of_ble_eq_true rfl) rfl (Nat.le_of_ble_eq_true rfl))) (fun v10 g9 => ?_)
          exact r_iret (pc := 59) dX5_asks_59 rfl
        · skip
          refine r_aload_n (pc := 60) dX5_asks_60 rfl 0 rfl ?_
          refine r_iload_n (pc := 61) dX5_asks_61 rfl 1 rfl ?_
          refine r_iconst (v := (0 : Int32)) (pc := 62) dX5_asks_62 (by decide) ?_
          refine r_iconst (v := (1 : Int32)) (pc := 63) dX5_asks_63 (by decide) ?_
          refine r_cV (pc := 64) (rest := []) (RunOK_chk (fun h => run_V (n := 3) (c9 := 8) (As := [.int x1, .int (0 : Int32), .int (1 : Int32)]) (rest := []) (t_X5_setsCourse γ l hl x0 x1 (0 : Int32) (1 : Int32) g7) dX5_asks_64 q3519 q3521 qs65 q121 q3522 (by decide +kernel) rfl h ⟨rfl, by decide, by decide⟩ (Nat.le_of_ble_eq_true rfl) (Nat.le_of_ble_eq_true rfl) rfl (Nat.le_of_ble_eq_true rfl))) (fun g11 => ?_)
          refine r_aload_n (pc := 67) dX5_asks_67 rfl 0 rfl ?_
          refine r_iload_n (pc := 68) dX5_asks_68 rfl 1 rfl ?_
          refine r_iconst (v := (1 : Int32)) (pc := 69) dX5_asks_69 (by decide) ?_
          refine r_aload_n (pc := 70) dX5_asks_70 rfl 0 rfl ?_
          refine r_getR (f := 30) (pc := 71) dX5_asks_71 q3378 (Or.inl rfl) rfl (fun v12 => ?_)
          refine r_iconst (v := (0 : Int32)) (pc := 74) dX5_asks_74 (by decide) ?_
          refine r_iald (pc := 75) dX5_asks_75 (fun v13 => ?_)
          refine r_cV (pc := 76) (rest := []) (RunOK_chk (fun h => run_V (n := 3) (c9 := 8) (As := [.int x1, .int (1 : Int32), .int v13]) (rest := []) (t_X5_setsCourse γ l hl x0 x1 (1 : Int32) v13 g11) dX5_asks_76 q3519 q3521 qs65 q121 q3522 (by decide +kernel) rfl h ⟨rfl, by decide, by decide⟩ (Nat.le_of_ble_eq_true rfl) (Nat.le_of_ble_eq_true rfl) rfl (Nat.le_of_ble_eq_true rfl))) (fun g14 => ?_)
          refine r_aload_n (pc := 79) dX5_asks_79 rfl 0 rfl ?_
          refine r_iconst (v := (-1 : Int32)) (pc := 80) dX5_asks_80 (by decide) ?_
          refine r_iconst (v := (0 : Int32)) (pc := 81) dX5_asks_81 (by decide) ?_
          refine r_iload_n (pc := 82) dX5_asks_82 rfl 1 rfl ?_
          refine r_cV (pc := 83) (rest := []) (RunOK_chk (fun h => run_V (n := 3) (c9 := 8) (As := [.int (-1 : Int32), .int (0 : Int32), .int x1]) (rest := []) (t_X5_writes γ l hl x0 (-1 : Int32) (0 : Int32) x1 g14) dX5_asks_83 q3576 q3578 qs73 q121 q3579 (by decide +kernel) rfl h ⟨rfl, by decide, by decide⟩ (Nat.le_of_ble_eq_true rfl) (Nat.le_of_ble_eq_true rfl) rfl (Nat.le_of_ble_eq_true rfl))) (fun g15 => ?_)
          refine r_aload_n (pc := 86) dX5_asks_86 rfl 0 rfl ?_
          refine r_iconst (v := (0 : Int32)) (pc := 87) dX5_asks_87 (by decide) ?_
          refine r_putI (f := 49) (pc := 88) dX5_asks_88 q3397 (Or.inl rfl) (Or.inl rfl) rfl (fun g16 => ?_)
          refine r_aload_n (pc := 91) dX5_asks_91 rfl 0 rfl ?_
          refine r_iconst (v := (0 : Int32)) (pc := 92) dX5_asks_92 (by decide) ?_
          refine r_iload_n (pc := 93) dX5_asks_93 rfl 1 rfl ?_
          refine r_cV (pc := 94) (rest := []) (RunOK_chk (fun h => run_V (n := 2) (c9 := 8) (As := [.int (0 : Int32), .int x1]) (rest := []) (t_X5_sendsAll γ l hl x0 (0 : Int32) x1 g16) dX5_asks_94 q3580 q3582 qs74 q121 q3583 (by decide +kernel) rfl h ⟨rfl, by decide, by decide⟩ (Nat.le_of_ble_eq_true rfl) (Nat.le_of_ble_eq_true rfl) rfl (Nat.le_of_ble_eq_true rfl))) (fun g17 => ?_)
          refine r_aload_n (pc := 97) dX5_asks_97 rfl 0 rfl ?_
          refine r_aload_n (pc := 98) dX5_asks_98 rfl 0 rfl ?_
          refine r_getI (f := 49) (pc := 99) dX5_asks_99 q3397 (Or.inl rfl) rfl (fun v18 => ?_)
          refine r_cI (pc := 102) (rest := []) (RunOK_chk (fun h => run_V (n := 1) (c9 := 8) (As := [.int v18]) (rest := []) (t_X5_does γ l hl x0 v18 g17) dX5_asks_102 q3588 q3590 qs76 q121 q3591 (by decide +kernel) rfl h ⟨rfl, by decide, by decide⟩ (Nat.le_of_ble_eq_true rfl) (Nat.le_of_ble_eq_true rfl) rfl (Nat.le_of_ble_eq_true rfl))) (fun v20 g19 => ?_)
          exact r_iret (pc := 105) dX5_asks_105 rfl
      · skip
        refine r_aload_n (pc := 34) dX5_asks_34 rfl 0 rfl ?_
        refine r_iconst (v := (3 : Int32)) (pc := 35) dX5_asks_35 (by decide) ?_
        refine r_aload_n (pc := 36) dX5_asks_36 rfl 0 rfl ?_
        refine r_iload_n (pc := 37) dX5_asks_37 rfl 1 rfl ?_
        refine r_cI (pc := 38) (rest := [.int (3 : Int32), .ref x0]) (RunOK_chk (fun h => run_V (n := 1) (c9 := 8) (As := [.int x1]) (rest := [.int (3 : Int32), .ref x0]) (t_X5_how γ l hl x0 x1 g5) dX5_asks_38 q3531 q3533 qs67 q121 q3534 (by decide +kernel) rfl h ⟨rfl, by decide, by decide⟩ (Nat.le_of_ble_eq_true rfl) (Nat.le_of_ble_eq_true rfl) rfl (Nat.le_of_ble_eq_true rfl))) (fun v22 g21 => ?_)
        refine r_cI (pc := 41) (rest := []) (RunOK_chk (fun h => run_V (n := 2) (c9 := 8) (As := [.int (3 : Int32), .int v22]) (rest := []) (t_X5_refuses γ l hl x0 (3 : Int32) v22 g21) dX5_asks_41 q3462 q3464 qs54 q121 q3465 (by decide +kernel) rfl h ⟨rfl, by decide, by decide⟩ (Nat.le_of_ble_eq_true rfl) (Nat.le_of_ble_eq_true rfl) rfl (Nat.le_of_ble_eq_true rfl))) (fun v24 g23 => ?_)
        exact r_iret (pc := 44) dX5_asks_44 rfl
    · skip
      refine r_aload_n (pc := 18) dX5_asks_18 rfl 0 rfl ?_
      refine r_bipush (v := (6 : Int32)) (pc := 19) dX5_asks_19 (by decide) ?_
      refine r_iconst (v := (-1 : Int32)) (pc := 21) dX5_asks_21 (by decide) ?_
      refine r_cI (pc := 22) (rest := []) (RunOK_chk (fun h => run_V (n := 2) (c9 := 8) (As := [.int (6 : Int32), .int (-1 : Int32)]) (rest := []) (t_X5_refuses γ l hl x0 (6 : Int32) (-1 : Int32) g3) dX5_asks_22 q3462 q3464 qs54 q121 q3465 (by decide +kernel) rfl h ⟨rfl, by decide, by decide⟩ (Nat.le_of_ble_eq_true rfl) (Nat.le_of_ble_eq_true rfl) rfl (Nat.le_of_ble_eq_true rfl))) (fun v26 g25 => ?_)
      exact r_iret (pc := 25) dX5_asks_25 rfl
abbrev ck_X5_endsAt : CK := ("BanquetVotesModel", prog_25_method_51_code, 2, (some .int), "endsAt", [], 2)
def f_X5_endsAt (γ : GP) (x0 : Nat) (x1 : Int32) (g : AH) : Option (Int32 × AH) := (if x1 = 0 then gI g x0 47 fun v1 => bI ((if hK g x0 = 8 then f_X5_keeps γ x0 v1 g else none)) fun v3 g2 => (some (v3, g2)) else jn (fun (z4 : Int32) (z5 : Nat) (g6 : AH) => bI ((if hK g6 z5 = 8 then f_X5_raises γ z5 z4 g6 else none)) fun v9 g8 => (some (v9, g8))) (fun (j7 : Int32 → Nat → AH → Option (Int32 × AH)) => (if x1 = (1 : Int32) then j7 (1 : Int32) x0 g else j7 (2 : Int32) x0 g)))
theorem t_X5_endsAt (γ : GP) (l : Launch) (hl : l.stackTraces = false) (x0 : Nat) (x1 : Int32) (g : AH) : TrM ρI γ l ⟨"BanquetVotesModel", "endsAt", "(I)I"⟩ (ws_ ⟨"BanquetVotesModel", "endsAt", "(I)I"⟩ prog_25_method_51_code 2 (some .int)) 2 [.ref x0, .int x1] g (f_X5_endsAt γ x0 x1 g) := by
  refine TrM_of (plainFor_of_name (by decide)) (Nat.le_of_ble_eq_true rfl) ?_
  unfold f_X5_endsAt
  change AW ρI γ l ck_X5_endsAt g 0 [(0, .ref x0), (1, .int x1)] [] g _
  refine r_iload_n (pc := 0) dX5_endsAt_0 rfl 1 rfl ?_
  refine r_if_ne (tgt := 15) (pc := 1) dX5_endsAt_1 (by decide) ?_ ?_
  · skip
    refine r_aload_n (pc := 4) dX5_endsAt_4 rfl 0 rfl ?_
    refine r_aload_n (pc := 5) dX5_endsAt_5 rfl 0 rfl ?_
    refine r_getI (f := 47) (pc := 6) dX5_endsAt_6 q3395 (Or.inl rfl) rfl (fun v1 => ?_)
    refine r_cI (pc := 9) (rest := []) (RunOK_chk (fun h => run_V (n := 1) (c9 := 8) (As := [.int v1]) (rest := []) (t_X5_keeps γ l hl x0 v1 g) dX5_endsAt_9 q3470 q3472 qs56 q121 q3473 (by decide +kernel) rfl h ⟨rfl, by decide, by decide⟩ (Nat.le_of_ble_eq_true rfl) (Nat.le_of_ble_eq_true rfl) rfl (Nat.le_of_ble_eq_true rfl))) (fun v3 g2 => ?_)
    refine r_goto (tgt := 29) (pc := 12) dX5_endsAt_12 (by decide) ?_
    exact r_iret (pc := 29) dX5_endsAt_29 rfl
  · skip
    refine r_aload_n (pc := 15) dX5_endsAt_15 rfl 0 rfl ?_
    refine r_iload_n (pc := 16) dX5_endsAt_16 rfl 1 rfl ?_
    refine r_iconst (v := (1 : Int32)) (pc := 17) dX5_endsAt_17 (by decide) ?_
    refine AW_jn (P := fun (j : Int32 → Nat → AH → Option (Int32 × AH)) => ∀ (z4 : Int32) (z5 : Nat) (g6 : AH), AW ρI γ l ck_X5_endsAt g 26 [] [.int z4, .ref z5] g6 (j z4 z5 g6)) (fun z4 z5 g6 => ?_) (fun j7 h_j7 => ?_)
    · skip
      refine r_cI (pc := 26) (rest := []) (RunOK_chk (fun h => run_V (n := 1) (c9 := 8) (As := [.int z4]) (rest := []) (t_X5_raises γ l hl z5 z4 g6) dX5_endsAt_26 q3458 q3460 qs53 q121 q3461 (by decide +kernel) rfl h ⟨rfl, by decide, by decide⟩ (Nat.le_of_ble_eq_true rfl) (Nat.le_of_ble_eq_true rfl) rfl (Nat.le_of_ble_eq_true rfl))) (fun v9 g8 => ?_)
      exact r_iret (pc := 29) dX5_endsAt_29 rfl
    · skip
      refine r_icmp_ne (tgt := 25) (pc := 18) dX5_endsAt_18 (by decide) ?_ ?_
      · skip
        refine r_iconst (v := (1 : Int32)) (pc := 21) dX5_endsAt_21 (by decide) ?_
        refine r_goto (tgt := 26) (pc := 22) dX5_endsAt_22 (by decide) ?_
        refine AW_sub [] rfl ?_
        exact h_j7 (1 : Int32) x0 g
      · skip
        refine r_iconst (v := (2 : Int32)) (pc := 25) dX5_endsAt_25 (by decide) ?_
        refine AW_sub [] rfl ?_
        exact h_j7 (2 : Int32) x0 g
abbrev ck_X5_ask : CK := ("BanquetVotesModel", prog_25_method_52_code, 2, (some .int), "ask", [], 5)
def f_X5_ask (γ : GP) (x0 : Nat) (x1 : Int32) (g : AH) : Option (Int32 × AH) := bV ((if hK g x0 = 8 then f_X5_tries γ x0 g else none)) fun g1 => bI ((if hK g1 x0 = 8 then f_X5_asks γ x0 x1 g1 else none)) fun v3 g2 => bI ((if hK g2 x0 = 8 then f_X5_endsAt γ x0 v3 g2 else none)) fun v5 g4 => (some (v5, g4))
theorem t_X5_ask (γ : GP) (l : Launch) (hl : l.stackTraces = false) (x0 : Nat) (x1 : Int32) (g : AH) : TrM ρI γ l ⟨"BanquetVotesModel", "ask", "(I)I"⟩ (ws_ ⟨"BanquetVotesModel", "ask", "(I)I"⟩ prog_25_method_52_code 2 (some .int)) 5 [.ref x0, .int x1] g (f_X5_ask γ x0 x1 g) := by
  refine TrM_of (plainFor_of_name (by decide)) (Nat.le_of_ble_eq_true rfl) ?_
  unfold f_X5_ask
  change AW ρI γ l ck_X5_ask g 0 [(0, .ref x0), (1, .int x1)] [] g _
  refine r_aload_n (pc := 0) dX5_ask_0 rfl 0 rfl ?_
  refine r_cV (pc := 1) (rest := []) (RunOK_chk (fun h => run_V (n := 0) (c9 := 8) (As := []) (rest := []) (t_X5_tries γ l hl x0 g) dX5_ask_1 q3451 q3453 qs52 q121 q3454 (by decide +kernel) rfl h ⟨rfl, by decide, by decide⟩ (Nat.le_of_ble_eq_true rfl) (Nat.le_of_ble_eq_true rfl) rfl (Nat.le_of_ble_eq_true rfl))) (fun g1 => ?_)
  refine r_aload_n (pc := 4) dX5_ask_4 rfl 0 rfl ?_
  refine r_aload_n (pc := 5) dX5_ask_5 rfl 0 rfl ?_
  refine r_iload_n (pc := 6) dX5_ask_6 rfl 1 rfl ?_
  refine r_cI (pc := 7) (rest := [.ref x0]) (RunOK_chk (fun h => run_V (n := 1) (c9 := 8) (As := [.int x1]) (rest := [.ref x0]) (t_X5_asks γ l hl x0 x1 g1) dX5_ask_7 q3568 q3570 qs71 q121 q3571 (by decide +kernel) rfl h ⟨rfl, by decide, by decide⟩ (Nat.le_of_ble_eq_true rfl) (Nat.le_of_ble_eq_true rfl) rfl (Nat.le_of_ble_eq_true rfl))) (fun v3 g2 => ?_)
  refine r_cI (pc := 10) (rest := []) (RunOK_chk (fun h => run_V (n := 1) (c9 := 8) (As := [.int v3]) (rest := []) (t_X5_endsAt γ l hl x0 v3 g2) dX5_ask_10 q3592 q3594 qs77 q121 q3595 (by decide +kernel) rfl h ⟨rfl, by decide, by decide⟩ (Nat.le_of_ble_eq_true rfl) (Nat.le_of_ble_eq_true rfl) rfl (Nat.le_of_ble_eq_true rfl))) (fun v5 g4 => ?_)
  exact r_iret (pc := 13) dX5_ask_13 rfl
abbrev ck_X5_decides : CK := ("BanquetVotesModel", prog_25_method_33_code, 3, none, "decides", [], 2)
def f_X5_decides (γ : GP) (x0 : Nat) (x1 : Int32) (x2 : Int32) (g : AH) : Option (AH) := jn (fun (z1 : Int32) (z2 : Int32) (z3 : Int32) (z4 : Nat) (g5 : AH) => bV ((if hK g5 z4 = 8 then f_X5_setsCourse γ z4 z3 z2 z1 g5 else none)) fun g7 => gR g7 x0 30 fun v8 => gA g7 101 v8 (0 : Int32) fun v9 => bV ((if hK g7 x0 = 8 then f_X5_setsCourse γ x0 x1 (2 : Int32) v9 g7 else none)) fun g10 => jn (fun (z11 : Int32) (z12 : Int32) (z13 : Nat) (g14 : AH) => bV ((if hK g14 z13 = 8 then f_X5_writes γ z13 z12 z11 x1 g14 else none)) fun g16 => gI g16 x0 48 fun v17 => pI γ g16 x0 48 (v17 + (1 : Int32)) fun g18 => (some g18)) (fun (j15 : Int32 → Int32 → Nat → AH → Option (AH)) => (if x2 = 0 then j15 (2 : Int32) (-1 : Int32) x0 g10 else j15 (1 : Int32) (-1 : Int32) x0 g10))) (fun (j6 : Int32 → Int32 → Int32 → Nat → AH → Option (AH)) => (if x2 = 0 then j6 (3 : Int32) (0 : Int32) x1 x0 g else j6 (2 : Int32) (0 : Int32) x1 x0 g))
theorem t_X5_decides (γ : GP) (l : Launch) (hl : l.stackTraces = false) (x0 : Nat) (x1 : Int32) (x2 : Int32) (g : AH) : TrM ρV γ l ⟨"BanquetVotesModel", "decides", "(IZ)V"⟩ (ws_ ⟨"BanquetVotesModel", "decides", "(IZ)V"⟩ prog_25_method_33_code 3 none) 2 [.ref x0, .int x1, .int x2] g (f_X5_decides γ x0 x1 x2 g) := by
  refine TrM_of (plainFor_of_name (by decide)) (Nat.le_of_ble_eq_true rfl) ?_
  unfold f_X5_decides
  change AW ρV γ l ck_X5_decides g 0 [(0, .ref x0), (1, .int x1), (2, .int x2)] [] g _
  refine r_aload_n (pc := 0) dX5_decides_0 rfl 0 rfl ?_
  refine r_iload_n (pc := 1) dX5_decides_1 rfl 1 rfl ?_
  refine r_iconst (v := (0 : Int32)) (pc := 2) dX5_decides_2 (by decide) ?_
  refine r_iload_n (pc := 3) dX5_decides_3 rfl 2 rfl ?_
  refine AW_jn (P := fun (j : Int32 → Int32 → Int32 → Nat → AH → Option (AH)) => ∀ (z1 : Int32) (z2 : Int32) (z3 : Int32) (z4 : Nat) (g5 : AH), AW ρV γ l ck_X5_decides g 12 [(0, .ref x0), (1, .int x1), (2, .int x2)] [.int z1, .int z2, .int z3, .ref z4] g5 (j z1 z2 z3 z4 g5)) (fun z1 z2 z3 z4 g5 => ?_) (fun j6 h_j6 => ?_)
  · skip
    refine r_cV (pc := 12) (rest := []) (RunOK_chk (fun h => run_V (n := 3) (c9 := 8) (As := [.int z3, .int z2, .int z1]) (rest := []) (t_X5_setsCourse γ l hl z4 z3 z2 z1 g5) dX5_decides_12 q3519 q3521 qs65 q121 q3522 (by decide +kernel) rfl h ⟨rfl, by decide, by decide⟩ (Nat.le_of_ble_eq_true rfl) (Nat.le_of_ble_eq_true rfl) rfl (Nat.le_of_ble_eq_true rfl))) (fun g7 => ?_)
    refine r_aload_n (pc := 15) dX5_decides_15 rfl 0 rfl ?_
    refine r_iload_n (pc := 16) dX5_decides_16 rfl 1 rfl ?_
    refine r_iconst (v := (2 : Int32)) (pc := 17) dX5_decides_17 (by decide) ?_
    refine r_aload_n (pc := 18) dX5_decides_18 rfl 0 rfl ?_
    refine r_getR (f := 30) (pc := 19) dX5_decides_19 q3378 (Or.inl rfl) rfl (fun v8 => ?_)
    refine r_iconst (v := (0 : Int32)) (pc := 22) dX5_decides_22 (by decide) ?_
    refine r_iald (pc := 23) dX5_decides_23 (fun v9 => ?_)
    refine r_cV (pc := 24) (rest := []) (RunOK_chk (fun h => run_V (n := 3) (c9 := 8) (As := [.int x1, .int (2 : Int32), .int v9]) (rest := []) (t_X5_setsCourse γ l hl x0 x1 (2 : Int32) v9 g7) dX5_decides_24 q3519 q3521 qs65 q121 q3522 (by decide +kernel) rfl h ⟨rfl, by decide, by decide⟩ (Nat.le_of_ble_eq_true rfl) (Nat.le_of_ble_eq_true rfl) rfl (Nat.le_of_ble_eq_true rfl))) (fun g10 => ?_)
    refine r_aload_n (pc := 27) dX5_decides_27 rfl 0 rfl ?_
    refine r_iconst (v := (-1 : Int32)) (pc := 28) dX5_decides_28 (by decide) ?_
    refine r_iload_n (pc := 29) dX5_decides_29 rfl 2 rfl ?_
    refine AW_jn (P := fun (j : Int32 → Int32 → Nat → AH → Option (AH)) => ∀ (z11 : Int32) (z12 : Int32) (z13 : Nat) (g14 : AH), AW ρV γ l ck_X5_decides g 38 [(0, .ref x0), (1, .int x1)] [.int z11, .int z12, .ref z13] g14 (j z11 z12 z13 g14)) (fun z11 z12 z13 g14 => ?_) (fun j15 h_j15 => ?_)
    · skip
      refine r_iload_n (pc := 38) dX5_decides_38 rfl 1 rfl ?_
      refine r_cV (pc := 39) (rest := []) (RunOK_chk (fun h => run_V (n := 3) (c9 := 8) (As := [.int z12, .int z11, .int x1]) (rest := []) (t_X5_writes γ l hl z13 z12 z11 x1 g14) dX5_decides_39 q3576 q3578 qs73 q121 q3579 (by decide +kernel) rfl h ⟨rfl, by decide, by decide⟩ (Nat.le_of_ble_eq_true rfl) (Nat.le_of_ble_eq_true rfl) rfl (Nat.le_of_ble_eq_true rfl))) (fun g16 => ?_)
      refine r_aload_n (pc := 42) dX5_decides_42 rfl 0 rfl ?_
      refine r_dup (pc := 43) dX5_decides_43 rfl ?_
      refine r_getI (f := 48) (pc := 44) dX5_decides_44 q3396 (Or.inl rfl) rfl (fun v17 => ?_)
      refine r_iconst (v := (1 : Int32)) (pc := 47) dX5_decides_47 (by decide) ?_
      refine r_iadd (pc := 48) dX5_decides_48 ?_
      refine r_putI (f := 48) (pc := 49) dX5_decides_49 q3396 (Or.inl rfl) (Or.inl rfl) rfl (fun g18 => ?_)
      exact r_vret (pc := 52) dX5_decides_52 rfl
    · skip
      refine r_if_eq (tgt := 37) (pc := 30) dX5_decides_30 (by decide) ?_ ?_
      · skip
        refine r_iconst (v := (2 : Int32)) (pc := 37) dX5_decides_37 (by decide) ?_
        refine AW_sub [0, 1] rfl ?_
        exact h_j15 (2 : Int32) (-1 : Int32) x0 g10
      · skip
        refine r_iconst (v := (1 : Int32)) (pc := 33) dX5_decides_33 (by decide) ?_
        refine r_goto (tgt := 38) (pc := 34) dX5_decides_34 (by decide) ?_
        refine AW_sub [0, 1] rfl ?_
        exact h_j15 (1 : Int32) (-1 : Int32) x0 g10
  · skip
    refine r_if_eq (tgt := 11) (pc := 4) dX5_decides_4 (by decide) ?_ ?_
    · skip
      refine r_iconst (v := (3 : Int32)) (pc := 11) dX5_decides_11 (by decide) ?_
      exact h_j6 (3 : Int32) (0 : Int32) x1 x0 g
    · skip
      refine r_iconst (v := (2 : Int32)) (pc := 7) dX5_decides_7 (by decide) ?_
      refine r_goto (tgt := 12) (pc := 8) dX5_decides_8 (by decide) ?_
      exact h_j6 (2 : Int32) (0 : Int32) x1 x0 g
abbrev ck_X5_decision : CK := ("BanquetVotesModel", prog_25_method_34_code, 2, (some .int), "decision", [], 3)
def f_X5_decision (γ : GP) (x0 : Nat) (x1 : Int32) (g : AH) : Option (Int32 × AH) := bI ((if hK g x0 = 8 then f_X5_how γ x0 x1 g else none)) fun v2 g1 => (if v2 = (2 : Int32) then (some ((3 : Int32), g1)) else (some ((4 : Int32), g1)))
theorem t_X5_decision (γ : GP) (l : Launch) (hl : l.stackTraces = false) (x0 : Nat) (x1 : Int32) (g : AH) : TrM ρI γ l ⟨"BanquetVotesModel", "decision", "(I)I"⟩ (ws_ ⟨"BanquetVotesModel", "decision", "(I)I"⟩ prog_25_method_34_code 2 (some .int)) 3 [.ref x0, .int x1] g (f_X5_decision γ x0 x1 g) := by
  refine TrM_of (plainFor_of_name (by decide)) (Nat.le_of_ble_eq_true rfl) ?_
  unfold f_X5_decision
  change AW ρI γ l ck_X5_decision g 0 [(0, .ref x0), (1, .int x1)] [] g _
  refine r_aload_n (pc := 0) dX5_decision_0 rfl 0 rfl ?_
  refine r_iload_n (pc := 1) dX5_decision_1 rfl 1 rfl ?_
  refine r_cI (pc := 2) (rest := []) (RunOK_chk (fun h => run_V (n := 1) (c9 := 8) (As := [.int x1]) (rest := []) (t_X5_how γ l hl x0 x1 g) dX5_decision_2 q3531 q3533 qs67 q121 q3534 (by decide +kernel) rfl h ⟨rfl, by decide, by decide⟩ (Nat.le_of_ble_eq_true rfl) (Nat.le_of_ble_eq_true rfl) rfl (Nat.le_of_ble_eq_true rfl))) (fun v2 g1 => ?_)
  refine r_iconst (v := (2 : Int32)) (pc := 5) dX5_decision_5 (by decide) ?_
  refine r_icmp_ne (tgt := 13) (pc := 6) dX5_decision_6 (by decide) ?_ ?_
  · skip
    refine r_iconst (v := (3 : Int32)) (pc := 9) dX5_decision_9 (by decide) ?_
    refine r_goto (tgt := 14) (pc := 10) dX5_decision_10 (by decide) ?_
    exact r_iret (pc := 14) dX5_decision_14 rfl
  · skip
    refine r_iconst (v := (4 : Int32)) (pc := 13) dX5_decision_13 (by decide) ?_
    exact r_iret (pc := 14) dX5_decision_14 rfl
abbrev ck_X5_decidesAndSends : CK := ("BanquetVotesModel", prog_25_method_35_code, 3, none, "decidesAndSends", [], 4)
def f_X5_decidesAndSends (γ : GP) (x0 : Nat) (x1 : Int32) (x2 : Int32) (g : AH) : Option (AH) := bV ((if hK g x0 = 8 then f_X5_decides γ x0 x1 x2 g else none)) fun g1 => bI ((if hK g1 x0 = 8 then f_X5_decision γ x0 x1 g1 else none)) fun v3 g2 => bV ((if hK g2 x0 = 8 then f_X5_sendsAll γ x0 v3 x1 g2 else none)) fun g4 => (some g4)
theorem t_X5_decidesAndSends (γ : GP) (l : Launch) (hl : l.stackTraces = false) (x0 : Nat) (x1 : Int32) (x2 : Int32) (g : AH) : TrM ρV γ l ⟨"BanquetVotesModel", "decidesAndSends", "(IZ)V"⟩ (ws_ ⟨"BanquetVotesModel", "decidesAndSends", "(IZ)V"⟩ prog_25_method_35_code 3 none) 4 [.ref x0, .int x1, .int x2] g (f_X5_decidesAndSends γ x0 x1 x2 g) := by
  refine TrM_of (plainFor_of_name (by decide)) (Nat.le_of_ble_eq_true rfl) ?_
  unfold f_X5_decidesAndSends
  change AW ρV γ l ck_X5_decidesAndSends g 0 [(0, .ref x0), (1, .int x1), (2, .int x2)] [] g _
  refine r_aload_n (pc := 0) dX5_decidesAndSends_0 rfl 0 rfl ?_
  refine r_iload_n (pc := 1) dX5_decidesAndSends_1 rfl 1 rfl ?_
  refine r_iload_n (pc := 2) dX5_decidesAndSends_2 rfl 2 rfl ?_
  refine r_cV (pc := 3) (rest := []) (RunOK_chk (fun h => run_V (n := 2) (c9 := 8) (As := [.int x1, .int x2]) (rest := []) (t_X5_decides γ l hl x0 x1 x2 g) dX5_decidesAndSends_3 q3608 q3610 qs80 q121 q3611 (by decide +kernel) rfl h ⟨rfl, by decide, by decide⟩ (Nat.le_of_ble_eq_true rfl) (Nat.le_of_ble_eq_true rfl) rfl (Nat.le_of_ble_eq_true rfl))) (fun g1 => ?_)
  refine r_aload_n (pc := 6) dX5_decidesAndSends_6 rfl 0 rfl ?_
  refine r_aload_n (pc := 7) dX5_decidesAndSends_7 rfl 0 rfl ?_
  refine r_iload_n (pc := 8) dX5_decidesAndSends_8 rfl 1 rfl ?_
  refine r_cI (pc := 9) (rest := [.ref x0]) (RunOK_chk (fun h => run_V (n := 1) (c9 := 8) (As := [.int x1]) (rest := [.ref x0]) (t_X5_decision γ l hl x0 x1 g1) dX5_decidesAndSends_9 q3612 q3614 qs81 q121 q3615 (by decide +kernel) rfl h ⟨rfl, by decide, by decide⟩ (Nat.le_of_ble_eq_true rfl) (Nat.le_of_ble_eq_true rfl) rfl (Nat.le_of_ble_eq_true rfl))) (fun v3 g2 => ?_)
  refine r_iload_n (pc := 12) dX5_decidesAndSends_12 rfl 1 rfl ?_
  refine r_cV (pc := 13) (rest := []) (RunOK_chk (fun h => run_V (n := 2) (c9 := 8) (As := [.int v3, .int x1]) (rest := []) (t_X5_sendsAll γ l hl x0 v3 x1 g2) dX5_decidesAndSends_13 q3580 q3582 qs74 q121 q3583 (by decide +kernel) rfl h ⟨rfl, by decide, by decide⟩ (Nat.le_of_ble_eq_true rfl) (Nat.le_of_ble_eq_true rfl) rfl (Nat.le_of_ble_eq_true rfl))) (fun g4 => ?_)
  exact r_vret (pc := 16) dX5_decidesAndSends_16 rfl
abbrev ck_X5_cancels : CK := ("BanquetVotesModel", prog_25_method_53_code, 2, (some .int), "cancels", [], 5)
def f_X5_cancels (γ : GP) (x0 : Nat) (x1 : Int32) (g : AH) : Option (Int32 × AH) := bI ((if hK g x0 = 8 then f_X5_isCourse γ x0 x1 g else none)) fun v2 g1 => (if v2 = 0 then (some ((1 : Int32), g1)) else bI ((if hK g1 x0 = 8 then f_X5_isOut γ x0 (-1 : Int32) g1 else none)) fun v4 g3 => (if v4 = 0 then bI ((if hK g3 x0 = 8 then f_X5_how γ x0 x1 g3 else none)) fun v6 g5 => (if v6 ≤ (1 : Int32) then pI γ g5 x0 49 (0 : Int32) fun g7 => bV ((if hK g7 x0 = 8 then f_X5_decidesAndSends γ x0 x1 (0 : Int32) g7 else none)) fun g8 => gI g8 x0 49 fun v9 => bI ((if hK g8 x0 = 8 then f_X5_does γ x0 v9 g8 else none)) fun v11 g10 => (some (v11, g10)) else bI ((if hK g5 x0 = 8 then f_X5_how γ x0 x1 g5 else none)) fun v13 g12 => bI ((if hK g12 x0 = 8 then f_X5_refuses γ x0 (7 : Int32) v13 g12 else none)) fun v15 g14 => (some (v15, g14))) else bI ((if hK g3 x0 = 8 then f_X5_refuses γ x0 (6 : Int32) (-1 : Int32) g3 else none)) fun v17 g16 => (some (v17, g16))))
theorem t_X5_cancels (γ : GP) (l : Launch) (hl : l.stackTraces = false) (x0 : Nat) (x1 : Int32) (g : AH) : TrM ρI γ l ⟨"BanquetVotesModel", "cancels", "(I)I"⟩ (ws_ ⟨"BanquetVotesModel", "cancels", "(I)I"⟩ prog_25_method_53_code 2 (some .int)) 5 [.ref x0, .int x1] g (f_X5_cancels γ x0 x1 g) := by
  refine TrM_of (plainFor_of_name (by decide)) (Nat.le_of_ble_eq_true rfl) ?_
  unfold f_X5_cancels
  change AW ρI γ l ck_X5_cancels g 0 [(0, .ref x0), (1, .int x1)] [] g _
  refine r_aload_n (pc := 0) dX5_cancels_0 rfl 0 rfl ?_
  refine r_iload_n (pc := 1) dX5_cancels_1 rfl 1 rfl ?_
  refine r_cI (pc := 2) (rest := []) (RunOK_chk (fun h => run_V (n := 1) (c9 := 8) (As := [.int x1]) (rest := []) (t_X5_isCourse γ l hl x0 x1 g) dX5_cancels_2 q3527 q3529 qs66 q121 q3530 (by decide +kernel) rfl h ⟨rfl, by decide, by decide⟩ (Nat.le_of_ble_eq_true rfl) (Nat.le_of_ble_eq_true rfl) rfl (Nat.le_of_ble_eq_true rfl))) (fun v2 g1 => ?_)
  refine r_if_ne (tgt := 10) (pc := 5) dX5_cancels_5 (by decide) ?_ ?_
  · skip
    refine r_iconst (v := (1 : Int32)) (pc := 8) dX5_cancels_8 (by decide) ?_
    exact r_iret (pc := 9) dX5_cancels_9 rfl
  · skip
    refine r_aload_n (pc := 10) dX5_cancels_10 rfl 0 rfl ?_
    refine r_iconst (v := (-1 : Int32)) (pc := 11) dX5_cancels_11 (by decide) ?_
    refine r_cI (pc := 12) (rest := []) (RunOK_chk (fun h => run_V (n := 1) (c9 := 8) (As := [.int (-1 : Int32)]) (rest := []) (t_X5_isOut γ l hl x0 (-1 : Int32) g1) dX5_cancels_12 q3572 q3574 qs72 q121 q3575 (by decide +kernel) rfl h ⟨rfl, by decide, by decide⟩ (Nat.le_of_ble_eq_true rfl) (Nat.le_of_ble_eq_true rfl) rfl (Nat.le_of_ble_eq_true rfl))) (fun v4 g3 => ?_)
    refine r_if_eq (tgt := 26) (pc := 15) dX5_cancels_15 (by decide) ?_ ?_
    · skip
      refine r_aload_n (pc := 26) dX5_cancels_26 rfl 0 rfl ?_
      refine r_iload_n (pc := 27) dX5_cancels_27 rfl 1 rfl ?_
      refine r_cI (pc := 28) (rest := []) (RunOK_chk (fun h => run_V (n := 1) (c9 := 8) (As := [.int x1]) (rest := []) (t_X5_how γ l hl x0 x1 g3) dX5_cancels_28 q3531 q3533 qs67 q121 q3534 (by decide +kernel) rfl h ⟨rfl, by decide, by decide⟩ (Nat.le_of_ble_eq_true rfl) (Nat.le_of_ble_eq_true rfl) rfl (Nat.le_of_ble_eq_true rfl))) (fun v6 g5 => ?_)
      refine r_iconst (v := (1 : Int32)) (pc := 31) dX5_cancels_31 (by decide) ?_
      refine r_icmp_le (tgt := 47) (pc := 32) dX5_cancels_32 (by decide) ?_ ?_
      · skip
        refine r_aload_n (pc := 47) dX5_cancels_47 rfl 0 rfl ?_
        refine r_iconst (v := (0 : Int32)) (pc := 48) dX5_cancels_48 (by decide) ?_
        refine r_putI (f := 49) (pc := 49) dX5_cancels_49 q3397 (Or.inl rfl) (Or.inl rfl) rfl (fun g7 => ?_)
        refine r_aload_n (pc := 52) dX5_cancels_52 rfl 0 rfl ?_
        refine r_iload_n (pc := 53) dX5_cancels_53 rfl 1 rfl ?_
        refine r_iconst (v := (0 : Int32)) (pc := 54) dX5_cancels_54 (by decide) ?_
        refine r_cV (pc := 55) (rest := []) (RunOK_chk (fun h => run_V (n := 2) (c9 := 8) (As := [.int x1, .int (0 : Int32)]) (rest := []) (t_X5_decidesAndSends γ l hl x0 x1 (0 : Int32) g7) dX5_cancels_55 q3604 q3606 qs79 q121 q3607 (by decide +kernel) rfl h ⟨rfl, by decide, by decide⟩ (Nat.le_of_ble_eq_true rfl) (Nat.le_of_ble_eq_true rfl) rfl (Nat.le_of_ble_eq_true rfl))) (fun g8 => ?_)
        refine r_aload_n (pc := 58) dX5_cancels_58 rfl 0 rfl ?_
        refine r_aload_n (pc := 59) dX5_cancels_59 rfl 0 rfl ?_
        refine r_getI (f := 49) (pc := 60) dX5_cancels_60 q3397 (Or.inl rfl) rfl (fun v9 => ?_)
        refine r_cI (pc := 63) (rest := []) (RunOK_chk (fun h => run_V (n := 1) (c9 := 8) (As := [.int v9]) (rest := []) (t_X5_does γ l hl x0 v9 g8) dX5_cancels_63 q3588 q3590 qs76 q121 q3591 (by decide +kernel) rfl h ⟨rfl, by decide, by decide⟩ (Nat.le_of_ble_eq_true rfl) (Nat.le_of_ble_eq_true rfl) rfl (Nat.le_of_ble_eq_true rfl))) (fun v11 g10 => ?_)
        exact r_iret (pc := 66) dX5_cancels_66 rfl
      · skip
        refine r_aload_n (pc := 35) dX5_cancels_35 rfl 0 rfl ?_
        refine r_bipush (v := (7 : Int32)) (pc := 36) dX5_cancels_36 (by decide) ?_
        refine r_aload_n (pc := 38) dX5_cancels_38 rfl 0 rfl ?_
        refine r_iload_n (pc := 39) dX5_cancels_39 rfl 1 rfl ?_
        refine r_cI (pc := 40) (rest := [.int (7 : Int32), .ref x0]) (RunOK_chk (fun h => run_V (n := 1) (c9 := 8) (As := [.int x1]) (rest := [.int (7 : Int32), .ref x0]) (t_X5_how γ l hl x0 x1 g5) dX5_cancels_40 q3531 q3533 qs67 q121 q3534 (by decide +kernel) rfl h ⟨rfl, by decide, by decide⟩ (Nat.le_of_ble_eq_true rfl) (Nat.le_of_ble_eq_true rfl) rfl (Nat.le_of_ble_eq_true rfl))) (fun v13 g12 => ?_)
        refine r_cI (pc := 43) (rest := []) (RunOK_chk (fun h => run_V (n := 2) (c9 := 8) (As := [.int (7 : Int32), .int v13]) (rest := []) (t_X5_refuses γ l hl x0 (7 : Int32) v13 g12) dX5_cancels_43 q3462 q3464 qs54 q121 q3465 (by decide +kernel) rfl h ⟨rfl, by decide, by decide⟩ (Nat.le_of_ble_eq_true rfl) (Nat.le_of_ble_eq_true rfl) rfl (Nat.le_of_ble_eq_true rfl))) (fun v15 g14 => ?_)
        exact r_iret (pc := 46) dX5_cancels_46 rfl
    · skip
      refine r_aload_n (pc := 18) dX5_cancels_18 rfl 0 rfl ?_
      refine r_bipush (v := (6 : Int32)) (pc := 19) dX5_cancels_19 (by decide) ?_
      refine r_iconst (v := (-1 : Int32)) (pc := 21) dX5_cancels_21 (by decide) ?_
      refine r_cI (pc := 22) (rest := []) (RunOK_chk (fun h => run_V (n := 2) (c9 := 8) (As := [.int (6 : Int32), .int (-1 : Int32)]) (rest := []) (t_X5_refuses γ l hl x0 (6 : Int32) (-1 : Int32) g3) dX5_cancels_22 q3462 q3464 qs54 q121 q3465 (by decide +kernel) rfl h ⟨rfl, by decide, by decide⟩ (Nat.le_of_ble_eq_true rfl) (Nat.le_of_ble_eq_true rfl) rfl (Nat.le_of_ble_eq_true rfl))) (fun v17 g16 => ?_)
      exact r_iret (pc := 25) dX5_cancels_25 rfl
abbrev ck_X5_cancel : CK := ("BanquetVotesModel", prog_25_method_54_code, 2, (some .int), "cancel", [], 6)
def f_X5_cancel (γ : GP) (x0 : Nat) (x1 : Int32) (g : AH) : Option (Int32 × AH) := bV ((if hK g x0 = 8 then f_X5_tries γ x0 g else none)) fun g1 => bI ((if hK g1 x0 = 8 then f_X5_cancels γ x0 x1 g1 else none)) fun v3 g2 => bI ((if hK g2 x0 = 8 then f_X5_endsAt γ x0 v3 g2 else none)) fun v5 g4 => (some (v5, g4))
theorem t_X5_cancel (γ : GP) (l : Launch) (hl : l.stackTraces = false) (x0 : Nat) (x1 : Int32) (g : AH) : TrM ρI γ l ⟨"BanquetVotesModel", "cancel", "(I)I"⟩ (ws_ ⟨"BanquetVotesModel", "cancel", "(I)I"⟩ prog_25_method_54_code 2 (some .int)) 6 [.ref x0, .int x1] g (f_X5_cancel γ x0 x1 g) := by
  refine TrM_of (plainFor_of_name (by decide)) (Nat.le_of_ble_eq_true rfl) ?_
  unfold f_X5_cancel
  change AW ρI γ l ck_X5_cancel g 0 [(0, .ref x0), (1, .int x1)] [] g _
  refine r_aload_n (pc := 0) dX5_cancel_0 rfl 0 rfl ?_
  refine r_cV (pc := 1) (rest := []) (RunOK_chk (fun h => run_V (n := 0) (c9 := 8) (As := []) (rest := []) (t_X5_tries γ l hl x0 g) dX5_cancel_1 q3451 q3453 qs52 q121 q3454 (by decide +kernel) rfl h ⟨rfl, by decide, by decide⟩ (Nat.le_of_ble_eq_true rfl) (Nat.le_of_ble_eq_true rfl) rfl (Nat.le_of_ble_eq_true rfl))) (fun g1 => ?_)
  refine r_aload_n (pc := 4) dX5_cancel_4 rfl 0 rfl ?_
  refine r_aload_n (pc := 5) dX5_cancel_5 rfl 0 rfl ?_
  refine r_iload_n (pc := 6) dX5_cancel_6 rfl 1 rfl ?_
  refine r_cI (pc := 7) (rest := [.ref x0]) (RunOK_chk (fun h => run_V (n := 1) (c9 := 8) (As := [.int x1]) (rest := [.ref x0]) (t_X5_cancels γ l hl x0 x1 g1) dX5_cancel_7 q3600 q3602 qs78 q121 q3603 (by decide +kernel) rfl h ⟨rfl, by decide, by decide⟩ (Nat.le_of_ble_eq_true rfl) (Nat.le_of_ble_eq_true rfl) rfl (Nat.le_of_ble_eq_true rfl))) (fun v3 g2 => ?_)
  refine r_cI (pc := 10) (rest := []) (RunOK_chk (fun h => run_V (n := 1) (c9 := 8) (As := [.int v3]) (rest := []) (t_X5_endsAt γ l hl x0 v3 g2) dX5_cancel_10 q3592 q3594 qs77 q121 q3595 (by decide +kernel) rfl h ⟨rfl, by decide, by decide⟩ (Nat.le_of_ble_eq_true rfl) (Nat.le_of_ble_eq_true rfl) rfl (Nat.le_of_ble_eq_true rfl))) (fun v5 g4 => ?_)
  exact r_iret (pc := 13) dX5_cancel_13 rfl
abbrev ck_X5_setsOut : CK := ("BanquetVotesModel", prog_25_method_56_code, 3, none, "setsOut", [], 2)
def f_X5_setsOut (γ : GP) (x0 : Nat) (x1 : Int32) (x2 : Int32) (g : AH) : Option (AH) := (if x1 = (-1 : Int32) then gR g x0 30 fun v1 => pA γ g 101 v1 (3 : Int32) x2 fun g2 => (some g2) else bV ((if hK g x0 = 8 then f_X5_setsCook γ x0 x1 (1 : Int32) x2 g else none)) fun g3 => (some g3))
theorem t_X5_setsOut (γ : GP) (l : Launch) (hl : l.stackTraces = false) (x0 : Nat) (x1 : Int32) (x2 : Int32) (g : AH) : TrM ρV γ l ⟨"BanquetVotesModel", "setsOut", "(II)V"⟩ (ws_ ⟨"BanquetVotesModel", "setsOut", "(II)V"⟩ prog_25_method_56_code 3 none) 2 [.ref x0, .int x1, .int x2] g (f_X5_setsOut γ x0 x1 x2 g) := by
  refine TrM_of (plainFor_of_name (by decide)) (Nat.le_of_ble_eq_true rfl) ?_
  unfold f_X5_setsOut
  change AW ρV γ l ck_X5_setsOut g 0 [(0, .ref x0), (1, .int x1), (2, .int x2)] [] g _
  refine r_iload_n (pc := 0) dX5_setsOut_0 rfl 1 rfl ?_
  refine r_iconst (v := (-1 : Int32)) (pc := 1) dX5_setsOut_1 (by decide) ?_
  refine r_icmp_ne (tgt := 15) (pc := 2) dX5_setsOut_2 (by decide) ?_ ?_
  · skip
    refine r_aload_n (pc := 5) dX5_setsOut_5 rfl 0 rfl ?_
    refine r_getR (f := 30) (pc := 6) dX5_setsOut_6 q3378 (Or.inl rfl) rfl (fun v1 => ?_)
    refine r_iconst (v := (3 : Int32)) (pc := 9) dX5_setsOut_9 (by decide) ?_
    refine r_iload_n (pc := 10) dX5_setsOut_10 rfl 2 rfl ?_
    refine r_iast (pc := 11) dX5_setsOut_11 (fun g2 => ?_)
    refine r_goto (tgt := 22) (pc := 12) dX5_setsOut_12 (by decide) ?_
    exact r_vret (pc := 22) dX5_setsOut_22 rfl
  · skip
    refine r_aload_n (pc := 15) dX5_setsOut_15 rfl 0 rfl ?_
    refine r_iload_n (pc := 16) dX5_setsOut_16 rfl 1 rfl ?_
    refine r_iconst (v := (1 : Int32)) (pc := 17) dX5_setsOut_17 (by decide) ?_
    refine r_iload_n (pc := 18) dX5_setsOut_18 rfl 2 rfl ?_
    refine r_cV (pc := 19) (rest := []) (RunOK_chk (fun h => run_V (n := 3) (c9 := 8) (As := [.int x1, .int (1 : Int32), .int x2]) (rest := []) (t_X5_setsCook γ l hl x0 x1 (1 : Int32) x2 g) dX5_setsOut_19 q3466 q3468 qs55 q121 q3469 (by decide +kernel) rfl h ⟨rfl, by decide, by decide⟩ (Nat.le_of_ble_eq_true rfl) (Nat.le_of_ble_eq_true rfl) rfl (Nat.le_of_ble_eq_true rfl))) (fun g3 => ?_)
    exact r_vret (pc := 22) dX5_setsOut_22 rfl
abbrev ck_X5_outs : CK := ("BanquetVotesModel", prog_25_method_55_code, 3, (some .int), "outs", [], 2)
def f_X5_outs_L9 (γ : GP) (x0 : Nat) : Nat → Int32 → Int32 → AH → Option (Int32 × AH)
  | 0, _, _, _ => none
  | n + 1, x1, x2, g => gR g x0 30 fun v3 => gA g 101 v3 (1 : Int32) fun v4 => (if v4 ≤ x2 then (some (x1, g)) else bI ((if hK g x0 = 8 then f_X5_cook_2 γ x0 x2 (1 : Int32) g else none)) fun v6 g5 => f_X5_outs_L9 γ x0 n (x1 + v6) (x2 + (1 : Int32)) g5)
def f_X5_outs (γ : GP) (x0 : Nat) (g : AH) : Option (Int32 × AH) := gR g x0 30 fun v1 => gA g 101 v1 (3 : Int32) fun v2 => f_X5_outs_L9 γ x0 FU v2 (0 : Int32) g
theorem f_X5_outs_L9_w (γ : GP) (l : Launch) (hl : l.stackTraces = false) (G0 : AH) (x0 : Nat) : ∀ (n : Nat) (x1 : Int32) (x2 : Int32) (g : AH), AW ρI γ l ck_X5_outs G0 9 [(0, .ref x0), (1, .int x1), (2, .int x2)] [] g (f_X5_outs_L9 γ x0 n x1 x2 g) := by
  intro n
  induction n with
  | zero => intro x1 x2 g; exact AW_none
  | succ n ih =>
    intro x1 x2 g
    unfold f_X5_outs_L9
    refine r_iload_n (pc := 9) dX5_outs_9 rfl 2 rfl ?_
    refine r_aload_n (pc := 10) dX5_outs_10 rfl 0 rfl ?_
    refine r_getR (f := 30) (pc := 11) dX5_outs_11 q3378 (Or.inl rfl) rfl (fun v3 => ?_)
    refine r_iconst (v := (1 : Int32)) (pc := 14) dX5_outs_14 (by decide) ?_
    refine r_iald (pc := 15) dX5_outs_15 (fun v4 => ?_)
    refine r_icmp_ge (tgt := 34) (pc := 16) dX5_outs_16 (by decide) ?_ ?_
    · skip
      refine r_iload_n (pc := 34) dX5_outs_34 rfl 1 rfl ?_
      exact r_iret (pc := 35) dX5_outs_35 rfl
    · skip
      refine r_iload_n (pc := 19) dX5_outs_19 rfl 1 rfl ?_
      refine r_aload_n (pc := 20) dX5_outs_20 rfl 0 rfl ?_
      refine r_iload_n (pc := 21) dX5_outs_21 rfl 2 rfl ?_
      refine r_iconst (v := (1 : Int32)) (pc := 22) dX5_outs_22 (by decide) ?_
      refine r_cI (pc := 23) (rest := [.int x1]) (RunOK_chk (fun h => run_V (n := 2) (c9 := 8) (As := [.int x2, .int (1 : Int32)]) (rest := [.int x1]) (t_X5_cook_2 γ l hl x0 x2 (1 : Int32) g) dX5_outs_23 q3483 q3485 qs58 q121 q3486 (by decide +kernel) rfl h ⟨rfl, by decide, by decide⟩ (Nat.le_of_ble_eq_true rfl) (Nat.le_of_ble_eq_true rfl) rfl (Nat.le_of_ble_eq_true rfl))) (fun v6 g5 => ?_)
      refine r_iadd (pc := 26) dX5_outs_26 ?_
      refine r_istore_n (pc := 27) dX5_outs_27 rfl (Nat.le_of_ble_eq_true rfl) rfl ?_
      refine r_iinc (j := 2) (v := (x2 + (1 : Int32))) (pc := 28) dX5_outs_28 rfl rfl (Nat.le_of_ble_eq_true rfl) rfl ?_
      refine r_goto (tgt := 9) (pc := 31) dX5_outs_31 (by decide) ?_
      refine AW_sub [2, 1, 0] rfl ?_
      exact ih (x1 + v6) (x2 + (1 : Int32)) g5
theorem t_X5_outs (γ : GP) (l : Launch) (hl : l.stackTraces = false) (x0 : Nat) (g : AH) : TrM ρI γ l ⟨"BanquetVotesModel", "outs", "()I"⟩ (ws_ ⟨"BanquetVotesModel", "outs", "()I"⟩ prog_25_method_55_code 3 (some .int)) 2 [.ref x0] g (f_X5_outs γ x0 g) := by
  refine TrM_of (plainFor_of_name (by decide)) (Nat.le_of_ble_eq_true rfl) ?_
  unfold f_X5_outs
  change AW ρI γ l ck_X5_outs g 0 [(0, .ref x0)] [] g _
  refine r_aload_n (pc := 0) dX5_outs_0 rfl 0 rfl ?_
  refine r_getR (f := 30) (pc := 1) dX5_outs_1 q3378 (Or.inl rfl) rfl (fun v1 => ?_)
  refine r_iconst (v := (3 : Int32)) (pc := 4) dX5_outs_4 (by decide) ?_
  refine r_iald (pc := 5) dX5_outs_5 (fun v2 => ?_)
  refine r_istore_n (pc := 6) dX5_outs_6 rfl (Nat.le_of_ble_eq_true rfl) rfl ?_
  refine r_iconst (v := (0 : Int32)) (pc := 7) dX5_outs_7 (by decide) ?_
  refine r_istore_n (pc := 8) dX5_outs_8 rfl (Nat.le_of_ble_eq_true rfl) rfl ?_
  refine AW_sub [2, 1, 0] rfl ?_
  refine f_X5_outs_L9_w γ l hl _ x0 FU v2 (0 : Int32) g
abbrev ck_X5_faints : CK := ("BanquetVotesModel", prog_25_method_57_code, 2, (some .int), "faints", [], 3)
def f_X5_faints (γ : GP) (x0 : Nat) (x1 : Int32) (g : AH) : Option (Int32 × AH) := jn (fun (g1 : AH) => bI ((if hK g1 x0 = 8 then f_X5_isOut γ x0 x1 g1 else none)) fun v4 g3 => (if v4 = 0 then bV ((if hK g3 x0 = 8 then f_X5_setsOut γ x0 x1 (1 : Int32) g3 else none)) fun g5 => bI ((if hK g5 x0 = 8 then f_X5_outs γ x0 g5 else none)) fun v7 g6 => bI ((if hK g6 x0 = 8 then f_X5_does γ x0 v7 g6 else none)) fun v9 g8 => (some (v9, g8)) else bI ((if hK g3 x0 = 8 then f_X5_refuses γ x0 (8 : Int32) x1 g3 else none)) fun v11 g10 => (some (v11, g10)))) (fun (j2 : AH → Option (Int32 × AH)) => (if x1 = (-1 : Int32) then j2 g else bI ((if hK g x0 = 8 then f_X5_isCook γ x0 x1 g else none)) fun v13 g12 => (if v13 = 0 then (some ((1 : Int32), g12)) else j2 g12)))
theorem t_X5_faints (γ : GP) (l : Launch) (hl : l.stackTraces = false) (x0 : Nat) (x1 : Int32) (g : AH) : TrM ρI γ l ⟨"BanquetVotesModel", "faints", "(I)I"⟩ (ws_ ⟨"BanquetVotesModel", "faints", "(I)I"⟩ prog_25_method_57_code 2 (some .int)) 3 [.ref x0, .int x1] g (f_X5_faints γ x0 x1 g) := by
  refine TrM_of (plainFor_of_name (by decide)) (Nat.le_of_ble_eq_true rfl) ?_
  unfold f_X5_faints
  change AW ρI γ l ck_X5_faints g 0 [(0, .ref x0), (1, .int x1)] [] g _
  refine r_iload_n (pc := 0) dX5_faints_0 rfl 1 rfl ?_
  refine r_iconst (v := (-1 : Int32)) (pc := 1) dX5_faints_1 (by decide) ?_
  refine AW_jn (P := fun (j : AH → Option (Int32 × AH)) => ∀ (g1 : AH), AW ρI γ l ck_X5_faints g 15 [(0, .ref x0), (1, .int x1)] [] g1 (j g1)) (fun g1 => ?_) (fun j2 h_j2 => ?_)
  · skip
    refine r_aload_n (pc := 15) dX5_faints_15 rfl 0 rfl ?_
    refine r_iload_n (pc := 16) dX5_faints_16 rfl 1 rfl ?_
    refine r_cI (pc := 17) (rest := []) (RunOK_chk (fun h => run_V (n := 1) (c9 := 8) (As := [.int x1]) (rest := []) (t_X5_isOut γ l hl x0 x1 g1) dX5_faints_17 q3572 q3574 qs72 q121 q3575 (by decide +kernel) rfl h ⟨rfl, by decide, by decide⟩ (Nat.le_of_ble_eq_true rfl) (Nat.le_of_ble_eq_true rfl) rfl (Nat.le_of_ble_eq_true rfl))) (fun v4 g3 => ?_)
    refine r_if_eq (tgt := 31) (pc := 20) dX5_faints_20 (by decide) ?_ ?_
    · skip
      refine r_aload_n (pc := 31) dX5_faints_31 rfl 0 rfl ?_
      refine r_iload_n (pc := 32) dX5_faints_32 rfl 1 rfl ?_
      refine r_iconst (v := (1 : Int32)) (pc := 33) dX5_faints_33 (by decide) ?_
      refine r_cV (pc := 34) (rest := []) (RunOK_chk (fun h => run_V (n := 2) (c9 := 8) (As := [.int x1, .int (1 : Int32)]) (rest := []) (t_X5_setsOut γ l hl x0 x1 (1 : Int32) g3) dX5_faints_34 q3624 q3626 qs83 q121 q3627 (by decide +kernel) rfl h ⟨rfl, by decide, by decide⟩ (Nat.le_of_ble_eq_true rfl) (Nat.le_of_ble_eq_true rfl) rfl (Nat.le_of_ble_eq_true rfl))) (fun g5 => ?_)
      refine r_aload_n (pc := 37) dX5_faints_37 rfl 0 rfl ?_
      refine r_aload_n (pc := 38) dX5_faints_38 rfl 0 rfl ?_
      refine r_cI (pc := 39) (rest := [.ref x0]) (RunOK_chk (fun h => run_V (n := 0) (c9 := 8) (As := []) (rest := [.ref x0]) (t_X5_outs γ l hl x0 g5) dX5_faints_39 q3628 q3630 qs84 q121 q3631 (by decide +kernel) rfl h ⟨rfl, by decide, by decide⟩ (Nat.le_of_ble_eq_true rfl) (Nat.le_of_ble_eq_true rfl) rfl (Nat.le_of_ble_eq_true rfl))) (fun v7 g6 => ?_)
      refine r_cI (pc := 42) (rest := []) (RunOK_chk (fun h => run_V (n := 1) (c9 := 8) (As := [.int v7]) (rest := []) (t_X5_does γ l hl x0 v7 g6) dX5_faints_42 q3588 q3590 qs76 q121 q3591 (by decide +kernel) rfl h ⟨rfl, by decide, by decide⟩ (Nat.le_of_ble_eq_true rfl) (Nat.le_of_ble_eq_true rfl) rfl (Nat.le_of_ble_eq_true rfl))) (fun v9 g8 => ?_)
      exact r_iret (pc := 45) dX5_faints_45 rfl
    · skip
      refine r_aload_n (pc := 23) dX5_faints_23 rfl 0 rfl ?_
      refine r_bipush (v := (8 : Int32)) (pc := 24) dX5_faints_24 (by decide) ?_
      refine r_iload_n (pc := 26) dX5_faints_26 rfl 1 rfl ?_
      refine r_cI (pc := 27) (rest := []) (RunOK_chk (fun h => run_V (n := 2) (c9 := 8) (As := [.int (8 : Int32), .int x1]) (rest := []) (t_X5_refuses γ l hl x0 (8 : Int32) x1 g3) dX5_faints_27 q3462 q3464 qs54 q121 q3465 (by decide +kernel) rfl h ⟨rfl, by decide, by decide⟩ (Nat.le_of_ble_eq_true rfl) (Nat.le_of_ble_eq_true rfl) rfl (Nat.le_of_ble_eq_true rfl))) (fun v11 g10 => ?_)
      exact r_iret (pc := 30) dX5_faints_30 rfl
  · skip
    refine r_icmp_eq (tgt := 15) (pc := 2) dX5_faints_2 (by decide) ?_ ?_
    · skip
      exact h_j2 g
    · skip
      refine r_aload_n (pc := 5) dX5_faints_5 rfl 0 rfl ?_
      refine r_iload_n (pc := 6) dX5_faints_6 rfl 1 rfl ?_
      refine r_cI (pc := 7) (rest := []) (RunOK_chk (fun h => run_V (n := 1) (c9 := 8) (As := [.int x1]) (rest := []) (t_X5_isCook γ l hl x0 x1 g) dX5_faints_7 q3479 q3481 qs57 q121 q3482 (by decide +kernel) rfl h ⟨rfl, by decide, by decide⟩ (Nat.le_of_ble_eq_true rfl) (Nat.le_of_ble_eq_true rfl) rfl (Nat.le_of_ble_eq_true rfl))) (fun v13 g12 => ?_)
      refine r_if_ne (tgt := 15) (pc := 10) dX5_faints_10 (by decide) ?_ ?_
      · skip
        refine r_iconst (v := (1 : Int32)) (pc := 13) dX5_faints_13 (by decide) ?_
        exact r_iret (pc := 14) dX5_faints_14 rfl
      · skip
        exact h_j2 g12
abbrev ck_X5_faint : CK := ("BanquetVotesModel", prog_25_method_58_code, 2, (some .int), "faint", [], 4)
def f_X5_faint (γ : GP) (x0 : Nat) (x1 : Int32) (g : AH) : Option (Int32 × AH) := bV ((if hK g x0 = 8 then f_X5_tries γ x0 g else none)) fun g1 => bI ((if hK g1 x0 = 8 then f_X5_faints γ x0 x1 g1 else none)) fun v3 g2 => bI ((if hK g2 x0 = 8 then f_X5_endsAt γ x0 v3 g2 else none)) fun v5 g4 => (some (v5, g4))
theorem t_X5_faint (γ : GP) (l : Launch) (hl : l.stackTraces = false) (x0 : Nat) (x1 : Int32) (g : AH) : TrM ρI γ l ⟨"BanquetVotesModel", "faint", "(I)I"⟩ (ws_ ⟨"BanquetVotesModel", "faint", "(I)I"⟩ prog_25_method_58_code 2 (some .int)) 4 [.ref x0, .int x1] g (f_X5_faint γ x0 x1 g) := by
  refine TrM_of (plainFor_of_name (by decide)) (Nat.le_of_ble_eq_true rfl) ?_
  unfold f_X5_faint
  change AW ρI γ l ck_X5_faint g 0 [(0, .ref x0), (1, .int x1)] [] g _
  refine r_aload_n (pc := 0) dX5_faint_0 rfl 0 rfl ?_
  refine r_cV (pc := 1) (rest := []) (RunOK_chk (fun h => run_V (n := 0) (c9 := 8) (As := []) (rest := []) (t_X5_tries γ l hl x0 g) dX5_faint_1 q3451 q3453 qs52 q121 q3454 (by decide +kernel) rfl h ⟨rfl, by decide, by decide⟩ (Nat.le_of_ble_eq_true rfl) (Nat.le_of_ble_eq_true rfl) rfl (Nat.le_of_ble_eq_true rfl))) (fun g1 => ?_)
  refine r_aload_n (pc := 4) dX5_faint_4 rfl 0 rfl ?_
  refine r_aload_n (pc := 5) dX5_faint_5 rfl 0 rfl ?_
  refine r_iload_n (pc := 6) dX5_faint_6 rfl 1 rfl ?_
  refine r_cI (pc := 7) (rest := [.ref x0]) (RunOK_chk (fun h => run_V (n := 1) (c9 := 8) (As := [.int x1]) (rest := [.ref x0]) (t_X5_faints γ l hl x0 x1 g1) dX5_faint_7 q3620 q3622 qs82 q121 q3623 (by decide +kernel) rfl h ⟨rfl, by decide, by decide⟩ (Nat.le_of_ble_eq_true rfl) (Nat.le_of_ble_eq_true rfl) rfl (Nat.le_of_ble_eq_true rfl))) (fun v3 g2 => ?_)
  refine r_cI (pc := 10) (rest := []) (RunOK_chk (fun h => run_V (n := 1) (c9 := 8) (As := [.int v3]) (rest := []) (t_X5_endsAt γ l hl x0 v3 g2) dX5_faint_10 q3592 q3594 qs77 q121 q3595 (by decide +kernel) rfl h ⟨rfl, by decide, by decide⟩ (Nat.le_of_ble_eq_true rfl) (Nat.le_of_ble_eq_true rfl) rfl (Nat.le_of_ble_eq_true rfl))) (fun v5 g4 => ?_)
  exact r_iret (pc := 13) dX5_faint_13 rfl
abbrev ck_X5_wakes : CK := ("BanquetVotesModel", prog_25_method_59_code, 3, (some .int), "wakes", [], 4)
def f_X5_wakes_L82 (γ : GP) (x0 : Nat) (K117 : AH → Option (Int32 × AH)) : Nat → Int32 → AH → Option (Int32 × AH)
  | 0, _, _ => none
  | n + 1, x2, g => gR g x0 30 fun v16 => gA g 101 v16 (2 : Int32) fun v17 => (if v17 ≤ x2 then K117 g else bI ((if hK g x0 = 8 then f_X5_how γ x0 x2 g else none)) fun v19 g18 => (if v19 ≤ (1 : Int32) then f_X5_wakes_L82 γ x0 K117 n (x2 + (1 : Int32)) g18 else bI ((if hK g18 x0 = 8 then f_X5_decision γ x0 x2 g18 else none)) fun v21 g20 => bV ((if hK g20 x0 = 8 then f_X5_sendsAll γ x0 v21 x2 g20 else none)) fun g22 => f_X5_wakes_L82 γ x0 K117 n (x2 + (1 : Int32)) g22))
def f_X5_wakes_L49 (γ : GP) (x0 : Nat) : Nat → Int32 → AH → Option (Int32 × AH)
  | 0, _, _ => none
  | n + 1, x2, g => gR g x0 30 fun v14 => gA g 101 v14 (2 : Int32) fun v15 => (if v15 ≤ x2 then f_X5_wakes_L82 γ x0 (fun (g23 : AH) => gI g23 x0 49 fun v24 => bI ((if hK g23 x0 = 8 then f_X5_does γ x0 v24 g23 else none)) fun v26 g25 => (some (v26, g25))) FU (0 : Int32) g else bI ((if hK g x0 = 8 then f_X5_how γ x0 x2 g else none)) fun v28 g27 => (if v28 = (1 : Int32) then bV ((if hK g27 x0 = 8 then f_X5_decides γ x0 x2 (0 : Int32) g27 else none)) fun g29 => f_X5_wakes_L49 γ x0 n (x2 + (1 : Int32)) g29 else f_X5_wakes_L49 γ x0 n (x2 + (1 : Int32)) g27))
def f_X5_wakes_L122 (γ : GP) (x0 : Nat) (x1 : Int32) (K164 : AH → Option (Int32 × AH)) : Nat → Int32 → AH → Option (Int32 × AH)
  | 0, _, _ => none
  | n + 1, x2, g => gR g x0 30 fun v30 => gA g 101 v30 (2 : Int32) fun v31 => (if v31 ≤ x2 then K164 g else bI ((if hK g x0 = 8 then f_X5_isDish γ x0 x2 x1 g else none)) fun v33 g32 => (if v33 = 0 then f_X5_wakes_L122 γ x0 x1 K164 n (x2 + (1 : Int32)) g32 else bI ((if hK g32 x0 = 8 then f_X5_howDish γ x0 x2 x1 g32 else none)) fun v35 g34 => (if v35 = (1 : Int32) then bV ((if hK g34 x0 = 8 then f_X5_sends γ x0 (5 : Int32) x1 x2 g34 else none)) fun g36 => f_X5_wakes_L122 γ x0 x1 K164 n (x2 + (1 : Int32)) g36 else f_X5_wakes_L122 γ x0 x1 K164 n (x2 + (1 : Int32)) g34)))
def f_X5_wakes (γ : GP) (x0 : Nat) (x1 : Int32) (g : AH) : Option (Int32 × AH) := jn (fun (g1 : AH) => bI ((if hK g1 x0 = 8 then f_X5_isOut γ x0 x1 g1 else none)) fun v4 g3 => (if v4 = 0 then bI ((if hK g3 x0 = 8 then f_X5_refuses γ x0 (8 : Int32) x1 g3 else none)) fun v6 g5 => (some (v6, g5)) else bV ((if hK g3 x0 = 8 then f_X5_setsOut γ x0 x1 (0 : Int32) g3 else none)) fun g7 => pI γ g7 x0 49 (0 : Int32) fun g8 => jn (fun (g9 : AH) => gI g9 x0 49 fun v11 => bI ((if hK g9 x0 = 8 then f_X5_does γ x0 v11 g9 else none)) fun v13 g12 => (some (v13, g12))) (fun (j10 : AH → Option (Int32 × AH)) => (if x1 = (-1 : Int32) then f_X5_wakes_L49 γ x0 FU (0 : Int32) g8 else f_X5_wakes_L122 γ x0 x1 (fun (g37 : AH) => j10 g37) FU (0 : Int32) g8)))) (fun (j2 : AH → Option (Int32 × AH)) => (if x1 = (-1 : Int32) then j2 g else bI ((if hK g x0 = 8 then f_X5_isCook γ x0 x1 g else none)) fun v39 g38 => (if v39 = 0 then (some ((1 : Int32), g38)) else j2 g38)))
theorem f_X5_wakes_L82_w (γ : GP) (l : Launch) (hl : l.stackTraces = false) (G0 : AH) (x0 : Nat) (K117 : AH → Option (Int32 × AH)) (h_K117 : ∀ (g : AH), AW ρI γ l ck_X5_wakes G0 117 [(0, .ref x0)] [] g (K117 g)) : ∀ (n : Nat) (x2 : Int32) (g : AH), AW ρI γ l ck_X5_wakes G0 82 [(0, .ref x0), (2, .int x2)] [] g (f_X5_wakes_L82 γ x0 K117 n x2 g) := by
  intro n
  induction n with
  | zero => intro x2 g; exact AW_none
  | succ n ih =>
    intro x2 g
    unfold f_X5_wakes_L82
    refine r_iload_n (pc := 82) dX5_wakes_82 rfl 1 rfl ?_
    refine r_aload_n (pc := 83) dX5_wakes_83 rfl 0 rfl ?_
    refine r_getR (f := 30) (pc := 84) dX5_wakes_84 q3378 (Or.inl rfl) rfl (fun v16 => ?_)
    refine r_iconst (v := (2 : Int32)) (pc := 87) dX5_wakes_87 (by decide) ?_
    refine r_iald (pc := 88) dX5_wakes_88 (fun v17 => ?_)
    refine r_icmp_ge (tgt := 117) (pc := 89) dX5_wakes_89 (by decide) ?_ ?_
    · skip
      refine AW_sub [0] rfl ?_
      exact h_K117 g
    · skip
      refine r_aload_n (pc := 92) dX5_wakes_92 rfl 0 rfl ?_
      refine r_iload_n (pc := 93) dX5_wakes_93 rfl 1 rfl ?_
      refine r_cI (pc := 94) (rest := []) (RunOK_chk (fun h => run_V (n := 1) (c9 := 8) (As := [.int x2]) (rest := []) (t_X5_how γ l hl x0 x2 g) dX5_wakes_94 q3531 q3533 qs67 q121 q3534 (by decide +kernel) rfl h ⟨rfl, by decide, by decide⟩ (Nat.le_of_ble_eq_true rfl) (Nat.le_of_ble_eq_true rfl) rfl (Nat.le_of_ble_eq_true rfl))) (fun v19 g18 => ?_)
      refine r_iconst (v := (1 : Int32)) (pc := 97) dX5_wakes_97 (by decide) ?_
      refine r_icmp_le (tgt := 111) (pc := 98) dX5_wakes_98 (by decide) ?_ ?_
      · skip
        refine r_iinc (j := 1) (v := (x2 + (1 : Int32))) (pc := 111) dX5_wakes_111 rfl rfl (Nat.le_of_ble_eq_true rfl) rfl ?_
        refine r_goto (tgt := 82) (pc := 114) dX5_wakes_114 (by decide) ?_
        refine AW_sub [1, 0] rfl ?_
        exact ih (x2 + (1 : Int32)) g18
      · skip
        refine r_aload_n (pc := 101) dX5_wakes_101 rfl 0 rfl ?_
        refine r_aload_n (pc := 102) dX5_wakes_102 rfl 0 rfl ?_
        refine r_iload_n (pc := 103) dX5_wakes_103 rfl 1 rfl ?_
        refine r_cI (pc := 104) (rest := [.ref x0]) (RunOK_chk (fun h => run_V (n := 1) (c9 := 8) (As := [.int x2]) (rest := [.ref x0]) (t_X5_decision γ l hl x0 x2 g18) dX5_wakes_104 q3612 q3614 qs81 q121 q3615 (by decide +kernel) rfl h ⟨rfl, by decide, by decide⟩ (Nat.le_of_ble_eq_true rfl) (Nat.le_of_ble_eq_true rfl) rfl (Nat.le_of_ble_eq_true rfl))) (fun v21 g20 => ?_)
        refine r_iload_n (pc := 107) dX5_wakes_107 rfl 1 rfl ?_
        refine r_cV (pc := 108) (rest := []) (RunOK_chk (fun h => run_V (n := 2) (c9 := 8) (As := [.int v21, .int x2]) (rest := []) (t_X5_sendsAll γ l hl x0 v21 x2 g20) dX5_wakes_108 q3580 q3582 qs74 q121 q3583 (by decide +kernel) rfl h ⟨rfl, by decide, by decide⟩ (Nat.le_of_ble_eq_true rfl) (Nat.le_of_ble_eq_true rfl) rfl (Nat.le_of_ble_eq_true rfl))) (fun g22 => ?_)
        refine r_iinc (j := 1) (v := (x2 + (1 : Int32))) (pc := 111) dX5_wakes_111 rfl rfl (Nat.le_of_ble_eq_true rfl) rfl ?_
        refine r_goto (tgt := 82) (pc := 114) dX5_wakes_114 (by decide) ?_
        refine AW_sub [1, 0] rfl ?_
        exact ih (x2 + (1 : Int32)) g22
theorem f_X5_wakes_L49_w (γ : GP) (l : Launch) (hl : l.stackTraces = false) (G0 : AH) (x0 : Nat) : ∀ (n : Nat) (x2 : Int32) (g : AH), AW ρI γ l ck_X5_wakes G0 49 [(0, .ref x0), (2, .int x2)] [] g (f_X5_wakes_L49 γ x0 n x2 g) := by
  intro n
  induction n with
  | zero => intro x2 g; exact AW_none
  | succ n ih =>
    intro x2 g
    unfold f_X5_wakes_L49
    refine r_iload_n (pc := 49) dX5_wakes_49 rfl 1 rfl ?_
    refine r_aload_n (pc := 50) dX5_wakes_50 rfl 0 rfl ?_
    refine r_getR (f := 30) (pc := 51) dX5_wakes_51 q3378 (Or.inl rfl) rfl (fun v14 => ?_)
    refine r_iconst (v := (2 : Int32)) (pc := 54) dX5_wakes_54 (by decide) ?_
    refine r_iald (pc := 55) dX5_wakes_55 (fun v15 => ?_)
    refine r_icmp_ge (tgt := 80) (pc := 56) dX5_wakes_56 (by decide) ?_ ?_
    · skip
      refine r_iconst (v := (0 : Int32)) (pc := 80) dX5_wakes_80 (by decide) ?_
      refine r_istore_n (pc := 81) dX5_wakes_81 rfl (Nat.le_of_ble_eq_true rfl) rfl ?_
      refine AW_sub [1, 0] rfl ?_
      refine f_X5_wakes_L82_w γ l hl _ x0 _ ?_ FU (0 : Int32) g
      · intro g23
        refine r_goto (tgt := 164) (pc := 117) dX5_wakes_117 (by decide) ?_
        refine r_aload_n (pc := 164) dX5_wakes_164 rfl 0 rfl ?_
        refine r_aload_n (pc := 165) dX5_wakes_165 rfl 0 rfl ?_
        refine r_getI (f := 49) (pc := 166) dX5_wakes_166 q3397 (Or.inl rfl) rfl (fun v24 => ?_)
        refine r_cI (pc := 169) (rest := []) (RunOK_chk (fun h => run_V (n := 1) (c9 := 8) (As := [.int v24]) (rest := []) (t_X5_does γ l hl x0 v24 g23) dX5_wakes_169 q3588 q3590 qs76 q121 q3591 (by decide +kernel) rfl h ⟨rfl, by decide, by decide⟩ (Nat.le_of_ble_eq_true rfl) (Nat.le_of_ble_eq_true rfl) rfl (Nat.le_of_ble_eq_true rfl))) (fun v26 g25 => ?_)
        exact r_iret (pc := 172) dX5_wakes_172 rfl
    · skip
      refine r_aload_n (pc := 59) dX5_wakes_59 rfl 0 rfl ?_
      refine r_iload_n (pc := 60) dX5_wakes_60 rfl 1 rfl ?_
      refine r_cI (pc := 61) (rest := []) (RunOK_chk (fun h => run_V (n := 1) (c9 := 8) (As := [.int x2]) (rest := []) (t_X5_how γ l hl x0 x2 g) dX5_wakes_61 q3531 q3533 qs67 q121 q3534 (by decide +kernel) rfl h ⟨rfl, by decide, by decide⟩ (Nat.le_of_ble_eq_true rfl) (Nat.le_of_ble_eq_true rfl) rfl (Nat.le_of_ble_eq_true rfl))) (fun v28 g27 => ?_)
      refine r_iconst (v := (1 : Int32)) (pc := 64) dX5_wakes_64 (by decide) ?_
      refine r_icmp_ne (tgt := 74) (pc := 65) dX5_wakes_65 (by decide) ?_ ?_
      · skip
        refine r_aload_n (pc := 68) dX5_wakes_68 rfl 0 rfl ?_
        refine r_iload_n (pc := 69) dX5_wakes_69 rfl 1 rfl ?_
        refine r_iconst (v := (0 : Int32)) (pc := 70) dX5_wakes_70 (by decide) ?_
        refine r_cV (pc := 71) (rest := []) (RunOK_chk (fun h => run_V (n := 2) (c9 := 8) (As := [.int x2, .int (0 : Int32)]) (rest := []) (t_X5_decides γ l hl x0 x2 (0 : Int32) g27) dX5_wakes_71 q3608 q3610 qs80 q121 q3611 (by decide +kernel) rfl h ⟨rfl, by decide, by decide⟩ (Nat.le_of_ble_eq_true rfl) (Nat.le_of_ble_eq_true rfl) rfl (Nat.le_of_ble_eq_true rfl))) (fun g29 => ?_)
        refine r_iinc (j := 1) (v := (x2 + (1 : Int32))) (pc := 74) dX5_wakes_74 rfl rfl (Nat.le_of_ble_eq_true rfl) rfl ?_
        refine r_goto (tgt := 49) (pc := 77) dX5_wakes_77 (by decide) ?_
        refine AW_sub [1, 0] rfl ?_
        exact ih (x2 + (1 : Int32)) g29
      · skip
        refine r_iinc (j := 1) (v := (x2 + (1 : Int32))) (pc := 74) dX5_wakes_74 rfl rfl (Nat.le_of_ble_eq_true rfl) rfl ?_
        refine r_goto (tgt := 49) (pc := 77) dX5_wakes_77 (by decide) ?_
        refine AW_sub [1, 0] rfl ?_
        exact ih (x2 + (1 : Int32)) g27
theorem f_X5_wakes_L122_w (γ : GP) (l : Launch) (hl : l.stackTraces = false) (G0 : AH) (x0 : Nat) (x1 : Int32) (K164 : AH → Option (Int32 × AH)) (h_K164 : ∀ (g : AH), AW ρI γ l ck_X5_wakes G0 164 [(0, .ref x0)] [] g (K164 g)) : ∀ (n : Nat) (x2 : Int32) (g : AH), AW ρI γ l ck_X5_wakes G0 122 [(0, .ref x0), (1, .int x1), (2, .int x2)] [] g (f_X5_wakes_L122 γ x0 x1 K164 n x2 g) := by
  intro n
  induction n with
  | zero => intro x2 g; exact AW_none
  | succ n ih =>
    intro x2 g
    unfold f_X5_wakes_L122
    refine r_iload_n (pc := 122) dX5_wakes_122 rfl 2 rfl ?_
    refine r_aload_n (pc := 123) dX5_wakes_123 rfl 0 rfl ?_
    refine r_getR (f := 30) (pc := 124) dX5_wakes_124 q3378 (Or.inl rfl) rfl (fun v30 => ?_)
    refine r_iconst (v := (2 : Int32)) (pc := 127) dX5_wakes_127 (by decide) ?_
    refine r_iald (pc := 128) dX5_wakes_128 (fun v31 => ?_)
    refine r_icmp_ge (tgt := 164) (pc := 129) dX5_wakes_129 (by decide) ?_ ?_
    · skip
      refine AW_sub [0] rfl ?_
      exact h_K164 g
    · skip
      refine r_aload_n (pc := 132) dX5_wakes_132 rfl 0 rfl ?_
      refine r_iload_n (pc := 133) dX5_wakes_133 rfl 2 rfl ?_
      refine r_iload_n (pc := 134) dX5_wakes_134 rfl 1 rfl ?_
      refine r_cI (pc := 135) (rest := []) (RunOK_chk (fun h => run_V (n := 2) (c9 := 8) (As := [.int x2, .int x1]) (rest := []) (t_X5_isDish γ l hl x0 x2 x1 g) dX5_wakes_135 q3495 q3497 qs60 q121 q3498 (by decide +kernel) rfl h ⟨rfl, by decide, by decide⟩ (Nat.le_of_ble_eq_true rfl) (Nat.le_of_ble_eq_true rfl) rfl (Nat.le_of_ble_eq_true rfl))) (fun v33 g32 => ?_)
      refine r_if_eq (tgt := 158) (pc := 138) dX5_wakes_138 (by decide) ?_ ?_
      · skip
        refine r_iinc (j := 2) (v := (x2 + (1 : Int32))) (pc := 158) dX5_wakes_158 rfl rfl (Nat.le_of_ble_eq_true rfl) rfl ?_
        refine r_goto (tgt := 122) (pc := 161) dX5_wakes_161 (by decide) ?_
        refine AW_sub [1, 2, 0] rfl ?_
        exact ih (x2 + (1 : Int32)) g32
      · skip
        refine r_aload_n (pc := 141) dX5_wakes_141 rfl 0 rfl ?_
        refine r_iload_n (pc := 142) dX5_wakes_142 rfl 2 rfl ?_
        refine r_iload_n (pc := 143) dX5_wakes_143 rfl 1 rfl ?_
        refine r_cI (pc := 144) (rest := []) (RunOK_chk (fun h => run_V (n := 2) (c9 := 8) (As := [.int x2, .int x1]) (rest := []) (t_X5_howDish γ l hl x0 x2 x1 g32) dX5_wakes_144 q3503 q3505 qs62 q121 q3506 (by decide +kernel) rfl h ⟨rfl, by decide, by decide⟩ (Nat.le_of_ble_eq_true rfl) (Nat.le_of_ble_eq_true rfl) rfl (Nat.le_of_ble_eq_true rfl))) (fun v35 g34 => ?_)
        refine r_iconst (v := (1 : Int32)) (pc := 147) dX5_wakes_147 (by decide) ?_
        refine r_icmp_ne (tgt := 158) (pc := 148) dX5_wakes_148 (by decide) ?_ ?_
        · skip
          refine r_aload_n (pc := 151) dX5_wakes_151 rfl 0 rfl ?_
          refine r_iconst (v := (5 : Int32)) (pc := 152) dX5_wakes_152 (by decide) ?_
          refine r_iload_n (pc := 153) dX5_wakes_153 rfl 1 rfl ?_
          refine r_iload_n (pc := 154) dX5_wakes_154 rfl 2 rfl ?_
          refine r_cV (pc := 155) (rest := []) (RunOK_chk (fun h => run_V (n := 3) (c9 := 8) (As := [.int (5 : Int32), .int x1, .int x2]) (rest := []) (t_X5_sends γ l hl x0 (5 : Int32) x1 x2 g34) dX5_wakes_155 q3584 q3586 qs75 q121 q3587 (by decide +kernel) rfl h ⟨rfl, by decide, by decide⟩ (Nat.le_of_ble_eq_true rfl) (Nat.le_of_ble_eq_true rfl) rfl (Nat.le_of_ble_eq_true rfl))) (fun g36 => ?_)
          refine r_iinc (j := 2) (v := (x2 + (1 : Int32))) (pc := 158) dX5_wakes_158 rfl rfl (Nat.le_of_ble_eq_true rfl) rfl ?_
          refine r_goto (tgt := 122) (pc := 161) dX5_wakes_161 (by decide) ?_
          refine AW_sub [1, 2, 0] rfl ?_
          exact ih (x2 + (1 : Int32)) g36
        · skip
          refine r_iinc (j := 2) (v := (x2 + (1 : Int32))) (pc := 158) dX5_wakes_158 rfl rfl (Nat.le_of_ble_eq_true rfl) rfl ?_
          refine r_goto (tgt := 122) (pc := 161) dX5_wakes_161 (by decide) ?_
          refine AW_sub [1, 2, 0] rfl ?_
          exact ih (x2 + (1 : Int32)) g34
theorem t_X5_wakes (γ : GP) (l : Launch) (hl : l.stackTraces = false) (x0 : Nat) (x1 : Int32) (g : AH) : TrM ρI γ l ⟨"BanquetVotesModel", "wakes", "(I)I"⟩ (ws_ ⟨"BanquetVotesModel", "wakes", "(I)I"⟩ prog_25_method_59_code 3 (some .int)) 4 [.ref x0, .int x1] g (f_X5_wakes γ x0 x1 g) := by
  refine TrM_of (plainFor_of_name (by decide)) (Nat.le_of_ble_eq_true rfl) ?_
  unfold f_X5_wakes
  change AW ρI γ l ck_X5_wakes g 0 [(0, .ref x0), (1, .int x1)] [] g _
  refine r_iload_n (pc := 0) dX5_wakes_0 rfl 1 rfl ?_
  refine r_iconst (v := (-1 : Int32)) (pc := 1) dX5_wakes_1 (by decide) ?_
  refine AW_jn (P := fun (j : AH → Option (Int32 × AH)) => ∀ (g1 : AH), AW ρI γ l ck_X5_wakes g 15 [(0, .ref x0), (1, .int x1)] [] g1 (j g1)) (fun g1 => ?_) (fun j2 h_j2 => ?_)
  · skip
    refine r_aload_n (pc := 15) dX5_wakes_15 rfl 0 rfl ?_
    refine r_iload_n (pc := 16) dX5_wakes_16 rfl 1 rfl ?_
    refine r_cI (pc := 17) (rest := []) (RunOK_chk (fun h => run_V (n := 1) (c9 := 8) (As := [.int x1]) (rest := []) (t_X5_isOut γ l hl x0 x1 g1) dX5_wakes_17 q3572 q3574 qs72 q121 q3575 (by decide +kernel) rfl h ⟨rfl, by decide, by decide⟩ (Nat.le_of_ble_eq_true rfl) (Nat.le_of_ble_eq_true rfl) rfl (Nat.le_of_ble_eq_true rfl))) (fun v4 g3 => ?_)
    refine r_if_ne (tgt := 31) (pc := 20) dX5_wakes_20 (by decide) ?_ ?_
    · skip
      refine r_aload_n (pc := 23) dX5_wakes_23 rfl 0 rfl ?_
      refine r_bipush (v := (8 : Int32)) (pc := 24) dX5_wakes_24 (by decide) ?_
      refine r_iload_n (pc := 26) dX5_wakes_26 rfl 1 rfl ?_
      refine r_cI (pc := 27) (rest := []) (RunOK_chk (fun h => run_V (n := 2) (c9 := 8) (As := [.int (8 : Int32), .int x1]) (rest := []) (t_X5_refuses γ l hl x0 (8 : Int32) x1 g3) dX5_wakes_27 q3462 q3464 qs54 q121 q3465 (by decide +kernel) rfl h ⟨rfl, by decide, by decide⟩ (Nat.le_of_ble_eq_true rfl) (Nat.le_of_ble_eq_true rfl) rfl (Nat.le_of_ble_eq_true rfl))) (fun v6 g5 => ?_)
      exact r_iret (pc := 30) dX5_wakes_30 rfl
    · skip
      refine r_aload_n (pc := 31) dX5_wakes_31 rfl 0 rfl ?_
      refine r_iload_n (pc := 32) dX5_wakes_32 rfl 1 rfl ?_
      refine r_iconst (v := (0 : Int32)) (pc := 33) dX5_wakes_33 (by decide) ?_
      refine r_cV (pc := 34) (rest := []) (RunOK_chk (fun h => run_V (n := 2) (c9 := 8) (As := [.int x1, .int (0 : Int32)]) (rest := []) (t_X5_setsOut γ l hl x0 x1 (0 : Int32) g3) dX5_wakes_34 q3624 q3626 qs83 q121 q3627 (by decide +kernel) rfl h ⟨rfl, by decide, by decide⟩ (Nat.le_of_ble_eq_true rfl) (Nat.le_of_ble_eq_true rfl) rfl (Nat.le_of_ble_eq_true rfl))) (fun g7 => ?_)
      refine r_aload_n (pc := 37) dX5_wakes_37 rfl 0 rfl ?_
      refine r_iconst (v := (0 : Int32)) (pc := 38) dX5_wakes_38 (by decide) ?_
      refine r_putI (f := 49) (pc := 39) dX5_wakes_39 q3397 (Or.inl rfl) (Or.inl rfl) rfl (fun g8 => ?_)
      refine r_iload_n (pc := 42) dX5_wakes_42 rfl 1 rfl ?_
      refine r_iconst (v := (-1 : Int32)) (pc := 43) dX5_wakes_43 (by decide) ?_
      refine AW_jn (P := fun (j : AH → Option (Int32 × AH)) => ∀ (g9 : AH), AW ρI γ l ck_X5_wakes g 164 [(0, .ref x0)] [] g9 (j g9)) (fun g9 => ?_) (fun j10 h_j10 => ?_)
      · skip
        refine r_aload_n (pc := 164) dX5_wakes_164 rfl 0 rfl ?_
        refine r_aload_n (pc := 165) dX5_wakes_165 rfl 0 rfl ?_
        refine r_getI (f := 49) (pc := 166) dX5_wakes_166 q3397 (Or.inl rfl) rfl (fun v11 => ?_)
        refine r_cI (pc := 169) (rest := []) (RunOK_chk (fun h => run_V (n := 1) (c9 := 8) (As := [.int v11]) (rest := []) (t_X5_does γ l hl x0 v11 g9) dX5_wakes_169 q3588 q3590 qs76 q121 q3591 (by decide +kernel) rfl h ⟨rfl, by decide, by decide⟩ (Nat.le_of_ble_eq_true rfl) (Nat.le_of_ble_eq_true rfl) rfl (Nat.le_of_ble_eq_true rfl))) (fun v13 g12 => ?_)
        exact r_iret (pc := 172) dX5_wakes_172 rfl
      · skip
        refine r_icmp_ne (tgt := 120) (pc := 44) dX5_wakes_44 (by decide) ?_ ?_
        · skip
          refine r_iconst (v := (0 : Int32)) (pc := 47) dX5_wakes_47 (by decide) ?_
          refine r_istore_n (pc := 48) dX5_wakes_48 rfl (Nat.le_of_ble_eq_true rfl) rfl ?_
          refine AW_sub [1, 0] rfl ?_
          refine f_X5_wakes_L49_w γ l hl _ x0 FU (0 : Int32) g8
        · skip
          refine r_iconst (v := (0 : Int32)) (pc := 120) dX5_wakes_120 (by decide) ?_
          refine r_istore_n (pc := 121) dX5_wakes_121 rfl (Nat.le_of_ble_eq_true rfl) rfl ?_
          refine AW_sub [1, 2, 0] rfl ?_
          refine f_X5_wakes_L122_w γ l hl _ x0 x1 _ ?_ FU (0 : Int32) g8
          · intro g37
            exact h_j10 g37
  · skip
    refine r_icmp_eq (tgt := 15) (pc := 2) dX5_wakes_2 (by decide) ?_ ?_
    · skip
      exact h_j2 g
    · skip
      refine r_aload_n (pc := 5) dX5_wakes_5 rfl 0 rfl ?_
      refine r_iload_n (pc := 6) dX5_wakes_6 rfl 1 rfl ?_
      refine r_cI (pc := 7) (rest := []) (RunOK_chk (fun h => run_V (n := 1) (c9 := 8) (As := [.int x1]) (rest := []) (t_X5_isCook γ l hl x0 x1 g) dX5_wakes_7 q3479 q3481 qs57 q121 q3482 (by decide +kernel) rfl h ⟨rfl, by decide, by decide⟩ (Nat.le_of_ble_eq_true rfl) (Nat.le_of_ble_eq_true rfl) rfl (Nat.le_of_ble_eq_true rfl))) (fun v39 g38 => ?_)
      refine r_if_ne (tgt := 15) (pc := 10) dX5_wakes_10 (by decide) ?_ ?_
      · skip
        refine r_iconst (v := (1 : Int32)) (pc := 13) dX5_wakes_13 (by decide) ?_
        exact r_iret (pc := 14) dX5_wakes_14 rfl
      · skip
        exact h_j2 g38
abbrev ck_X5_wake : CK := ("BanquetVotesModel", prog_25_method_60_code, 2, (some .int), "wake", [], 5)
def f_X5_wake (γ : GP) (x0 : Nat) (x1 : Int32) (g : AH) : Option (Int32 × AH) := bV ((if hK g x0 = 8 then f_X5_tries γ x0 g else none)) fun g1 => bI ((if hK g1 x0 = 8 then f_X5_wakes γ x0 x1 g1 else none)) fun v3 g2 => bI ((if hK g2 x0 = 8 then f_X5_endsAt γ x0 v3 g2 else none)) fun v5 g4 => (some (v5, g4))
theorem t_X5_wake (γ : GP) (l : Launch) (hl : l.stackTraces = false) (x0 : Nat) (x1 : Int32) (g : AH) : TrM ρI γ l ⟨"BanquetVotesModel", "wake", "(I)I"⟩ (ws_ ⟨"BanquetVotesModel", "wake", "(I)I"⟩ prog_25_method_60_code 2 (some .int)) 5 [.ref x0, .int x1] g (f_X5_wake γ x0 x1 g) := by
  refine TrM_of (plainFor_of_name (by decide)) (Nat.le_of_ble_eq_true rfl) ?_
  unfold f_X5_wake
  change AW ρI γ l ck_X5_wake g 0 [(0, .ref x0), (1, .int x1)] [] g _
  refine r_aload_n (pc := 0) dX5_wake_0 rfl 0 rfl ?_
  refine r_cV (pc := 1) (rest := []) (RunOK_chk (fun h => run_V (n := 0) (c9 := 8) (As := []) (rest := []) (t_X5_tries γ l hl x0 g) dX5_wake_1 q3451 q3453 qs52 q121 q3454 (by decide +kernel) rfl h ⟨rfl, by decide, by decide⟩ (Nat.le_of_ble_eq_true rfl) (Nat.le_of_ble_eq_true rfl) rfl (Nat.le_of_ble_eq_true rfl))) (fun g1 => ?_)
  refine r_aload_n (pc := 4) dX5_wake_4 rfl 0 rfl ?_
  refine r_aload_n (pc := 5) dX5_wake_5 rfl 0 rfl ?_
  refine r_iload_n (pc := 6) dX5_wake_6 rfl 1 rfl ?_
  refine r_cI (pc := 7) (rest := [.ref x0]) (RunOK_chk (fun h => run_V (n := 1) (c9 := 8) (As := [.int x1]) (rest := [.ref x0]) (t_X5_wakes γ l hl x0 x1 g1) dX5_wake_7 q3636 q3638 qs85 q121 q3639 (by decide +kernel) rfl h ⟨rfl, by decide, by decide⟩ (Nat.le_of_ble_eq_true rfl) (Nat.le_of_ble_eq_true rfl) rfl (Nat.le_of_ble_eq_true rfl))) (fun v3 g2 => ?_)
  refine r_cI (pc := 10) (rest := []) (RunOK_chk (fun h => run_V (n := 1) (c9 := 8) (As := [.int v3]) (rest := []) (t_X5_endsAt γ l hl x0 v3 g2) dX5_wake_10 q3592 q3594 qs77 q121 q3595 (by decide +kernel) rfl h ⟨rfl, by decide, by decide⟩ (Nat.le_of_ble_eq_true rfl) (Nat.le_of_ble_eq_true rfl) rfl (Nat.le_of_ble_eq_true rfl))) (fun v5 g4 => ?_)
  exact r_iret (pc := 13) dX5_wake_13 rfl
abbrev ck_X5_becomes : CK := ("BanquetVotesModel", prog_25_method_31_code, 4, none, "becomes", [], 2)
def f_X5_becomes (γ : GP) (x0 : Nat) (x1 : Int32) (x2 : Int32) (x3 : Int32) (g : AH) : Option (AH) := bV ((if hK g x0 = 8 then f_X5_setsCourse γ x0 x1 (((4 : Int32) + ((4 : Int32) * x2)) + (2 : Int32)) x3 g else none)) fun g1 => gR g1 x0 30 fun v2 => gA g1 101 v2 (0 : Int32) fun v3 => bV ((if hK g1 x0 = 8 then f_X5_setsCourse γ x0 x1 (((4 : Int32) + ((4 : Int32) * x2)) + (3 : Int32)) v3 g1 else none)) fun g4 => jn (fun (z5 : Int32) (z6 : Int32) (z7 : Nat) (g8 : AH) => bV ((if hK g8 z7 = 8 then f_X5_writes γ z7 z6 z5 x1 g8 else none)) fun g10 => (some g10)) (fun (j9 : Int32 → Int32 → Nat → AH → Option (AH)) => (if x3 = (1 : Int32) then j9 (3 : Int32) x2 x0 g4 else (if x3 = (2 : Int32) then j9 (4 : Int32) x2 x0 g4 else (if x3 = (3 : Int32) then j9 (5 : Int32) x2 x0 g4 else j9 (6 : Int32) x2 x0 g4))))
theorem t_X5_becomes (γ : GP) (l : Launch) (hl : l.stackTraces = false) (x0 : Nat) (x1 : Int32) (x2 : Int32) (x3 : Int32) (g : AH) : TrM ρV γ l ⟨"BanquetVotesModel", "becomes", "(III)V"⟩ (ws_ ⟨"BanquetVotesModel", "becomes", "(III)V"⟩ prog_25_method_31_code 4 none) 2 [.ref x0, .int x1, .int x2, .int x3] g (f_X5_becomes γ x0 x1 x2 x3 g) := by
  refine TrM_of (plainFor_of_name (by decide)) (Nat.le_of_ble_eq_true rfl) ?_
  unfold f_X5_becomes
  change AW ρV γ l ck_X5_becomes g 0 [(0, .ref x0), (1, .int x1), (2, .int x2), (3, .int x3)] [] g _
  refine r_aload_n (pc := 0) dX5_becomes_0 rfl 0 rfl ?_
  refine r_iload_n (pc := 1) dX5_becomes_1 rfl 1 rfl ?_
  refine r_iconst (v := (4 : Int32)) (pc := 2) dX5_becomes_2 (by decide) ?_
  refine r_iconst (v := (4 : Int32)) (pc := 3) dX5_becomes_3 (by decide) ?_
  refine r_iload_n (pc := 4) dX5_becomes_4 rfl 2 rfl ?_
  refine r_imul (pc := 5) dX5_becomes_5 ?_
  refine r_iadd (pc := 6) dX5_becomes_6 ?_
  refine r_iconst (v := (2 : Int32)) (pc := 7) dX5_becomes_7 (by decide) ?_
  refine r_iadd (pc := 8) dX5_becomes_8 ?_
  refine r_iload_n (pc := 9) dX5_becomes_9 rfl 3 rfl ?_
  refine r_cV (pc := 10) (rest := []) (RunOK_chk (fun h => run_V (n := 3) (c9 := 8) (As := [.int x1, .int (((4 : Int32) + ((4 : Int32) * x2)) + (2 : Int32)), .int x3]) (rest := []) (t_X5_setsCourse γ l hl x0 x1 (((4 : Int32) + ((4 : Int32) * x2)) + (2 : Int32)) x3 g) dX5_becomes_10 q3519 q3521 qs65 q121 q3522 (by decide +kernel) rfl h ⟨rfl, by decide, by decide⟩ (Nat.le_of_ble_eq_true rfl) (Nat.le_of_ble_eq_true rfl) rfl (Nat.le_of_ble_eq_true rfl))) (fun g1 => ?_)
  refine r_aload_n (pc := 13) dX5_becomes_13 rfl 0 rfl ?_
  refine r_iload_n (pc := 14) dX5_becomes_14 rfl 1 rfl ?_
  refine r_iconst (v := (4 : Int32)) (pc := 15) dX5_becomes_15 (by decide) ?_
  refine r_iconst (v := (4 : Int32)) (pc := 16) dX5_becomes_16 (by decide) ?_
  refine r_iload_n (pc := 17) dX5_becomes_17 rfl 2 rfl ?_
  refine r_imul (pc := 18) dX5_becomes_18 ?_
  refine r_iadd (pc := 19) dX5_becomes_19 ?_
  refine r_iconst (v := (3 : Int32)) (pc := 20) dX5_becomes_20 (by decide) ?_
  refine r_iadd (pc := 21) dX5_becomes_21 ?_
  refine r_aload_n (pc := 22) dX5_becomes_22 rfl 0 rfl ?_
  refine r_getR (f := 30) (pc := 23) dX5_becomes_23 q3378 (Or.inl rfl) rfl (fun v2 => ?_)
  refine r_iconst (v := (0 : Int32)) (pc := 26) dX5_becomes_26 (by decide) ?_
  refine r_iald (pc := 27) dX5_becomes_27 (fun v3 => ?_)
  refine r_cV (pc := 28) (rest := []) (RunOK_chk (fun h => run_V (n := 3) (c9 := 8) (As := [.int x1, .int (((4 : Int32) + ((4 : Int32) * x2)) + (3 : Int32)), .int v3]) (rest := []) (t_X5_setsCourse γ l hl x0 x1 (((4 : Int32) + ((4 : Int32) * x2)) + (3 : Int32)) v3 g1) dX5_becomes_28 q3519 q3521 qs65 q121 q3522 (by decide +kernel) rfl h ⟨rfl, by decide, by decide⟩ (Nat.le_of_ble_eq_true rfl) (Nat.le_of_ble_eq_true rfl) rfl (Nat.le_of_ble_eq_true rfl))) (fun g4 => ?_)
  refine r_aload_n (pc := 31) dX5_becomes_31 rfl 0 rfl ?_
  refine r_iload_n (pc := 32) dX5_becomes_32 rfl 2 rfl ?_
  refine r_iload_n (pc := 33) dX5_becomes_33 rfl 3 rfl ?_
  refine r_iconst (v := (1 : Int32)) (pc := 34) dX5_becomes_34 (by decide) ?_
  refine AW_jn (P := fun (j : Int32 → Int32 → Nat → AH → Option (AH)) => ∀ (z5 : Int32) (z6 : Int32) (z7 : Nat) (g8 : AH), AW ρV γ l ck_X5_becomes g 62 [(1, .int x1)] [.int z5, .int z6, .ref z7] g8 (j z5 z6 z7 g8)) (fun z5 z6 z7 g8 => ?_) (fun j9 h_j9 => ?_)
  · skip
    refine r_iload_n (pc := 62) dX5_becomes_62 rfl 0 rfl ?_
    refine r_cV (pc := 63) (rest := []) (RunOK_chk (fun h => run_V (n := 3) (c9 := 8) (As := [.int z6, .int z5, .int x1]) (rest := []) (t_X5_writes γ l hl z7 z6 z5 x1 g8) dX5_becomes_63 q3576 q3578 qs73 q121 q3579 (by decide +kernel) rfl h ⟨rfl, by decide, by decide⟩ (Nat.le_of_ble_eq_true rfl) (Nat.le_of_ble_eq_true rfl) rfl (Nat.le_of_ble_eq_true rfl))) (fun g10 => ?_)
    exact r_vret (pc := 66) dX5_becomes_66 rfl
  · skip
    refine r_icmp_ne (tgt := 42) (pc := 35) dX5_becomes_35 (by decide) ?_ ?_
    · skip
      refine r_iconst (v := (3 : Int32)) (pc := 38) dX5_becomes_38 (by decide) ?_
      refine r_goto (tgt := 62) (pc := 39) dX5_becomes_39 (by decide) ?_
      refine AW_sub [1] rfl ?_
      exact h_j9 (3 : Int32) x2 x0 g4
    · skip
      refine r_iload_n (pc := 42) dX5_becomes_42 rfl 3 rfl ?_
      refine r_iconst (v := (2 : Int32)) (pc := 43) dX5_becomes_43 (by decide) ?_
      refine r_icmp_ne (tgt := 51) (pc := 44) dX5_becomes_44 (by decide) ?_ ?_
      · skip
        refine r_iconst (v := (4 : Int32)) (pc := 47) dX5_becomes_47 (by decide) ?_
        refine r_goto (tgt := 62) (pc := 48) dX5_becomes_48 (by decide) ?_
        refine AW_sub [1] rfl ?_
        exact h_j9 (4 : Int32) x2 x0 g4
      · skip
        refine r_iload_n (pc := 51) dX5_becomes_51 rfl 3 rfl ?_
        refine r_iconst (v := (3 : Int32)) (pc := 52) dX5_becomes_52 (by decide) ?_
        refine r_icmp_ne (tgt := 60) (pc := 53) dX5_becomes_53 (by decide) ?_ ?_
        · skip
          refine r_iconst (v := (5 : Int32)) (pc := 56) dX5_becomes_56 (by decide) ?_
          refine r_goto (tgt := 62) (pc := 57) dX5_becomes_57 (by decide) ?_
          refine AW_sub [1] rfl ?_
          exact h_j9 (5 : Int32) x2 x0 g4
        · skip
          refine r_bipush (v := (6 : Int32)) (pc := 60) dX5_becomes_60 (by decide) ?_
          refine AW_sub [1] rfl ?_
          exact h_j9 (6 : Int32) x2 x0 g4
