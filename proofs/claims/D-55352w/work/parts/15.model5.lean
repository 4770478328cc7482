set_option maxRecDepth 100000
abbrev cX5_describe : ByteArray := prog_25_method_84_code
def dkwX5_describe_6 : List UInt8 := [167, 255, 168, 42, 180, 1, 41, 172]
abbrev dktX5_describe_6 : List UInt8 := dkwX5_describe_6 ++ []
def dkwX5_describe_5 : List UInt8 := [90, 4, 96, 181, 1, 41, 19, 1, 46, 42, 27, 28, 182, 0, 81, 182, 0, 236, 85, 132, 2, 1]
abbrev dktX5_describe_5 : List UInt8 := dkwX5_describe_5 ++ dktX5_describe_6
def dkwX5_describe_4 : List UInt8 := [180, 1, 41, 90, 4, 96, 181, 1, 41, 16, 48, 28, 96, 146, 85, 42, 180, 0, 26, 42, 89, 180, 1, 41]
abbrev dktX5_describe_4 : List UInt8 := dkwX5_describe_4 ++ dktX5_describe_5
def dkwX5_describe_3 : List UInt8 := [42, 180, 0, 26, 42, 89, 180, 1, 41, 90, 4, 96, 181, 1, 41, 16, 32, 85, 42, 180, 0, 26, 42, 89]
abbrev dktX5_describe_3 : List UInt8 := dkwX5_describe_3 ++ dktX5_describe_4
def dkwX5_describe_2 : List UInt8 := [182, 0, 236, 85, 3, 61, 28, 16, 6, 162, 0, 88, 42, 27, 28, 182, 0, 77, 154, 0, 6, 167, 0, 70]
abbrev dktX5_describe_2 : List UInt8 := dkwX5_describe_2 ++ dktX5_describe_3
def dkwX5_describe_1 : List UInt8 := [42, 180, 0, 26, 42, 89, 180, 1, 41, 90, 4, 96, 181, 1, 41, 19, 1, 44, 42, 27, 182, 0, 84]
abbrev dktX5_describe_1 : List UInt8 := dkwX5_describe_1 ++ dktX5_describe_2
def dkwX5_describe_0 : List UInt8 := [42, 3, 181, 0, 46, 42, 27, 182, 0, 167, 154, 0, 9, 42, 4, 182, 0, 149, 172, 42, 3, 181, 1, 41]
abbrev dktX5_describe_0 : List UInt8 := dkwX5_describe_0 ++ dktX5_describe_1
theorem dksX5_describe_0 : cX5_describe.data.toList.drop 0 = dktX5_describe_0 := by decide +kernel
theorem dksX5_describe_1 : cX5_describe.data.toList.drop 24 = dktX5_describe_1 := dk_seg dksX5_describe_0 24 rfl rfl
theorem dksX5_describe_2 : cX5_describe.data.toList.drop 47 = dktX5_describe_2 := dk_seg dksX5_describe_1 23 rfl rfl
theorem dksX5_describe_3 : cX5_describe.data.toList.drop 71 = dktX5_describe_3 := dk_seg dksX5_describe_2 24 rfl rfl
theorem dksX5_describe_4 : cX5_describe.data.toList.drop 95 = dktX5_describe_4 := dk_seg dksX5_describe_3 24 rfl rfl
theorem dksX5_describe_5 : cX5_describe.data.toList.drop 119 = dktX5_describe_5 := dk_seg dksX5_describe_4 24 rfl rfl
theorem dksX5_describe_6 : cX5_describe.data.toList.drop 141 = dktX5_describe_6 := dk_seg dksX5_describe_5 22 rfl rfl
theorem dX5_describe_0 : decode cX5_describe 0 = .ok (.aload_n 0, 1) := dk_42 (dk_at dksX5_describe_0 0 rfl rfl)
theorem dX5_describe_1 : decode cX5_describe 1 = .ok (.iconst 0, 1) := dk_3 (dk_at dksX5_describe_0 1 rfl rfl)
theorem dX5_describe_2 : decode cX5_describe 2 = .ok (.putfield 46, 3) := dk_181 0 46 (dk_at dksX5_describe_0 2 rfl rfl)
theorem dX5_describe_5 : decode cX5_describe 5 = .ok (.aload_n 0, 1) := dk_42 (dk_at dksX5_describe_0 5 rfl rfl)
theorem dX5_describe_6 : decode cX5_describe 6 = .ok (.iload_n 1, 1) := dk_27 (dk_at dksX5_describe_0 6 rfl rfl)
theorem dX5_describe_7 : decode cX5_describe 7 = .ok (.invokevirtual 167, 3) := dk_182 0 167 (dk_at dksX5_describe_0 7 rfl rfl)
theorem dX5_describe_10 : decode cX5_describe 10 = .ok (.ifCond .ne 9, 3) := dk_154 0 9 (dk_at dksX5_describe_0 10 rfl rfl)
theorem dX5_describe_13 : decode cX5_describe 13 = .ok (.aload_n 0, 1) := dk_42 (dk_at dksX5_describe_0 13 rfl rfl)
theorem dX5_describe_14 : decode cX5_describe 14 = .ok (.iconst 1, 1) := dk_4 (dk_at dksX5_describe_0 14 rfl rfl)
theorem dX5_describe_15 : decode cX5_describe 15 = .ok (.invokevirtual 149, 3) := dk_182 0 149 (dk_at dksX5_describe_0 15 rfl rfl)
theorem dX5_describe_18 : decode cX5_describe 18 = .ok (.ireturn, 1) := dk_172 (dk_at dksX5_describe_0 18 rfl rfl)
theorem dX5_describe_19 : decode cX5_describe 19 = .ok (.aload_n 0, 1) := dk_42 (dk_at dksX5_describe_0 19 rfl rfl)
theorem dX5_describe_20 : decode cX5_describe 20 = .ok (.iconst 0, 1) := dk_3 (dk_at dksX5_describe_0 20 rfl rfl)
theorem dX5_describe_21 : decode cX5_describe 21 = .ok (.putfield 297, 3) := dk_181 1 41 (dk_at dksX5_describe_0 21 rfl rfl)
theorem dX5_describe_24 : decode cX5_describe 24 = .ok (.aload_n 0, 1) := dk_42 (dk_at dksX5_describe_1 0 rfl rfl)
theorem dX5_describe_25 : decode cX5_describe 25 = .ok (.getfield 26, 3) := dk_180 0 26 (dk_at dksX5_describe_1 1 rfl rfl)
theorem dX5_describe_28 : decode cX5_describe 28 = .ok (.aload_n 0, 1) := dk_42 (dk_at dksX5_describe_1 4 rfl rfl)
theorem dX5_describe_29 : decode cX5_describe 29 = .ok (.dup, 1) := dk_89 (dk_at dksX5_describe_1 5 rfl rfl)
theorem dX5_describe_30 : decode cX5_describe 30 = .ok (.getfield 297, 3) := dk_180 1 41 (dk_at dksX5_describe_1 6 rfl rfl)
theorem dX5_describe_33 : decode cX5_describe 33 = .ok (.dup_x1, 1) := dk_90 (dk_at dksX5_describe_1 9 rfl rfl)
theorem dX5_describe_34 : decode cX5_describe 34 = .ok (.iconst 1, 1) := dk_4 (dk_at dksX5_describe_1 10 rfl rfl)
theorem dX5_describe_35 : decode cX5_describe 35 = .ok (.iadd, 1) := dk_96 (dk_at dksX5_describe_1 11 rfl rfl)
theorem dX5_describe_36 : decode cX5_describe 36 = .ok (.putfield 297, 3) := dk_181 1 41 (dk_at dksX5_describe_1 12 rfl rfl)
theorem dX5_describe_39 : decode cX5_describe 39 = .ok (.ldc_w 300, 3) := dk_19 1 44 (dk_at dksX5_describe_1 15 rfl rfl)
theorem dX5_describe_42 : decode cX5_describe 42 = .ok (.aload_n 0, 1) := dk_42 (dk_at dksX5_describe_1 18 rfl rfl)
theorem dX5_describe_43 : decode cX5_describe 43 = .ok (.iload_n 1, 1) := dk_27 (dk_at dksX5_describe_1 19 rfl rfl)
theorem dX5_describe_44 : decode cX5_describe 44 = .ok (.invokevirtual 84, 3) := dk_182 0 84 (dk_at dksX5_describe_1 20 rfl rfl)
theorem dX5_describe_47 : decode cX5_describe 47 = .ok (.invokevirtual 236, 3) := dk_182 0 236 (dk_at dksX5_describe_2 0 rfl rfl)
theorem dX5_describe_50 : decode cX5_describe 50 = .ok (.castore, 1) := dk_85 (dk_at dksX5_describe_2 3 rfl rfl)
theorem dX5_describe_51 : decode cX5_describe 51 = .ok (.iconst 0, 1) := dk_3 (dk_at dksX5_describe_2 4 rfl rfl)
theorem dX5_describe_52 : decode cX5_describe 52 = .ok (.istore_n 2, 1) := dk_61 (dk_at dksX5_describe_2 5 rfl rfl)
theorem dX5_describe_53 : decode cX5_describe 53 = .ok (.iload_n 2, 1) := dk_28 (dk_at dksX5_describe_2 6 rfl rfl)
theorem dX5_describe_54 : decode cX5_describe 54 = .ok (.bipush 6, 2) := dk_16 6 (dk_at dksX5_describe_2 7 rfl rfl)
theorem dX5_describe_56 : decode cX5_describe 56 = .ok (.if_icmp .ge 88, 3) := dk_162 0 88 (dk_at dksX5_describe_2 9 rfl rfl)
theorem dX5_describe_59 : decode cX5_describe 59 = .ok (.aload_n 0, 1) := dk_42 (dk_at dksX5_describe_2 12 rfl rfl)
theorem dX5_describe_60 : decode cX5_describe 60 = .ok (.iload_n 1, 1) := dk_27 (dk_at dksX5_describe_2 13 rfl rfl)
theorem dX5_describe_61 : decode cX5_describe 61 = .ok (.iload_n 2, 1) := dk_28 (dk_at dksX5_describe_2 14 rfl rfl)
theorem dX5_describe_62 : decode cX5_describe 62 = .ok (.invokevirtual 77, 3) := dk_182 0 77 (dk_at dksX5_describe_2 15 rfl rfl)
theorem dX5_describe_65 : decode cX5_describe 65 = .ok (.ifCond .ne 6, 3) := dk_154 0 6 (dk_at dksX5_describe_2 18 rfl rfl)
theorem dX5_describe_68 : decode cX5_describe 68 = .ok (.goto 70, 3) := dk_167 0 70 (dk_at dksX5_describe_2 21 rfl rfl)
theorem dX5_describe_71 : decode cX5_describe 71 = .ok (.aload_n 0, 1) := dk_42 (dk_at dksX5_describe_3 0 rfl rfl)
theorem dX5_describe_72 : decode cX5_describe 72 = .ok (.getfield 26, 3) := dk_180 0 26 (dk_at dksX5_describe_3 1 rfl rfl)
theorem dX5_describe_75 : decode cX5_describe 75 = .ok (.aload_n 0, 1) := dk_42 (dk_at dksX5_describe_3 4 rfl rfl)
theorem dX5_describe_76 : decode cX5_describe 76 = .ok (.dup, 1) := dk_89 (dk_at dksX5_describe_3 5 rfl rfl)
theorem dX5_describe_77 : decode cX5_describe 77 = .ok (.getfield 297, 3) := dk_180 1 41 (dk_at dksX5_describe_3 6 rfl rfl)
theorem dX5_describe_80 : decode cX5_describe 80 = .ok (.dup_x1, 1) := dk_90 (dk_at dksX5_describe_3 9 rfl rfl)
theorem dX5_describe_81 : decode cX5_describe 81 = .ok (.iconst 1, 1) := dk_4 (dk_at dksX5_describe_3 10 rfl rfl)
theorem dX5_describe_82 : decode cX5_describe 82 = .ok (.iadd, 1) := dk_96 (dk_at dksX5_describe_3 11 rfl rfl)
theorem dX5_describe_83 : decode cX5_describe 83 = .ok (.putfield 297, 3) := dk_181 1 41 (dk_at dksX5_describe_3 12 rfl rfl)
theorem dX5_describe_86 : decode cX5_describe 86 = .ok (.bipush 32, 2) := dk_16 32 (dk_at dksX5_describe_3 15 rfl rfl)
theorem dX5_describe_88 : decode cX5_describe 88 = .ok (.castore, 1) := dk_85 (dk_at dksX5_describe_3 17 rfl rfl)
theorem dX5_describe_89 : decode cX5_describe 89 = .ok (.aload_n 0, 1) := dk_42 (dk_at dksX5_describe_3 18 rfl rfl)
theorem dX5_describe_90 : decode cX5_describe 90 = .ok (.getfield 26, 3) := dk_180 0 26 (dk_at dksX5_describe_3 19 rfl rfl)
theorem dX5_describe_93 : decode cX5_describe 93 = .ok (.aload_n 0, 1) := dk_42 (dk_at dksX5_describe_3 22 rfl rfl)
theorem dX5_describe_94 : decode cX5_describe 94 = .ok (.dup, 1) := dk_89 (dk_at dksX5_describe_3 23 rfl rfl)
theorem dX5_describe_95 : decode cX5_describe 95 = .ok (.getfield 297, 3) := dk_180 1 41 (dk_at dksX5_describe_4 0 rfl rfl)
theorem dX5_describe_98 : decode cX5_describe 98 = .ok (.dup_x1, 1) := dk_90 (dk_at dksX5_describe_4 3 rfl rfl)
theorem dX5_describe_99 : decode cX5_describe 99 = .ok (.iconst 1, 1) := dk_4 (dk_at dksX5_describe_4 4 rfl rfl)
theorem dX5_describe_100 : decode cX5_describe 100 = .ok (.iadd, 1) := dk_96 (dk_at dksX5_describe_4 5 rfl rfl)
theorem dX5_describe_101 : decode cX5_describe 101 = .ok (.putfield 297, 3) := dk_181 1 41 (dk_at dksX5_describe_4 6 rfl rfl)
theorem dX5_describe_104 : decode cX5_describe 104 = .ok (.bipush 48, 2) := dk_16 48 (dk_at dksX5_describe_4 9 rfl rfl)
theorem dX5_describe_106 : decode cX5_describe 106 = .ok (.iload_n 2, 1) := dk_28 (dk_at dksX5_describe_4 11 rfl rfl)
theorem dX5_describe_107 : decode cX5_describe 107 = .ok (.iadd, 1) := dk_96 (dk_at dksX5_describe_4 12 rfl rfl)
theorem dX5_describe_108 : decode cX5_describe 108 = .ok (.i2c, 1) := dk_146 (dk_at dksX5_describe_4 13 rfl rfl)
theorem dX5_describe_109 : decode cX5_describe 109 = .ok (.castore, 1) := dk_85 (dk_at dksX5_describe_4 14 rfl rfl)
theorem dX5_describe_110 : decode cX5_describe 110 = .ok (.aload_n 0, 1) := dk_42 (dk_at dksX5_describe_4 15 rfl rfl)
theorem dX5_describe_111 : decode cX5_describe 111 = .ok (.getfield 26, 3) := dk_180 0 26 (dk_at dksX5_describe_4 16 rfl rfl)
theorem dX5_describe_114 : decode cX5_describe 114 = .ok (.aload_n 0, 1) := dk_42 (dk_at dksX5_describe_4 19 rfl rfl)
theorem dX5_describe_115 : decode cX5_describe 115 = .ok (.dup, 1) := dk_89 (dk_at dksX5_describe_4 20 rfl rfl)
theorem dX5_describe_116 : decode cX5_describe 116 = .ok (.getfield 297, 3) := dk_180 1 41 (dk_at dksX5_describe_4 21 rfl rfl)
theorem dX5_describe_119 : decode cX5_describe 119 = .ok (.dup_x1, 1) := dk_90 (dk_at dksX5_describe_5 0 rfl rfl)
theorem dX5_describe_120 : decode cX5_describe 120 = .ok (.iconst 1, 1) := dk_4 (dk_at dksX5_describe_5 1 rfl rfl)
theorem dX5_describe_121 : decode cX5_describe 121 = .ok (.iadd, 1) := dk_96 (dk_at dksX5_describe_5 2 rfl rfl)
theorem dX5_describe_122 : decode cX5_describe 122 = .ok (.putfield 297, 3) := dk_181 1 41 (dk_at dksX5_describe_5 3 rfl rfl)
theorem dX5_describe_125 : decode cX5_describe 125 = .ok (.ldc_w 302, 3) := dk_19 1 46 (dk_at dksX5_describe_5 6 rfl rfl)
theorem dX5_describe_128 : decode cX5_describe 128 = .ok (.aload_n 0, 1) := dk_42 (dk_at dksX5_describe_5 9 rfl rfl)
theorem dX5_describe_129 : decode cX5_describe 129 = .ok (.iload_n 1, 1) := dk_27 (dk_at dksX5_describe_5 10 rfl rfl)
theorem dX5_describe_130 : decode cX5_describe 130 = .ok (.iload_n 2, 1) := dk_28 (dk_at dksX5_describe_5 11 rfl rfl)
theorem dX5_describe_131 : decode cX5_describe 131 = .ok (.invokevirtual 81, 3) := dk_182 0 81 (dk_at dksX5_describe_5 12 rfl rfl)
theorem dX5_describe_134 : decode cX5_describe 134 = .ok (.invokevirtual 236, 3) := dk_182 0 236 (dk_at dksX5_describe_5 15 rfl rfl)
theorem dX5_describe_137 : decode cX5_describe 137 = .ok (.castore, 1) := dk_85 (dk_at dksX5_describe_5 18 rfl rfl)
theorem dX5_describe_138 : decode cX5_describe 138 = .ok (.iinc 2 1, 3) := dk_132 2 1 (dk_at dksX5_describe_5 19 rfl rfl)
theorem dX5_describe_141 : decode cX5_describe 141 = .ok (.goto (-88), 3) := dk_167 255 168 (dk_at dksX5_describe_6 0 rfl rfl)
theorem dX5_describe_144 : decode cX5_describe 144 = .ok (.aload_n 0, 1) := dk_42 (dk_at dksX5_describe_6 3 rfl rfl)
theorem dX5_describe_145 : decode cX5_describe 145 = .ok (.getfield 297, 3) := dk_180 1 41 (dk_at dksX5_describe_6 4 rfl rfl)
theorem dX5_describe_148 : decode cX5_describe 148 = .ok (.ireturn, 1) := dk_172 (dk_at dksX5_describe_6 7 rfl rfl)
abbrev cX5_written : ByteArray := prog_25_method_85_code
def dkwX5_written_1 : List UInt8 := [180, 0, 46, 154, 0, 12, 42, 180, 0, 26, 27, 52, 167, 0, 5, 16, 97, 172]
abbrev dktX5_written_1 : List UInt8 := dkwX5_written_1 ++ []
def dkwX5_written_0 : List UInt8 := [42, 27, 3, 42, 180, 1, 41, 4, 100, 184, 0, 62, 153, 0, 7, 3, 167, 0, 4, 4, 181, 0, 46, 42]
abbrev dktX5_written_0 : List UInt8 := dkwX5_written_0 ++ dktX5_written_1
theorem dksX5_written_0 : cX5_written.data.toList.drop 0 = dktX5_written_0 := by decide +kernel
theorem dksX5_written_1 : cX5_written.data.toList.drop 24 = dktX5_written_1 := dk_seg dksX5_written_0 24 rfl rfl
theorem dX5_written_0 : decode cX5_written 0 = .ok (.aload_n 0, 1) := dk_42 (dk_at dksX5_written_0 0 rfl rfl)
theorem dX5_written_1 : decode cX5_written 1 = .ok (.iload_n 1, 1) := dk_27 (dk_at dksX5_written_0 1 rfl rfl)
theorem dX5_written_2 : decode cX5_written 2 = .ok (.iconst 0, 1) := dk_3 (dk_at dksX5_written_0 2 rfl rfl)
theorem dX5_written_3 : decode cX5_written 3 = .ok (.aload_n 0, 1) := dk_42 (dk_at dksX5_written_0 3 rfl rfl)
theorem dX5_written_4 : decode cX5_written 4 = .ok (.getfield 297, 3) := dk_180 1 41 (dk_at dksX5_written_0 4 rfl rfl)
theorem dX5_written_7 : decode cX5_written 7 = .ok (.iconst 1, 1) := dk_4 (dk_at dksX5_written_0 7 rfl rfl)
theorem dX5_written_8 : decode cX5_written 8 = .ok (.isub, 1) := dk_100 (dk_at dksX5_written_0 8 rfl rfl)
theorem dX5_written_9 : decode cX5_written 9 = .ok (.invokestatic 62, 3) := dk_184 0 62 (dk_at dksX5_written_0 9 rfl rfl)
theorem dX5_written_12 : decode cX5_written 12 = .ok (.ifCond .eq 7, 3) := dk_153 0 7 (dk_at dksX5_written_0 12 rfl rfl)
theorem dX5_written_15 : decode cX5_written 15 = .ok (.iconst 0, 1) := dk_3 (dk_at dksX5_written_0 15 rfl rfl)
theorem dX5_written_16 : decode cX5_written 16 = .ok (.goto 4, 3) := dk_167 0 4 (dk_at dksX5_written_0 16 rfl rfl)
theorem dX5_written_19 : decode cX5_written 19 = .ok (.iconst 1, 1) := dk_4 (dk_at dksX5_written_0 19 rfl rfl)
theorem dX5_written_20 : decode cX5_written 20 = .ok (.putfield 46, 3) := dk_181 0 46 (dk_at dksX5_written_0 20 rfl rfl)
theorem dX5_written_23 : decode cX5_written 23 = .ok (.aload_n 0, 1) := dk_42 (dk_at dksX5_written_0 23 rfl rfl)
theorem dX5_written_24 : decode cX5_written 24 = .ok (.getfield 46, 3) := dk_180 0 46 (dk_at dksX5_written_1 0 rfl rfl)
theorem dX5_written_27 : decode cX5_written 27 = .ok (.ifCond .ne 12, 3) := dk_154 0 12 (dk_at dksX5_written_1 3 rfl rfl)
theorem dX5_written_30 : decode cX5_written 30 = .ok (.aload_n 0, 1) := dk_42 (dk_at dksX5_written_1 6 rfl rfl)
theorem dX5_written_31 : decode cX5_written 31 = .ok (.getfield 26, 3) := dk_180 0 26 (dk_at dksX5_written_1 7 rfl rfl)
theorem dX5_written_34 : decode cX5_written 34 = .ok (.iload_n 1, 1) := dk_27 (dk_at dksX5_written_1 10 rfl rfl)
theorem dX5_written_35 : decode cX5_written 35 = .ok (.caload, 1) := dk_52 (dk_at dksX5_written_1 11 rfl rfl)
theorem dX5_written_36 : decode cX5_written 36 = .ok (.goto 5, 3) := dk_167 0 5 (dk_at dksX5_written_1 12 rfl rfl)
theorem dX5_written_39 : decode cX5_written 39 = .ok (.bipush 97, 2) := dk_16 97 (dk_at dksX5_written_1 15 rfl rfl)
theorem dX5_written_41 : decode cX5_written 41 = .ok (.ireturn, 1) := dk_172 (dk_at dksX5_written_1 17 rfl rfl)
abbrev cX5_account : ByteArray := prog_25_method_86_code
def dkwX5_account_8 : List UInt8 := [172, 42, 4, 182, 0, 149, 172]
abbrev dktX5_account_8 : List UInt8 := dkwX5_account_8 ++ []
def dkwX5_account_7 : List UInt8 := [42, 29, 182, 0, 164, 96, 61, 132, 3, 1, 167, 255, 235, 28, 172, 42, 180, 0, 223, 172, 42, 180, 0, 49]
abbrev dktX5_account_7 : List UInt8 := dkwX5_account_7 ++ dktX5_account_8
def dkwX5_account_6 : List UInt8 := [180, 0, 9, 7, 46, 172, 42, 182, 0, 192, 172, 3, 62, 29, 42, 180, 0, 9, 4, 46, 162, 0, 17, 28]
abbrev dktX5_account_6 : List UInt8 := dkwX5_account_6 ++ dktX5_account_7
def dkwX5_account_5 : List UInt8 := [4, 4, 182, 0, 170, 96, 61, 132, 3, 1, 167, 255, 233, 28, 172, 42, 180, 0, 9, 8, 46, 172, 42]
abbrev dktX5_account_5 : List UInt8 := dkwX5_account_5 ++ dktX5_account_6
def dkwX5_account_4 : List UInt8 := [61, 132, 3, 1, 167, 255, 235, 28, 172, 3, 62, 29, 42, 180, 0, 9, 5, 46, 162, 0, 19, 28, 42, 29]
abbrev dktX5_account_4 : List UInt8 := dkwX5_account_4 ++ dktX5_account_5
def dkwX5_account_3 : List UInt8 := [100, 182, 1, 48, 172, 3, 62, 29, 42, 180, 0, 9, 5, 46, 162, 0, 17, 28, 42, 29, 182, 0, 137, 96]
abbrev dktX5_account_3 : List UInt8 := dkwX5_account_3 ++ dktX5_account_4
def dkwX5_account_2 : List UInt8 := [42, 180, 0, 9, 3, 46, 172, 42, 180, 0, 9, 4, 46, 172, 42, 180, 0, 9, 5, 46, 172, 42, 27, 6]
abbrev dktX5_account_2 : List UInt8 := dkwX5_account_2 ++ dktX5_account_3
def dkwX5_account_1 : List UInt8 := [170, 0, 0, 0, 0, 0, 0, 220, 0, 0, 0, 0, 0, 0, 0, 14, 0, 0, 0, 76, 0, 0, 0, 83, 0, 0, 0, 90, 0, 0, 0, 97, 0, 0, 0, 97, 0, 0, 0, 97, 0, 0, 0, 97, 0, 0, 0, 105, 0, 0, 0, 133, 0, 0, 0, 163, 0, 0, 0, 170, 0, 0, 0, 177, 0, 0, 0, 182, 0, 0, 0, 210, 0, 0, 0, 215]
abbrev dktX5_account_1 : List UInt8 := dkwX5_account_1 ++ dktX5_account_2
def dkwX5_account_0 : List UInt8 := [42, 3, 181, 0, 46, 3, 61, 27]
abbrev dktX5_account_0 : List UInt8 := dkwX5_account_0 ++ dktX5_account_1
theorem dksX5_account_0 : cX5_account.data.toList.drop 0 = dktX5_account_0 := by decide +kernel
theorem dksX5_account_1 : cX5_account.data.toList.drop 8 = dktX5_account_1 := dk_seg dksX5_account_0 8 rfl rfl
theorem dksX5_account_2 : cX5_account.data.toList.drop 84 = dktX5_account_2 := dk_seg dksX5_account_1 76 rfl rfl
theorem dksX5_account_3 : cX5_account.data.toList.drop 108 = dktX5_account_3 := dk_seg dksX5_account_2 24 rfl rfl
theorem dksX5_account_4 : cX5_account.data.toList.drop 132 = dktX5_account_4 := dk_seg dksX5_account_3 24 rfl rfl
theorem dksX5_account_5 : cX5_account.data.toList.drop 156 = dktX5_account_5 := dk_seg dksX5_account_4 24 rfl rfl
theorem dksX5_account_6 : cX5_account.data.toList.drop 179 = dktX5_account_6 := dk_seg dksX5_account_5 23 rfl rfl
theorem dksX5_account_7 : cX5_account.data.toList.drop 203 = dktX5_account_7 := dk_seg dksX5_account_6 24 rfl rfl
theorem dksX5_account_8 : cX5_account.data.toList.drop 227 = dktX5_account_8 := dk_seg dksX5_account_7 24 rfl rfl
theorem dX5_account_0 : decode cX5_account 0 = .ok (.aload_n 0, 1) := dk_42 (dk_at dksX5_account_0 0 rfl rfl)
theorem dX5_account_1 : decode cX5_account 1 = .ok (.iconst 0, 1) := dk_3 (dk_at dksX5_account_0 1 rfl rfl)
theorem dX5_account_2 : decode cX5_account 2 = .ok (.putfield 46, 3) := dk_181 0 46 (dk_at dksX5_account_0 2 rfl rfl)
theorem dX5_account_5 : decode cX5_account 5 = .ok (.iconst 0, 1) := dk_3 (dk_at dksX5_account_0 5 rfl rfl)
theorem dX5_account_6 : decode cX5_account 6 = .ok (.istore_n 2, 1) := dk_61 (dk_at dksX5_account_0 6 rfl rfl)
theorem dX5_account_7 : decode cX5_account 7 = .ok (.iload_n 1, 1) := dk_27 (dk_at dksX5_account_0 7 rfl rfl)
theorem dX5_account_8 : decode cX5_account 8 = .ok (.tableswitch 220 0 14 #[76, 83, 90, 97, 97, 97, 97, 105, 133, 163, 170, 177, 182, 210, 215], 76) := by decide +kernel
theorem dX5_account_84 : decode cX5_account 84 = .ok (.aload_n 0, 1) := dk_42 (dk_at dksX5_account_2 0 rfl rfl)
theorem dX5_account_85 : decode cX5_account 85 = .ok (.getfield 9, 3) := dk_180 0 9 (dk_at dksX5_account_2 1 rfl rfl)
theorem dX5_account_88 : decode cX5_account 88 = .ok (.iconst 0, 1) := dk_3 (dk_at dksX5_account_2 4 rfl rfl)
theorem dX5_account_89 : decode cX5_account 89 = .ok (.iaload, 1) := dk_46 (dk_at dksX5_account_2 5 rfl rfl)
theorem dX5_account_90 : decode cX5_account 90 = .ok (.ireturn, 1) := dk_172 (dk_at dksX5_account_2 6 rfl rfl)
theorem dX5_account_91 : decode cX5_account 91 = .ok (.aload_n 0, 1) := dk_42 (dk_at dksX5_account_2 7 rfl rfl)
theorem dX5_account_92 : decode cX5_account 92 = .ok (.getfield 9, 3) := dk_180 0 9 (dk_at dksX5_account_2 8 rfl rfl)
theorem dX5_account_95 : decode cX5_account 95 = .ok (.iconst 1, 1) := dk_4 (dk_at dksX5_account_2 11 rfl rfl)
theorem dX5_account_96 : decode cX5_account 96 = .ok (.iaload, 1) := dk_46 (dk_at dksX5_account_2 12 rfl rfl)
theorem dX5_account_97 : decode cX5_account 97 = .ok (.ireturn, 1) := dk_172 (dk_at dksX5_account_2 13 rfl rfl)
theorem dX5_account_98 : decode cX5_account 98 = .ok (.aload_n 0, 1) := dk_42 (dk_at dksX5_account_2 14 rfl rfl)
theorem dX5_account_99 : decode cX5_account 99 = .ok (.getfield 9, 3) := dk_180 0 9 (dk_at dksX5_account_2 15 rfl rfl)
theorem dX5_account_102 : decode cX5_account 102 = .ok (.iconst 2, 1) := dk_5 (dk_at dksX5_account_2 18 rfl rfl)
theorem dX5_account_103 : decode cX5_account 103 = .ok (.iaload, 1) := dk_46 (dk_at dksX5_account_2 19 rfl rfl)
theorem dX5_account_104 : decode cX5_account 104 = .ok (.ireturn, 1) := dk_172 (dk_at dksX5_account_2 20 rfl rfl)
theorem dX5_account_105 : decode cX5_account 105 = .ok (.aload_n 0, 1) := dk_42 (dk_at dksX5_account_2 21 rfl rfl)
theorem dX5_account_106 : decode cX5_account 106 = .ok (.iload_n 1, 1) := dk_27 (dk_at dksX5_account_2 22 rfl rfl)
theorem dX5_account_107 : decode cX5_account 107 = .ok (.iconst 3, 1) := dk_6 (dk_at dksX5_account_2 23 rfl rfl)
theorem dX5_account_108 : decode cX5_account 108 = .ok (.isub, 1) := dk_100 (dk_at dksX5_account_3 0 rfl rfl)
theorem dX5_account_109 : decode cX5_account 109 = .ok (.invokevirtual 304, 3) := dk_182 1 48 (dk_at dksX5_account_3 1 rfl rfl)
theorem dX5_account_112 : decode cX5_account 112 = .ok (.ireturn, 1) := dk_172 (dk_at dksX5_account_3 4 rfl rfl)
theorem dX5_account_113 : decode cX5_account 113 = .ok (.iconst 0, 1) := dk_3 (dk_at dksX5_account_3 5 rfl rfl)
theorem dX5_account_114 : decode cX5_account 114 = .ok (.istore_n 3, 1) := dk_62 (dk_at dksX5_account_3 6 rfl rfl)
theorem dX5_account_115 : decode cX5_account 115 = .ok (.iload_n 3, 1) := dk_29 (dk_at dksX5_account_3 7 rfl rfl)
theorem dX5_account_116 : decode cX5_account 116 = .ok (.aload_n 0, 1) := dk_42 (dk_at dksX5_account_3 8 rfl rfl)
theorem dX5_account_117 : decode cX5_account 117 = .ok (.getfield 9, 3) := dk_180 0 9 (dk_at dksX5_account_3 9 rfl rfl)
theorem dX5_account_120 : decode cX5_account 120 = .ok (.iconst 2, 1) := dk_5 (dk_at dksX5_account_3 12 rfl rfl)
theorem dX5_account_121 : decode cX5_account 121 = .ok (.iaload, 1) := dk_46 (dk_at dksX5_account_3 13 rfl rfl)
theorem dX5_account_122 : decode cX5_account 122 = .ok (.if_icmp .ge 17, 3) := dk_162 0 17 (dk_at dksX5_account_3 14 rfl rfl)
theorem dX5_account_125 : decode cX5_account 125 = .ok (.iload_n 2, 1) := dk_28 (dk_at dksX5_account_3 17 rfl rfl)
theorem dX5_account_126 : decode cX5_account 126 = .ok (.aload_n 0, 1) := dk_42 (dk_at dksX5_account_3 18 rfl rfl)
theorem dX5_account_127 : decode cX5_account 127 = .ok (.iload_n 3, 1) := dk_29 (dk_at dksX5_account_3 19 rfl rfl)
theorem dX5_account_128 : decode cX5_account 128 = .ok (.invokevirtual 137, 3) := dk_182 0 137 (dk_at dksX5_account_3 20 rfl rfl)
theorem dX5_account_131 : decode cX5_account 131 = .ok (.iadd, 1) := dk_96 (dk_at dksX5_account_3 23 rfl rfl)
theorem dX5_account_132 : decode cX5_account 132 = .ok (.istore_n 2, 1) := dk_61 (dk_at dksX5_account_4 0 rfl rfl)
theorem dX5_account_133 : decode cX5_account 133 = .ok (.iinc 3 1, 3) := dk_132 3 1 (dk_at dksX5_account_4 1 rfl rfl)
theorem dX5_account_136 : decode cX5_account 136 = .ok (.goto (-21), 3) := dk_167 255 235 (dk_at dksX5_account_4 4 rfl rfl)
theorem dX5_account_139 : decode cX5_account 139 = .ok (.iload_n 2, 1) := dk_28 (dk_at dksX5_account_4 7 rfl rfl)
theorem dX5_account_140 : decode cX5_account 140 = .ok (.ireturn, 1) := dk_172 (dk_at dksX5_account_4 8 rfl rfl)
theorem dX5_account_141 : decode cX5_account 141 = .ok (.iconst 0, 1) := dk_3 (dk_at dksX5_account_4 9 rfl rfl)
theorem dX5_account_142 : decode cX5_account 142 = .ok (.istore_n 3, 1) := dk_62 (dk_at dksX5_account_4 10 rfl rfl)
theorem dX5_account_143 : decode cX5_account 143 = .ok (.iload_n 3, 1) := dk_29 (dk_at dksX5_account_4 11 rfl rfl)
theorem dX5_account_144 : decode cX5_account 144 = .ok (.aload_n 0, 1) := dk_42 (dk_at dksX5_account_4 12 rfl rfl)
theorem dX5_account_145 : decode cX5_account 145 = .ok (.getfield 9, 3) := dk_180 0 9 (dk_at dksX5_account_4 13 rfl rfl)
theorem dX5_account_148 : decode cX5_account 148 = .ok (.iconst 2, 1) := dk_5 (dk_at dksX5_account_4 16 rfl rfl)
theorem dX5_account_149 : decode cX5_account 149 = .ok (.iaload, 1) := dk_46 (dk_at dksX5_account_4 17 rfl rfl)
theorem dX5_account_150 : decode cX5_account 150 = .ok (.if_icmp .ge 19, 3) := dk_162 0 19 (dk_at dksX5_account_4 18 rfl rfl)
theorem dX5_account_153 : decode cX5_account 153 = .ok (.iload_n 2, 1) := dk_28 (dk_at dksX5_account_4 21 rfl rfl)
theorem dX5_account_154 : decode cX5_account 154 = .ok (.aload_n 0, 1) := dk_42 (dk_at dksX5_account_4 22 rfl rfl)
theorem dX5_account_155 : decode cX5_account 155 = .ok (.iload_n 3, 1) := dk_29 (dk_at dksX5_account_4 23 rfl rfl)
theorem dX5_account_156 : decode cX5_account 156 = .ok (.iconst 1, 1) := dk_4 (dk_at dksX5_account_5 0 rfl rfl)
theorem dX5_account_157 : decode cX5_account 157 = .ok (.iconst 1, 1) := dk_4 (dk_at dksX5_account_5 1 rfl rfl)
theorem dX5_account_158 : decode cX5_account 158 = .ok (.invokevirtual 170, 3) := dk_182 0 170 (dk_at dksX5_account_5 2 rfl rfl)
theorem dX5_account_161 : decode cX5_account 161 = .ok (.iadd, 1) := dk_96 (dk_at dksX5_account_5 5 rfl rfl)
theorem dX5_account_162 : decode cX5_account 162 = .ok (.istore_n 2, 1) := dk_61 (dk_at dksX5_account_5 6 rfl rfl)
theorem dX5_account_163 : decode cX5_account 163 = .ok (.iinc 3 1, 3) := dk_132 3 1 (dk_at dksX5_account_5 7 rfl rfl)
theorem dX5_account_166 : decode cX5_account 166 = .ok (.goto (-23), 3) := dk_167 255 233 (dk_at dksX5_account_5 10 rfl rfl)
theorem dX5_account_169 : decode cX5_account 169 = .ok (.iload_n 2, 1) := dk_28 (dk_at dksX5_account_5 13 rfl rfl)
theorem dX5_account_170 : decode cX5_account 170 = .ok (.ireturn, 1) := dk_172 (dk_at dksX5_account_5 14 rfl rfl)
theorem dX5_account_171 : decode cX5_account 171 = .ok (.aload_n 0, 1) := dk_42 (dk_at dksX5_account_5 15 rfl rfl)
theorem dX5_account_172 : decode cX5_account 172 = .ok (.getfield 9, 3) := dk_180 0 9 (dk_at dksX5_account_5 16 rfl rfl)
theorem dX5_account_175 : decode cX5_account 175 = .ok (.iconst 5, 1) := dk_8 (dk_at dksX5_account_5 19 rfl rfl)
theorem dX5_account_176 : decode cX5_account 176 = .ok (.iaload, 1) := dk_46 (dk_at dksX5_account_5 20 rfl rfl)
theorem dX5_account_177 : decode cX5_account 177 = .ok (.ireturn, 1) := dk_172 (dk_at dksX5_account_5 21 rfl rfl)
theorem dX5_account_178 : decode cX5_account 178 = .ok (.aload_n 0, 1) := dk_42 (dk_at dksX5_account_5 22 rfl rfl)
theorem dX5_account_179 : decode cX5_account 179 = .ok (.getfield 9, 3) := dk_180 0 9 (dk_at dksX5_account_6 0 rfl rfl)
theorem dX5_account_182 : decode cX5_account 182 = .ok (.iconst 4, 1) := dk_7 (dk_at dksX5_account_6 3 rfl rfl)
theorem dX5_account_183 : decode cX5_account 183 = .ok (.iaload, 1) := dk_46 (dk_at dksX5_account_6 4 rfl rfl)
theorem dX5_account_184 : decode cX5_account 184 = .ok (.ireturn, 1) := dk_172 (dk_at dksX5_account_6 5 rfl rfl)
theorem dX5_account_185 : decode cX5_account 185 = .ok (.aload_n 0, 1) := dk_42 (dk_at dksX5_account_6 6 rfl rfl)
theorem dX5_account_186 : decode cX5_account 186 = .ok (.invokevirtual 192, 3) := dk_182 0 192 (dk_at dksX5_account_6 7 rfl rfl)
theorem dX5_account_189 : decode cX5_account 189 = .ok (.ireturn, 1) := dk_172 (dk_at dksX5_account_6 10 rfl rfl)
theorem dX5_account_190 : decode cX5_account 190 = .ok (.iconst 0, 1) := dk_3 (dk_at dksX5_account_6 11 rfl rfl)
theorem dX5_account_191 : decode cX5_account 191 = .ok (.istore_n 3, 1) := dk_62 (dk_at dksX5_account_6 12 rfl rfl)
theorem dX5_account_192 : decode cX5_account 192 = .ok (.iload_n 3, 1) := dk_29 (dk_at dksX5_account_6 13 rfl rfl)
theorem dX5_account_193 : decode cX5_account 193 = .ok (.aload_n 0, 1) := dk_42 (dk_at dksX5_account_6 14 rfl rfl)
theorem dX5_account_194 : decode cX5_account 194 = .ok (.getfield 9, 3) := dk_180 0 9 (dk_at dksX5_account_6 15 rfl rfl)
theorem dX5_account_197 : decode cX5_account 197 = .ok (.iconst 1, 1) := dk_4 (dk_at dksX5_account_6 18 rfl rfl)
theorem dX5_account_198 : decode cX5_account 198 = .ok (.iaload, 1) := dk_46 (dk_at dksX5_account_6 19 rfl rfl)
theorem dX5_account_199 : decode cX5_account 199 = .ok (.if_icmp .ge 17, 3) := dk_162 0 17 (dk_at dksX5_account_6 20 rfl rfl)
theorem dX5_account_202 : decode cX5_account 202 = .ok (.iload_n 2, 1) := dk_28 (dk_at dksX5_account_6 23 rfl rfl)
theorem dX5_account_203 : decode cX5_account 203 = .ok (.aload_n 0, 1) := dk_42 (dk_at dksX5_account_7 0 rfl rfl)
theorem dX5_account_204 : decode cX5_account 204 = .ok (.iload_n 3, 1) := dk_29 (dk_at dksX5_account_7 1 rfl rfl)
theorem dX5_account_205 : decode cX5_account 205 = .ok (.invokevirtual 164, 3) := dk_182 0 164 (dk_at dksX5_account_7 2 rfl rfl)
theorem dX5_account_208 : decode cX5_account 208 = .ok (.iadd, 1) := dk_96 (dk_at dksX5_account_7 5 rfl rfl)
theorem dX5_account_209 : decode cX5_account 209 = .ok (.istore_n 2, 1) := dk_61 (dk_at dksX5_account_7 6 rfl rfl)
theorem dX5_account_210 : decode cX5_account 210 = .ok (.iinc 3 1, 3) := dk_132 3 1 (dk_at dksX5_account_7 7 rfl rfl)
theorem dX5_account_213 : decode cX5_account 213 = .ok (.goto (-21), 3) := dk_167 255 235 (dk_at dksX5_account_7 10 rfl rfl)
theorem dX5_account_216 : decode cX5_account 216 = .ok (.iload_n 2, 1) := dk_28 (dk_at dksX5_account_7 13 rfl rfl)
theorem dX5_account_217 : decode cX5_account 217 = .ok (.ireturn, 1) := dk_172 (dk_at dksX5_account_7 14 rfl rfl)
theorem dX5_account_218 : decode cX5_account 218 = .ok (.aload_n 0, 1) := dk_42 (dk_at dksX5_account_7 15 rfl rfl)
theorem dX5_account_219 : decode cX5_account 219 = .ok (.getfield 223, 3) := dk_180 0 223 (dk_at dksX5_account_7 16 rfl rfl)
theorem dX5_account_222 : decode cX5_account 222 = .ok (.ireturn, 1) := dk_172 (dk_at dksX5_account_7 19 rfl rfl)
theorem dX5_account_223 : decode cX5_account 223 = .ok (.aload_n 0, 1) := dk_42 (dk_at dksX5_account_7 20 rfl rfl)
theorem dX5_account_224 : decode cX5_account 224 = .ok (.getfield 49, 3) := dk_180 0 49 (dk_at dksX5_account_7 21 rfl rfl)
theorem dX5_account_227 : decode cX5_account 227 = .ok (.ireturn, 1) := dk_172 (dk_at dksX5_account_8 0 rfl rfl)
theorem dX5_account_228 : decode cX5_account 228 = .ok (.aload_n 0, 1) := dk_42 (dk_at dksX5_account_8 1 rfl rfl)
theorem dX5_account_229 : decode cX5_account 229 = .ok (.iconst 1, 1) := dk_4 (dk_at dksX5_account_8 2 rfl rfl)
theorem dX5_account_230 : decode cX5_account 230 = .ok (.invokevirtual 149, 3) := dk_182 0 149 (dk_at dksX5_account_8 3 rfl rfl)
theorem dX5_account_233 : decode cX5_account 233 = .ok (.ireturn, 1) := dk_172 (dk_at dksX5_account_8 6 rfl rfl)
abbrev cX5_coursesThat : ByteArray := prog_25_method_26_code
def dkwX5_coursesThat_1 : List UInt8 := [132, 2, 1, 132, 3, 1, 167, 255, 231, 28, 172]
abbrev dktX5_coursesThat_1 : List UInt8 := dkwX5_coursesThat_1 ++ []
def dkwX5_coursesThat_0 : List UInt8 := [3, 61, 3, 62, 29, 42, 180, 0, 9, 5, 46, 162, 0, 21, 42, 29, 182, 0, 84, 27, 160, 0, 6]
abbrev dktX5_coursesThat_0 : List UInt8 := dkwX5_coursesThat_0 ++ dktX5_coursesThat_1
theorem dksX5_coursesThat_0 : cX5_coursesThat.data.toList.drop 0 = dktX5_coursesThat_0 := by decide +kernel
theorem dksX5_coursesThat_1 : cX5_coursesThat.data.toList.drop 23 = dktX5_coursesThat_1 := dk_seg dksX5_coursesThat_0 23 rfl rfl
theorem dX5_coursesThat_0 : decode cX5_coursesThat 0 = .ok (.iconst 0, 1) := dk_3 (dk_at dksX5_coursesThat_0 0 rfl rfl)
theorem dX5_coursesThat_1 : decode cX5_coursesThat 1 = .ok (.istore_n 2, 1) := dk_61 (dk_at dksX5_coursesThat_0 1 rfl rfl)
theorem dX5_coursesThat_2 : decode cX5_coursesThat 2 = .ok (.iconst 0, 1) := dk_3 (dk_at dksX5_coursesThat_0 2 rfl rfl)
theorem dX5_coursesThat_3 : decode cX5_coursesThat 3 = .ok (.istore_n 3, 1) := dk_62 (dk_at dksX5_coursesThat_0 3 rfl rfl)
theorem dX5_coursesThat_4 : decode cX5_coursesThat 4 = .ok (.iload_n 3, 1) := dk_29 (dk_at dksX5_coursesThat_0 4 rfl rfl)
theorem dX5_coursesThat_5 : decode cX5_coursesThat 5 = .ok (.aload_n 0, 1) := dk_42 (dk_at dksX5_coursesThat_0 5 rfl rfl)
theorem dX5_coursesThat_6 : decode cX5_coursesThat 6 = .ok (.getfield 9, 3) := dk_180 0 9 (dk_at dksX5_coursesThat_0 6 rfl rfl)
theorem dX5_coursesThat_9 : decode cX5_coursesThat 9 = .ok (.iconst 2, 1) := dk_5 (dk_at dksX5_coursesThat_0 9 rfl rfl)
theorem dX5_coursesThat_10 : decode cX5_coursesThat 10 = .ok (.iaload, 1) := dk_46 (dk_at dksX5_coursesThat_0 10 rfl rfl)
theorem dX5_coursesThat_11 : decode cX5_coursesThat 11 = .ok (.if_icmp .ge 21, 3) := dk_162 0 21 (dk_at dksX5_coursesThat_0 11 rfl rfl)
theorem dX5_coursesThat_14 : decode cX5_coursesThat 14 = .ok (.aload_n 0, 1) := dk_42 (dk_at dksX5_coursesThat_0 14 rfl rfl)
theorem dX5_coursesThat_15 : decode cX5_coursesThat 15 = .ok (.iload_n 3, 1) := dk_29 (dk_at dksX5_coursesThat_0 15 rfl rfl)
theorem dX5_coursesThat_16 : decode cX5_coursesThat 16 = .ok (.invokevirtual 84, 3) := dk_182 0 84 (dk_at dksX5_coursesThat_0 16 rfl rfl)
theorem dX5_coursesThat_19 : decode cX5_coursesThat 19 = .ok (.iload_n 1, 1) := dk_27 (dk_at dksX5_coursesThat_0 19 rfl rfl)
theorem dX5_coursesThat_20 : decode cX5_coursesThat 20 = .ok (.if_icmp .ne 6, 3) := dk_160 0 6 (dk_at dksX5_coursesThat_0 20 rfl rfl)
theorem dX5_coursesThat_23 : decode cX5_coursesThat 23 = .ok (.iinc 2 1, 3) := dk_132 2 1 (dk_at dksX5_coursesThat_1 0 rfl rfl)
theorem dX5_coursesThat_26 : decode cX5_coursesThat 26 = .ok (.iinc 3 1, 3) := dk_132 3 1 (dk_at dksX5_coursesThat_1 3 rfl rfl)
theorem dX5_coursesThat_29 : decode cX5_coursesThat 29 = .ok (.goto (-25), 3) := dk_167 255 231 (dk_at dksX5_coursesThat_1 6 rfl rfl)
theorem dX5_coursesThat_32 : decode cX5_coursesThat 32 = .ok (.iload_n 2, 1) := dk_28 (dk_at dksX5_coursesThat_1 9 rfl rfl)
theorem dX5_coursesThat_33 : decode cX5_coursesThat 33 = .ok (.ireturn, 1) := dk_172 (dk_at dksX5_coursesThat_1 10 rfl rfl)
abbrev cX5_meanWait : ByteArray := prog_25_method_87_code
def dkwX5_meanWait_3 : List UInt8 := [42, 4, 182, 0, 149, 135, 167, 0, 8, 28, 135, 27, 135, 111, 175]
abbrev dktX5_meanWait_3 : List UInt8 := dkwX5_meanWait_3 ++ []
def dkwX5_meanWait_2 : List UInt8 := [29, 5, 182, 0, 70, 42, 29, 4, 182, 0, 70, 100, 96, 61, 132, 3, 1, 167, 255, 203, 27, 154, 0, 12]
abbrev dktX5_meanWait_2 : List UInt8 := dkwX5_meanWait_2 ++ dktX5_meanWait_3
def dkwX5_meanWait_1 : List UInt8 := [182, 0, 84, 5, 161, 0, 34, 42, 29, 4, 182, 0, 70, 156, 0, 6, 167, 0, 22, 132, 1, 1, 28, 42]
abbrev dktX5_meanWait_1 : List UInt8 := dkwX5_meanWait_1 ++ dktX5_meanWait_2
def dkwX5_meanWait_0 : List UInt8 := [42, 3, 181, 0, 46, 3, 60, 3, 61, 3, 62, 29, 42, 180, 0, 9, 5, 46, 162, 0, 49, 42, 29]
abbrev dktX5_meanWait_0 : List UInt8 := dkwX5_meanWait_0 ++ dktX5_meanWait_1
theorem dksX5_meanWait_0 : cX5_meanWait.data.toList.drop 0 = dktX5_meanWait_0 := by decide +kernel
theorem dksX5_meanWait_1 : cX5_meanWait.data.toList.drop 23 = dktX5_meanWait_1 := dk_seg dksX5_meanWait_0 23 rfl rfl
theorem dksX5_meanWait_2 : cX5_meanWait.data.toList.drop 47 = dktX5_meanWait_2 := dk_seg dksX5_meanWait_1 24 rfl rfl
theorem dksX5_meanWait_3 : cX5_meanWait.data.toList.drop 71 = dktX5_meanWait_3 := dk_seg dksX5_meanWait_2 24 rfl rfl
theorem dX5_meanWait_0 : decode cX5_meanWait 0 = .ok (.aload_n 0, 1) := dk_42 (dk_at dksX5_meanWait_0 0 rfl rfl)
theorem dX5_meanWait_1 : decode cX5_meanWait 1 = .ok (.iconst 0, 1) := dk_3 (dk_at dksX5_meanWait_0 1 rfl rfl)
theorem dX5_meanWait_2 : decode cX5_meanWait 2 = .ok (.putfield 46, 3) := dk_181 0 46 (dk_at dksX5_meanWait_0 2 rfl rfl)
theorem dX5_meanWait_5 : decode cX5_meanWait 5 = .ok (.iconst 0, 1) := dk_3 (dk_at dksX5_meanWait_0 5 rfl rfl)
theorem dX5_meanWait_6 : decode cX5_meanWait 6 = .ok (.istore_n 1, 1) := dk_60 (dk_at dksX5_meanWait_0 6 rfl rfl)
theorem dX5_meanWait_7 : decode cX5_meanWait 7 = .ok (.iconst 0, 1) := dk_3 (dk_at dksX5_meanWait_0 7 rfl rfl)
theorem dX5_meanWait_8 : decode cX5_meanWait 8 = .ok (.istore_n 2, 1) := dk_61 (dk_at dksX5_meanWait_0 8 rfl rfl)
theorem dX5_meanWait_9 : decode cX5_meanWait 9 = .ok (.iconst 0, 1) := dk_3 (dk_at dksX5_meanWait_0 9 rfl rfl)
theorem dX5_meanWait_10 : decode cX5_meanWait 10 = .ok (.istore_n 3, 1) := dk_62 (dk_at dksX5_meanWait_0 10 rfl rfl)
theorem dX5_meanWait_11 : decode cX5_meanWait 11 = .ok (.iload_n 3, 1) := dk_29 (dk_at dksX5_meanWait_0 11 rfl rfl)
theorem dX5_meanWait_12 : decode cX5_meanWait 12 = .ok (.aload_n 0, 1) := dk_42 (dk_at dksX5_meanWait_0 12 rfl rfl)
theorem dX5_meanWait_13 : decode cX5_meanWait 13 = .ok (.getfield 9, 3) := dk_180 0 9 (dk_at dksX5_meanWait_0 13 rfl rfl)
theorem dX5_meanWait_16 : decode cX5_meanWait 16 = .ok (.iconst 2, 1) := dk_5 (dk_at dksX5_meanWait_0 16 rfl rfl)
theorem dX5_meanWait_17 : decode cX5_meanWait 17 = .ok (.iaload, 1) := dk_46 (dk_at dksX5_meanWait_0 17 rfl rfl)
theorem dX5_meanWait_18 : decode cX5_meanWait 18 = .ok (.if_icmp .ge 49, 3) := dk_162 0 49 (dk_at dksX5_meanWait_0 18 rfl rfl)
theorem dX5_meanWait_21 : decode cX5_meanWait 21 = .ok (.aload_n 0, 1) := dk_42 (dk_at dksX5_meanWait_0 21 rfl rfl)
theorem dX5_meanWait_22 : decode cX5_meanWait 22 = .ok (.iload_n 3, 1) := dk_29 (dk_at dksX5_meanWait_0 22 rfl rfl)
theorem dX5_meanWait_23 : decode cX5_meanWait 23 = .ok (.invokevirtual 84, 3) := dk_182 0 84 (dk_at dksX5_meanWait_1 0 rfl rfl)
theorem dX5_meanWait_26 : decode cX5_meanWait 26 = .ok (.iconst 2, 1) := dk_5 (dk_at dksX5_meanWait_1 3 rfl rfl)
theorem dX5_meanWait_27 : decode cX5_meanWait 27 = .ok (.if_icmp .lt 34, 3) := dk_161 0 34 (dk_at dksX5_meanWait_1 4 rfl rfl)
theorem dX5_meanWait_30 : decode cX5_meanWait 30 = .ok (.aload_n 0, 1) := dk_42 (dk_at dksX5_meanWait_1 7 rfl rfl)
theorem dX5_meanWait_31 : decode cX5_meanWait 31 = .ok (.iload_n 3, 1) := dk_29 (dk_at dksX5_meanWait_1 8 rfl rfl)
theorem dX5_meanWait_32 : decode cX5_meanWait 32 = .ok (.iconst 1, 1) := dk_4 (dk_at dksX5_meanWait_1 9 rfl rfl)
theorem dX5_meanWait_33 : decode cX5_meanWait 33 = .ok (.invokevirtual 70, 3) := dk_182 0 70 (dk_at dksX5_meanWait_1 10 rfl rfl)
theorem dX5_meanWait_36 : decode cX5_meanWait 36 = .ok (.ifCond .ge 6, 3) := dk_156 0 6 (dk_at dksX5_meanWait_1 13 rfl rfl)
theorem dX5_meanWait_39 : decode cX5_meanWait 39 = .ok (.goto 22, 3) := dk_167 0 22 (dk_at dksX5_meanWait_1 16 rfl rfl)
theorem dX5_meanWait_42 : decode cX5_meanWait 42 = .ok (.iinc 1 1, 3) := dk_132 1 1 (dk_at dksX5_meanWait_1 19 rfl rfl)
theorem dX5_meanWait_45 : decode cX5_meanWait 45 = .ok (.iload_n 2, 1) := dk_28 (dk_at dksX5_meanWait_1 22 rfl rfl)
theorem dX5_meanWait_46 : decode cX5_meanWait 46 = .ok (.aload_n 0, 1) := dk_42 (dk_at dksX5_meanWait_1 23 rfl rfl)
theorem dX5_meanWait_47 : decode cX5_meanWait 47 = .ok (.iload_n 3, 1) := dk_29 (dk_at dksX5_meanWait_2 0 rfl rfl)
theorem dX5_meanWait_48 : decode cX5_meanWait 48 = .ok (.iconst 2, 1) := dk_5 (dk_at dksX5_meanWait_2 1 rfl rfl)
theorem dX5_meanWait_49 : decode cX5_meanWait 49 = .ok (.invokevirtual 70, 3) := dk_182 0 70 (dk_at dksX5_meanWait_2 2 rfl rfl)
theorem dX5_meanWait_52 : decode cX5_meanWait 52 = .ok (.aload_n 0, 1) := dk_42 (dk_at dksX5_meanWait_2 5 rfl rfl)
theorem dX5_meanWait_53 : decode cX5_meanWait 53 = .ok (.iload_n 3, 1) := dk_29 (dk_at dksX5_meanWait_2 6 rfl rfl)
theorem dX5_meanWait_54 : decode cX5_meanWait 54 = .ok (.iconst 1, 1) := dk_4 (dk_at dksX5_meanWait_2 7 rfl rfl)
theorem dX5_meanWait_55 : decode cX5_meanWait 55 = .ok (.invokevirtual 70, 3) := dk_182 0 70 (dk_at dksX5_meanWait_2 8 rfl rfl)
theorem dX5_meanWait_58 : decode cX5_meanWait 58 = .ok (.isub, 1) := dk_100 (dk_at dksX5_meanWait_2 11 rfl rfl)
theorem dX5_meanWait_59 : decode cX5_meanWait 59 = .ok (.iadd, 1) := dk_96 (dk_at dksX5_meanWait_2 12 rfl rfl)
theorem dX5_meanWait_60 : decode cX5_meanWait 60 = .ok (.istore_n 2, 1) := dk_61 (dk_at dksX5_meanWait_2 13 rfl rfl)
theorem dX5_meanWait_61 : decode cX5_meanWait 61 = .ok (.iinc 3 1, 3) := dk_132 3 1 (dk_at dksX5_meanWait_2 14 rfl rfl)
theorem dX5_meanWait_64 : decode cX5_meanWait 64 = .ok (.goto (-53), 3) := dk_167 255 203 (dk_at dksX5_meanWait_2 17 rfl rfl)
theorem dX5_meanWait_67 : decode cX5_meanWait 67 = .ok (.iload_n 1, 1) := dk_27 (dk_at dksX5_meanWait_2 20 rfl rfl)
theorem dX5_meanWait_68 : decode cX5_meanWait 68 = .ok (.ifCond .ne 12, 3) := dk_154 0 12 (dk_at dksX5_meanWait_2 21 rfl rfl)
theorem dX5_meanWait_71 : decode cX5_meanWait 71 = .ok (.aload_n 0, 1) := dk_42 (dk_at dksX5_meanWait_3 0 rfl rfl)
theorem dX5_meanWait_72 : decode cX5_meanWait 72 = .ok (.iconst 1, 1) := dk_4 (dk_at dksX5_meanWait_3 1 rfl rfl)
theorem dX5_meanWait_73 : decode cX5_meanWait 73 = .ok (.invokevirtual 149, 3) := dk_182 0 149 (dk_at dksX5_meanWait_3 2 rfl rfl)
theorem dX5_meanWait_76 : decode cX5_meanWait 76 = .ok (.i2d, 1) := dk_135 (dk_at dksX5_meanWait_3 5 rfl rfl)
theorem dX5_meanWait_77 : decode cX5_meanWait 77 = .ok (.goto 8, 3) := dk_167 0 8 (dk_at dksX5_meanWait_3 6 rfl rfl)
theorem dX5_meanWait_80 : decode cX5_meanWait 80 = .ok (.iload_n 2, 1) := dk_28 (dk_at dksX5_meanWait_3 9 rfl rfl)
theorem dX5_meanWait_81 : decode cX5_meanWait 81 = .ok (.i2d, 1) := dk_135 (dk_at dksX5_meanWait_3 10 rfl rfl)
theorem dX5_meanWait_82 : decode cX5_meanWait 82 = .ok (.iload_n 1, 1) := dk_27 (dk_at dksX5_meanWait_3 11 rfl rfl)
theorem dX5_meanWait_83 : decode cX5_meanWait 83 = .ok (.i2d, 1) := dk_135 (dk_at dksX5_meanWait_3 12 rfl rfl)
theorem dX5_meanWait_84 : decode cX5_meanWait 84 = .ok (.ddiv, 1) := dk_111 (dk_at dksX5_meanWait_3 13 rfl rfl)
theorem dX5_meanWait_85 : decode cX5_meanWait 85 = .ok (.dreturn, 1) := dk_175 (dk_at dksX5_meanWait_3 14 rfl rfl)
abbrev cX5_servedShare : ByteArray := prog_25_method_88_code
def dkwX5_servedShare_1 : List UInt8 := [182, 0, 149, 134, 167, 0, 12, 42, 5, 182, 1, 48, 134, 27, 134, 110, 174]
abbrev dktX5_servedShare_1 : List UInt8 := dkwX5_servedShare_1 ++ []
def dkwX5_servedShare_0 : List UInt8 := [42, 3, 181, 0, 46, 42, 5, 182, 1, 48, 42, 6, 182, 1, 48, 96, 60, 27, 154, 0, 12, 42, 4]
abbrev dktX5_servedShare_0 : List UInt8 := dkwX5_servedShare_0 ++ dktX5_servedShare_1
theorem dksX5_servedShare_0 : cX5_servedShare.data.toList.drop 0 = dktX5_servedShare_0 := by decide +kernel
theorem dksX5_servedShare_1 : cX5_servedShare.data.toList.drop 23 = dktX5_servedShare_1 := dk_seg dksX5_servedShare_0 23 rfl rfl
theorem dX5_servedShare_0 : decode cX5_servedShare 0 = .ok (.aload_n 0, 1) := dk_42 (dk_at dksX5_servedShare_0 0 rfl rfl)
theorem dX5_servedShare_1 : decode cX5_servedShare 1 = .ok (.iconst 0, 1) := dk_3 (dk_at dksX5_servedShare_0 1 rfl rfl)
theorem dX5_servedShare_2 : decode cX5_servedShare 2 = .ok (.putfield 46, 3) := dk_181 0 46 (dk_at dksX5_servedShare_0 2 rfl rfl)
theorem dX5_servedShare_5 : decode cX5_servedShare 5 = .ok (.aload_n 0, 1) := dk_42 (dk_at dksX5_servedShare_0 5 rfl rfl)
theorem dX5_servedShare_6 : decode cX5_servedShare 6 = .ok (.iconst 2, 1) := dk_5 (dk_at dksX5_servedShare_0 6 rfl rfl)
theorem dX5_servedShare_7 : decode cX5_servedShare 7 = .ok (.invokevirtual 304, 3) := dk_182 1 48 (dk_at dksX5_servedShare_0 7 rfl rfl)
theorem dX5_servedShare_10 : decode cX5_servedShare 10 = .ok (.aload_n 0, 1) := dk_42 (dk_at dksX5_servedShare_0 10 rfl rfl)
theorem dX5_servedShare_11 : decode cX5_servedShare 11 = .ok (.iconst 3, 1) := dk_6 (dk_at dksX5_servedShare_0 11 rfl rfl)
theorem dX5_servedShare_12 : decode cX5_servedShare 12 = .ok (.invokevirtual 304, 3) := dk_182 1 48 (dk_at dksX5_servedShare_0 12 rfl rfl)
theorem dX5_servedShare_15 : decode cX5_servedShare 15 = .ok (.iadd, 1) := dk_96 (dk_at dksX5_servedShare_0 15 rfl rfl)
theorem dX5_servedShare_16 : decode cX5_servedShare 16 = .ok (.istore_n 1, 1) := dk_60 (dk_at dksX5_servedShare_0 16 rfl rfl)
theorem dX5_servedShare_17 : decode cX5_servedShare 17 = .ok (.iload_n 1, 1) := dk_27 (dk_at dksX5_servedShare_0 17 rfl rfl)
theorem dX5_servedShare_18 : decode cX5_servedShare 18 = .ok (.ifCond .ne 12, 3) := dk_154 0 12 (dk_at dksX5_servedShare_0 18 rfl rfl)
theorem dX5_servedShare_21 : decode cX5_servedShare 21 = .ok (.aload_n 0, 1) := dk_42 (dk_at dksX5_servedShare_0 21 rfl rfl)
theorem dX5_servedShare_22 : decode cX5_servedShare 22 = .ok (.iconst 1, 1) := dk_4 (dk_at dksX5_servedShare_0 22 rfl rfl)
theorem dX5_servedShare_23 : decode cX5_servedShare 23 = .ok (.invokevirtual 149, 3) := dk_182 0 149 (dk_at dksX5_servedShare_1 0 rfl rfl)
theorem dX5_servedShare_26 : decode cX5_servedShare 26 = .ok (.i2f, 1) := dk_134 (dk_at dksX5_servedShare_1 3 rfl rfl)
theorem dX5_servedShare_27 : decode cX5_servedShare 27 = .ok (.goto 12, 3) := dk_167 0 12 (dk_at dksX5_servedShare_1 4 rfl rfl)
theorem dX5_servedShare_30 : decode cX5_servedShare 30 = .ok (.aload_n 0, 1) := dk_42 (dk_at dksX5_servedShare_1 7 rfl rfl)
theorem dX5_servedShare_31 : decode cX5_servedShare 31 = .ok (.iconst 2, 1) := dk_5 (dk_at dksX5_servedShare_1 8 rfl rfl)
theorem dX5_servedShare_32 : decode cX5_servedShare 32 = .ok (.invokevirtual 304, 3) := dk_182 1 48 (dk_at dksX5_servedShare_1 9 rfl rfl)
theorem dX5_servedShare_35 : decode cX5_servedShare 35 = .ok (.i2f, 1) := dk_134 (dk_at dksX5_servedShare_1 12 rfl rfl)
theorem dX5_servedShare_36 : decode cX5_servedShare 36 = .ok (.iload_n 1, 1) := dk_27 (dk_at dksX5_servedShare_1 13 rfl rfl)
theorem dX5_servedShare_37 : decode cX5_servedShare 37 = .ok (.i2f, 1) := dk_134 (dk_at dksX5_servedShare_1 14 rfl rfl)
theorem dX5_servedShare_38 : decode cX5_servedShare 38 = .ok (.fdiv, 1) := dk_110 (dk_at dksX5_servedShare_1 15 rfl rfl)
theorem dX5_servedShare_39 : decode cX5_servedShare 39 = .ok (.freturn, 1) := dk_174 (dk_at dksX5_servedShare_1 16 rfl rfl)
abbrev cX5_undo : ByteArray := prog_25_method_89_code
def dkwX5_undo_2 : List UInt8 := [17, 21, 81, 42, 180, 0, 49, 104, 27, 96, 46, 79, 132, 1, 1, 167, 255, 225, 42, 180, 0, 49, 172]
abbrev dktX5_undo_2 : List UInt8 := dkwX5_undo_2 ++ []
def dkwX5_undo_1 : List UInt8 := [100, 181, 0, 49, 3, 60, 27, 17, 21, 81, 162, 0, 30, 42, 180, 0, 9, 27, 42, 180, 0, 20]
abbrev dktX5_undo_1 : List UInt8 := dkwX5_undo_1 ++ dktX5_undo_2
def dkwX5_undo_0 : List UInt8 := [42, 3, 181, 0, 46, 42, 180, 0, 49, 154, 0, 9, 42, 4, 182, 0, 149, 172, 42, 89, 180, 0, 49, 4]
abbrev dktX5_undo_0 : List UInt8 := dkwX5_undo_0 ++ dktX5_undo_1
theorem dksX5_undo_0 : cX5_undo.data.toList.drop 0 = dktX5_undo_0 := by decide +kernel
theorem dksX5_undo_1 : cX5_undo.data.toList.drop 24 = dktX5_undo_1 := dk_seg dksX5_undo_0 24 rfl rfl
theorem dksX5_undo_2 : cX5_undo.data.toList.drop 46 = dktX5_undo_2 := dk_seg dksX5_undo_1 22 rfl rfl
theorem dX5_undo_0 : decode cX5_undo 0 = .ok (.aload_n 0, 1) := dk_42 (dk_at dksX5_undo_0 0 rfl rfl)
theorem dX5_undo_1 : decode cX5_undo 1 = .ok (.iconst 0, 1) := dk_3 (dk_at dksX5_undo_0 1 rfl rfl)
theorem dX5_undo_2 : decode cX5_undo 2 = .ok (.putfield 46, 3) := dk_181 0 46 (dk_at dksX5_undo_0 2 rfl rfl)
theorem dX5_undo_5 : decode cX5_undo 5 = .ok (.aload_n 0, 1) := dk_42 (dk_at dksX5_undo_0 5 rfl rfl)
theorem dX5_undo_6 : decode cX5_undo 6 = .ok (.getfield 49, 3) := dk_180 0 49 (dk_at dksX5_undo_0 6 rfl rfl)
theorem dX5_undo_9 : decode cX5_undo 9 = .ok (.ifCond .ne 9, 3) := dk_154 0 9 (dk_at dksX5_undo_0 9 rfl rfl)
theorem dX5_undo_12 : decode cX5_undo 12 = .ok (.aload_n 0, 1) := dk_42 (dk_at dksX5_undo_0 12 rfl rfl)
theorem dX5_undo_13 : decode cX5_undo 13 = .ok (.iconst 1, 1) := dk_4 (dk_at dksX5_undo_0 13 rfl rfl)
theorem dX5_undo_14 : decode cX5_undo 14 = .ok (.invokevirtual 149, 3) := dk_182 0 149 (dk_at dksX5_undo_0 14 rfl rfl)
theorem dX5_undo_17 : decode cX5_undo 17 = .ok (.ireturn, 1) := dk_172 (dk_at dksX5_undo_0 17 rfl rfl)
theorem dX5_undo_18 : decode cX5_undo 18 = .ok (.aload_n 0, 1) := dk_42 (dk_at dksX5_undo_0 18 rfl rfl)
theorem dX5_undo_19 : decode cX5_undo 19 = .ok (.dup, 1) := dk_89 (dk_at dksX5_undo_0 19 rfl rfl)
theorem dX5_undo_20 : decode cX5_undo 20 = .ok (.getfield 49, 3) := dk_180 0 49 (dk_at dksX5_undo_0 20 rfl rfl)
theorem dX5_undo_23 : decode cX5_undo 23 = .ok (.iconst 1, 1) := dk_4 (dk_at dksX5_undo_0 23 rfl rfl)
theorem dX5_undo_24 : decode cX5_undo 24 = .ok (.isub, 1) := dk_100 (dk_at dksX5_undo_1 0 rfl rfl)
theorem dX5_undo_25 : decode cX5_undo 25 = .ok (.putfield 49, 3) := dk_181 0 49 (dk_at dksX5_undo_1 1 rfl rfl)
theorem dX5_undo_28 : decode cX5_undo 28 = .ok (.iconst 0, 1) := dk_3 (dk_at dksX5_undo_1 4 rfl rfl)
theorem dX5_undo_29 : decode cX5_undo 29 = .ok (.istore_n 1, 1) := dk_60 (dk_at dksX5_undo_1 5 rfl rfl)
theorem dX5_undo_30 : decode cX5_undo 30 = .ok (.iload_n 1, 1) := dk_27 (dk_at dksX5_undo_1 6 rfl rfl)
theorem dX5_undo_31 : decode cX5_undo 31 = .ok (.sipush 5457, 3) := dk_17 21 81 (dk_at dksX5_undo_1 7 rfl rfl)
theorem dX5_undo_34 : decode cX5_undo 34 = .ok (.if_icmp .ge 30, 3) := dk_162 0 30 (dk_at dksX5_undo_1 10 rfl rfl)
theorem dX5_undo_37 : decode cX5_undo 37 = .ok (.aload_n 0, 1) := dk_42 (dk_at dksX5_undo_1 13 rfl rfl)
theorem dX5_undo_38 : decode cX5_undo 38 = .ok (.getfield 9, 3) := dk_180 0 9 (dk_at dksX5_undo_1 14 rfl rfl)
theorem dX5_undo_41 : decode cX5_undo 41 = .ok (.iload_n 1, 1) := dk_27 (dk_at dksX5_undo_1 17 rfl rfl)
theorem dX5_undo_42 : decode cX5_undo 42 = .ok (.aload_n 0, 1) := dk_42 (dk_at dksX5_undo_1 18 rfl rfl)
theorem dX5_undo_43 : decode cX5_undo 43 = .ok (.getfield 20, 3) := dk_180 0 20 (dk_at dksX5_undo_1 19 rfl rfl)
theorem dX5_undo_46 : decode cX5_undo 46 = .ok (.sipush 5457, 3) := dk_17 21 81 (dk_at dksX5_undo_2 0 rfl rfl)
theorem dX5_undo_49 : decode cX5_undo 49 = .ok (.aload_n 0, 1) := dk_42 (dk_at dksX5_undo_2 3 rfl rfl)
theorem dX5_undo_50 : decode cX5_undo 50 = .ok (.getfield 49, 3) := dk_180 0 49 (dk_at dksX5_undo_2 4 rfl rfl)
theorem dX5_undo_53 : decode cX5_undo 53 = .ok (.imul, 1) := dk_104 (dk_at dksX5_undo_2 7 rfl rfl)
theorem dX5_undo_54 : decode cX5_undo 54 = .ok (.iload_n 1, 1) := dk_27 (dk_at dksX5_undo_2 8 rfl rfl)
theorem dX5_undo_55 : decode cX5_undo 55 = .ok (.iadd, 1) := dk_96 (dk_at dksX5_undo_2 9 rfl rfl)
theorem dX5_undo_56 : decode cX5_undo 56 = .ok (.iaload, 1) := dk_46 (dk_at dksX5_undo_2 10 rfl rfl)
theorem dX5_undo_57 : decode cX5_undo 57 = .ok (.iastore, 1) := dk_79 (dk_at dksX5_undo_2 11 rfl rfl)
theorem dX5_undo_58 : decode cX5_undo 58 = .ok (.iinc 1 1, 3) := dk_132 1 1 (dk_at dksX5_undo_2 12 rfl rfl)
theorem dX5_undo_61 : decode cX5_undo 61 = .ok (.goto (-31), 3) := dk_167 255 225 (dk_at dksX5_undo_2 15 rfl rfl)
theorem dX5_undo_64 : decode cX5_undo 64 = .ok (.aload_n 0, 1) := dk_42 (dk_at dksX5_undo_2 18 rfl rfl)
theorem dX5_undo_65 : decode cX5_undo 65 = .ok (.getfield 49, 3) := dk_180 0 49 (dk_at dksX5_undo_2 19 rfl rfl)
theorem dX5_undo_68 : decode cX5_undo 68 = .ok (.ireturn, 1) := dk_172 (dk_at dksX5_undo_2 22 rfl rfl)
abbrev cX5_save : ByteArray := prog_25_method_90_code
def dkwX5_save_1 : List UInt8 := [42, 180, 0, 9, 27, 46, 79, 132, 1, 1, 167, 255, 234, 42, 180, 0, 9, 3, 46, 172]
abbrev dktX5_save_1 : List UInt8 := dkwX5_save_1 ++ []
def dkwX5_save_0 : List UInt8 := [42, 3, 181, 0, 46, 42, 4, 181, 1, 51, 3, 60, 27, 17, 21, 81, 162, 0, 21, 42, 180, 0, 23, 27]
abbrev dktX5_save_0 : List UInt8 := dkwX5_save_0 ++ dktX5_save_1
theorem dksX5_save_0 : cX5_save.data.toList.drop 0 = dktX5_save_0 := by decide +kernel
theorem dksX5_save_1 : cX5_save.data.toList.drop 24 = dktX5_save_1 := dk_seg dksX5_save_0 24 rfl rfl
theorem dX5_save_0 : decode cX5_save 0 = .ok (.aload_n 0, 1) := dk_42 (dk_at dksX5_save_0 0 rfl rfl)
theorem dX5_save_1 : decode cX5_save 1 = .ok (.iconst 0, 1) := dk_3 (dk_at dksX5_save_0 1 rfl rfl)
theorem dX5_save_2 : decode cX5_save 2 = .ok (.putfield 46, 3) := dk_181 0 46 (dk_at dksX5_save_0 2 rfl rfl)
theorem dX5_save_5 : decode cX5_save 5 = .ok (.aload_n 0, 1) := dk_42 (dk_at dksX5_save_0 5 rfl rfl)
theorem dX5_save_6 : decode cX5_save 6 = .ok (.iconst 1, 1) := dk_4 (dk_at dksX5_save_0 6 rfl rfl)
theorem dX5_save_7 : decode cX5_save 7 = .ok (.putfield 307, 3) := dk_181 1 51 (dk_at dksX5_save_0 7 rfl rfl)
theorem dX5_save_10 : decode cX5_save 10 = .ok (.iconst 0, 1) := dk_3 (dk_at dksX5_save_0 10 rfl rfl)
theorem dX5_save_11 : decode cX5_save 11 = .ok (.istore_n 1, 1) := dk_60 (dk_at dksX5_save_0 11 rfl rfl)
theorem dX5_save_12 : decode cX5_save 12 = .ok (.iload_n 1, 1) := dk_27 (dk_at dksX5_save_0 12 rfl rfl)
theorem dX5_save_13 : decode cX5_save 13 = .ok (.sipush 5457, 3) := dk_17 21 81 (dk_at dksX5_save_0 13 rfl rfl)
theorem dX5_save_16 : decode cX5_save 16 = .ok (.if_icmp .ge 21, 3) := dk_162 0 21 (dk_at dksX5_save_0 16 rfl rfl)
theorem dX5_save_19 : decode cX5_save 19 = .ok (.aload_n 0, 1) := dk_42 (dk_at dksX5_save_0 19 rfl rfl)
theorem dX5_save_20 : decode cX5_save 20 = .ok (.getfield 23, 3) := dk_180 0 23 (dk_at dksX5_save_0 20 rfl rfl)
theorem dX5_save_23 : decode cX5_save 23 = .ok (.iload_n 1, 1) := dk_27 (dk_at dksX5_save_0 23 rfl rfl)
theorem dX5_save_24 : decode cX5_save 24 = .ok (.aload_n 0, 1) := dk_42 (dk_at dksX5_save_1 0 rfl rfl)
theorem dX5_save_25 : decode cX5_save 25 = .ok (.getfield 9, 3) := dk_180 0 9 (dk_at dksX5_save_1 1 rfl rfl)
theorem dX5_save_28 : decode cX5_save 28 = .ok (.iload_n 1, 1) := dk_27 (dk_at dksX5_save_1 4 rfl rfl)
theorem dX5_save_29 : decode cX5_save 29 = .ok (.iaload, 1) := dk_46 (dk_at dksX5_save_1 5 rfl rfl)
theorem dX5_save_30 : decode cX5_save 30 = .ok (.iastore, 1) := dk_79 (dk_at dksX5_save_1 6 rfl rfl)
theorem dX5_save_31 : decode cX5_save 31 = .ok (.iinc 1 1, 3) := dk_132 1 1 (dk_at dksX5_save_1 7 rfl rfl)
theorem dX5_save_34 : decode cX5_save 34 = .ok (.goto (-22), 3) := dk_167 255 234 (dk_at dksX5_save_1 10 rfl rfl)
theorem dX5_save_37 : decode cX5_save 37 = .ok (.aload_n 0, 1) := dk_42 (dk_at dksX5_save_1 13 rfl rfl)
theorem dX5_save_38 : decode cX5_save 38 = .ok (.getfield 9, 3) := dk_180 0 9 (dk_at dksX5_save_1 14 rfl rfl)
theorem dX5_save_41 : decode cX5_save 41 = .ok (.iconst 0, 1) := dk_3 (dk_at dksX5_save_1 17 rfl rfl)
theorem dX5_save_42 : decode cX5_save 42 = .ok (.iaload, 1) := dk_46 (dk_at dksX5_save_1 18 rfl rfl)
theorem dX5_save_43 : decode cX5_save 43 = .ok (.ireturn, 1) := dk_172 (dk_at dksX5_save_1 19 rfl rfl)
abbrev cX5_restore : ByteArray := prog_25_method_91_code
def dkwX5_restore_2 : List UInt8 := [181, 0, 49, 42, 180, 0, 9, 3, 46, 172]
abbrev dktX5_restore_2 : List UInt8 := dkwX5_restore_2 ++ []
def dkwX5_restore_1 : List UInt8 := [162, 0, 21, 42, 180, 0, 9, 27, 42, 180, 0, 23, 27, 46, 79, 132, 1, 1, 167, 255, 234, 42, 3]
abbrev dktX5_restore_1 : List UInt8 := dkwX5_restore_1 ++ dktX5_restore_2
def dkwX5_restore_0 : List UInt8 := [42, 3, 181, 0, 46, 42, 180, 1, 51, 154, 0, 9, 42, 4, 182, 0, 149, 172, 3, 60, 27, 17, 21, 81]
abbrev dktX5_restore_0 : List UInt8 := dkwX5_restore_0 ++ dktX5_restore_1
theorem dksX5_restore_0 : cX5_restore.data.toList.drop 0 = dktX5_restore_0 := by decide +kernel
theorem dksX5_restore_1 : cX5_restore.data.toList.drop 24 = dktX5_restore_1 := dk_seg dksX5_restore_0 24 rfl rfl
theorem dksX5_restore_2 : cX5_restore.data.toList.drop 47 = dktX5_restore_2 := dk_seg dksX5_restore_1 23 rfl rfl
theorem dX5_restore_0 : decode cX5_restore 0 = .ok (.aload_n 0, 1) := dk_42 (dk_at dksX5_restore_0 0 rfl rfl)
theorem dX5_restore_1 : decode cX5_restore 1 = .ok (.iconst 0, 1) := dk_3 (dk_at dksX5_restore_0 1 rfl rfl)
theorem dX5_restore_2 : decode cX5_restore 2 = .ok (.putfield 46, 3) := dk_181 0 46 (dk_at dksX5_restore_0 2 rfl rfl)
theorem dX5_restore_5 : decode cX5_restore 5 = .ok (.aload_n 0, 1) := dk_42 (dk_at dksX5_restore_0 5 rfl rfl)
theorem dX5_restore_6 : decode cX5_restore 6 = .ok (.getfield 307, 3) := dk_180 1 51 (dk_at dksX5_restore_0 6 rfl rfl)
theorem dX5_restore_9 : decode cX5_restore 9 = .ok (.ifCond .ne 9, 3) := dk_154 0 9 (dk_at dksX5_restore_0 9 rfl rfl)
theorem dX5_restore_12 : decode cX5_restore 12 = .ok (.aload_n 0, 1) := dk_42 (dk_at dksX5_restore_0 12 rfl rfl)
theorem dX5_restore_13 : decode cX5_restore 13 = .ok (.iconst 1, 1) := dk_4 (dk_at dksX5_restore_0 13 rfl rfl)
theorem dX5_restore_14 : decode cX5_restore 14 = .ok (.invokevirtual 149, 3) := dk_182 0 149 (dk_at dksX5_restore_0 14 rfl rfl)
theorem dX5_restore_17 : decode cX5_restore 17 = .ok (.ireturn, 1) := dk_172 (dk_at dksX5_restore_0 17 rfl rfl)
theorem dX5_restore_18 : decode cX5_restore 18 = .ok (.iconst 0, 1) := dk_3 (dk_at dksX5_restore_0 18 rfl rfl)
theorem dX5_restore_19 : decode cX5_restore 19 = .ok (.istore_n 1, 1) := dk_60 (dk_at dksX5_restore_0 19 rfl rfl)
theorem dX5_restore_20 : decode cX5_restore 20 = .ok (.iload_n 1, 1) := dk_27 (dk_at dksX5_restore_0 20 rfl rfl)
theorem dX5_restore_21 : decode cX5_restore 21 = .ok (.sipush 5457, 3) := dk_17 21 81 (dk_at dksX5_restore_0 21 rfl rfl)
theorem dX5_restore_24 : decode cX5_restore 24 = .ok (.if_icmp .ge 21, 3) := dk_162 0 21 (dk_at dksX5_restore_1 0 rfl rfl)
theorem dX5_restore_27 : decode cX5_restore 27 = .ok (.aload_n 0, 1) := dk_42 (dk_at dksX5_restore_1 3 rfl rfl)
theorem dX5_restore_28 : decode cX5_restore 28 = .ok (.getfield 9, 3) := dk_180 0 9 (dk_at dksX5_restore_1 4 rfl rfl)
theorem dX5_restore_31 : decode cX5_restore 31 = .ok (.iload_n 1, 1) := dk_27 (dk_at dksX5_restore_1 7 rfl rfl)
theorem dX5_restore_32 : decode cX5_restore 32 = .ok (.aload_n 0, 1) := dk_42 (dk_at dksX5_restore_1 8 rfl rfl)
theorem dX5_restore_33 : decode cX5_restore 33 = .ok (.getfield 23, 3) := dk_180 0 23 (dk_at dksX5_restore_1 9 rfl rfl)
theorem dX5_restore_36 : decode cX5_restore 36 = .ok (.iload_n 1, 1) := dk_27 (dk_at dksX5_restore_1 12 rfl rfl)
theorem dX5_restore_37 : decode cX5_restore 37 = .ok (.iaload, 1) := dk_46 (dk_at dksX5_restore_1 13 rfl rfl)
theorem dX5_restore_38 : decode cX5_restore 38 = .ok (.iastore, 1) := dk_79 (dk_at dksX5_restore_1 14 rfl rfl)
theorem dX5_restore_39 : decode cX5_restore 39 = .ok (.iinc 1 1, 3) := dk_132 1 1 (dk_at dksX5_restore_1 15 rfl rfl)
theorem dX5_restore_42 : decode cX5_restore 42 = .ok (.goto (-22), 3) := dk_167 255 234 (dk_at dksX5_restore_1 18 rfl rfl)
theorem dX5_restore_45 : decode cX5_restore 45 = .ok (.aload_n 0, 1) := dk_42 (dk_at dksX5_restore_1 21 rfl rfl)
theorem dX5_restore_46 : decode cX5_restore 46 = .ok (.iconst 0, 1) := dk_3 (dk_at dksX5_restore_1 22 rfl rfl)
theorem dX5_restore_47 : decode cX5_restore 47 = .ok (.putfield 49, 3) := dk_181 0 49 (dk_at dksX5_restore_2 0 rfl rfl)
theorem dX5_restore_50 : decode cX5_restore 50 = .ok (.aload_n 0, 1) := dk_42 (dk_at dksX5_restore_2 3 rfl rfl)
theorem dX5_restore_51 : decode cX5_restore 51 = .ok (.getfield 9, 3) := dk_180 0 9 (dk_at dksX5_restore_2 4 rfl rfl)
theorem dX5_restore_54 : decode cX5_restore 54 = .ok (.iconst 0, 1) := dk_3 (dk_at dksX5_restore_2 7 rfl rfl)
theorem dX5_restore_55 : decode cX5_restore 55 = .ok (.iaload, 1) := dk_46 (dk_at dksX5_restore_2 8 rfl rfl)
theorem dX5_restore_56 : decode cX5_restore 56 = .ok (.ireturn, 1) := dk_172 (dk_at dksX5_restore_2 9 rfl rfl)
theorem q3384 : (Jvm.Cond.fieldLink "BanquetVotesModel" (307 : Nat) "BanquetVotesModel" "isSaved" "Z") ∈ lw_all := lw_g (lw_at lw_m14 157 rfl) rfl
theorem q3386 : (Jvm.Cond.fieldLink "BanquetVotesModel" (297 : Nat) "BanquetVotesModel" "lined" "I") ∈ lw_all := lw_g (lw_at lw_m14 159 rfl) rfl
theorem q3855 : (Jvm.Cond.methodLink "BanquetVotesModel" (304 : Nat) ({ cls := "BanquetVotesModel", name := "coursesThat", desc := "(I)I" } : Jvm.MethodName)) ∈ lw_all := lw_g (lw_at lw_m16 148 rfl) rfl
theorem q3857 : (Jvm.Cond.instanceMethod ({ cls := "BanquetVotesModel", name := "coursesThat", desc := "(I)I" } : Jvm.MethodName)) ∈ lw_all := lw_g (lw_at lw_m16 150 rfl) rfl
theorem q3858 : (Jvm.Cond.code ({ cls := "BanquetVotesModel", name := "coursesThat", desc := "(I)I" } : Jvm.MethodName) prog_25_method_26_code (4 : Nat) (Option.some Jvm.ClassFile.FieldType.int)) ∈ lw_all := lw_g (lw_at lw_m16 151 rfl) rfl
abbrev ck_X5_describe : CK := ("BanquetVotesModel", prog_25_method_84_code, 3, (some .int), "describe", [], 6)
def f_X5_describe_L53 (γ : GP) (x0 : Nat) (x1 : Int32) : Nat → Int32 → AH → Option (Int32 × AH)
  | 0, _, _ => none
  | n + 1, x2, g => (if (6 : Int32) ≤ x2 then gI g x0 38 fun v15 => (some (v15, g)) else bI ((if hK g x0 = 8 then f_X5_isDish γ x0 x1 x2 g else none)) fun v17 g16 => (if v17 = 0 then f_X5_describe_L53 γ x0 x1 n (x2 + (1 : Int32)) g16 else gR g16 x0 37 fun v18 => gI g16 x0 38 fun v19 => pI γ g16 x0 38 (v19 + (1 : Int32)) fun g20 => pA γ g20 103 v18 v19 (32 : Int32) fun g21 => gR g21 x0 37 fun v22 => gI g21 x0 38 fun v23 => pI γ g21 x0 38 (v23 + (1 : Int32)) fun g24 => pA γ g24 103 v22 v23 ((((48 : Int32) + x2)).toUInt32 % 65536).toInt32 fun g25 => gR g25 x0 37 fun v26 => gI g25 x0 38 fun v27 => pI γ g25 x0 38 (v27 + (1 : Int32)) fun g28 => bI ((if hK g28 x0 = 8 then f_X5_howDish γ x0 x1 x2 g28 else none)) fun v30 g29 => bI ((if hK g29 (γ.1 42) = 7 then f_J7_charAt γ (γ.1 42) v30 g29 else none)) fun v32 g31 => pA γ g31 103 v26 v27 v32 fun g33 => f_X5_describe_L53 γ x0 x1 n (x2 + (1 : Int32)) g33))
def f_X5_describe (γ : GP) (x0 : Nat) (x1 : Int32) (g : AH) : Option (Int32 × AH) := pI γ g x0 50 (0 : Int32) fun g1 => bI ((if hK g1 x0 = 8 then f_X5_isCourse γ x0 x1 g1 else none)) fun v3 g2 => (if v3 = 0 then bI ((if hK g2 x0 = 8 then f_X5_raises γ x0 (1 : Int32) g2 else none)) fun v5 g4 => (some (v5, g4)) else pI γ g2 x0 38 (0 : Int32) fun g6 => gR g6 x0 37 fun v7 => gI g6 x0 38 fun v8 => pI γ g6 x0 38 (v8 + (1 : Int32)) fun g9 => bI ((if hK g9 x0 = 8 then f_X5_how γ x0 x1 g9 else none)) fun v11 g10 => bI ((if hK g10 (γ.1 41) = 7 then f_J7_charAt γ (γ.1 41) v11 g10 else none)) fun v13 g12 => pA γ g12 103 v7 v8 v13 fun g14 => f_X5_describe_L53 γ x0 x1 FU (0 : Int32) g14)
theorem f_X5_describe_L53_w (γ : GP) (l : Launch) (hl : l.stackTraces = false) (G0 : AH) (x0 : Nat) (x1 : Int32) : ∀ (n : Nat) (x2 : Int32) (g : AH), AW ρI γ l ck_X5_describe G0 53 [(0, .ref x0), (1, .int x1), (2, .int x2)] [] g (f_X5_describe_L53 γ x0 x1 n x2 g) := by
  intro n
  induction n with
  | zero => intro x2 g; exact AW_none
  | succ n ih =>
    intro x2 g
    unfold f_X5_describe_L53
    refine r_iload_n (pc := 53) dX5_describe_53 rfl 2 rfl ?_
    refine r_bipush (v := (6 : Int32)) (pc := 54) dX5_describe_54 (by decide) ?_
    refine r_icmp_ge (tgt := 144) (pc := 56) dX5_describe_56 (by decide) ?_ ?_
    · skip
      refine r_aload_n (pc := 144) dX5_describe_144 rfl 0 rfl ?_
      refine r_getI (f := 38) (pc := 145) dX5_describe_145 q3386 (Or.inl rfl) rfl (fun v15 => ?_)
      exact r_iret (pc := 148) dX5_describe_148 rfl
    · skip
      refine r_aload_n (pc := 59) dX5_describe_59 rfl 0 rfl ?_
      refine r_iload_n (pc := 60) dX5_describe_60 rfl 1 rfl ?_
      refine r_iload_n (pc := 61) dX5_describe_61 rfl 2 rfl ?_
      refine r_cI (pc := 62) (rest := []) (RunOK_chk (fun h => run_V (n := 2) (c9 := 8) (As := [.int x1, .int x2]) (rest := []) (t_X5_isDish γ l hl x0 x1 x2 g) dX5_describe_62 q3495 q3497 qs60 q121 q3498 (by decide +kernel) rfl h ⟨rfl, by decide, by decide⟩ (Nat.le_of_ble_eq_true rfl) (Nat.le_of_ble_eq_true rfl) rfl (Nat.le_of_ble_eq_true rfl))) (fun v17 g16 => ?_)
      refine r_if_ne (tgt := 71) (pc := 65) dX5_describe_65 (by decide) ?_ ?_
      · skip
        refine r_goto (tgt := 138) (pc := 68) dX5_describe_68 (by decide) ?_
        refine r_iinc (j := 2) (v := (x2 + (1 : Int32))) (pc := 138) dX5_describe_138 rfl rfl (Nat.le_of_ble_eq_true rfl) rfl ?_
        refine r_goto (tgt := 53) (pc := 141) dX5_describe_141 (by decide) ?_
        refine AW_sub [1, 2, 0] rfl ?_
        exact ih (x2 + (1 : Int32)) g16
      · skip
        refine r_aload_n (pc := 71) dX5_describe_71 rfl 0 rfl ?_
        refine r_getR (f := 37) (pc := 72) dX5_describe_72 q3385 (Or.inl rfl) rfl (fun v18 => ?_)
        refine r_aload_n (pc := 75) dX5_describe_75 rfl 0 rfl ?_
        refine r_dup (pc := 76) dX5_describe_76 rfl ?_
        refine r_getI (f := 38) (pc := 77) dX5_describe_77 q3386 (Or.inl rfl) rfl (fun v19 => ?_)
        refine r_dup_x1 (pc := 80) dX5_describe_80 rfl rfl ?_
        refine r_iconst (v := (1 : Int32)) (pc := 81) dX5_describe_81 (by decide) ?_
        refine r_iadd (pc := 82) dX5_describe_82 ?_
        refine r_putI (f := 38) (pc := 83) dX5_describe_83 q3386 (Or.inl rfl) (Or.inl rfl) rfl (fun g20 => ?_)
        refine r_bipush (v := (32 : Int32)) (pc := 86) dX5_describe_86 (by decide) ?_
        refine r_cast (pc := 88) dX5_describe_88 (fun g21 => ?_)
        refine r_aload_n (pc := 89) dX5_describe_89 rfl 0 rfl ?_
        refine r_getR (f := 37) (pc := 90) dX5_describe_90 q3385 (Or.inl rfl) rfl (fun v22 => ?_)
        refine r_aload_n (pc := 93) dX5_describe_93 rfl 0 rfl ?_
        refine r_dup (pc := 94) dX5_describe_94 rfl ?_
        refine r_getI (f := 38) (pc := 95) dX5_describe_95 q3386 (Or.inl rfl) rfl (fun v23 => ?_)
        refine r_dup_x1 (pc := 98) dX5_describe_98 rfl rfl ?_
        refine r_iconst (v := (1 : Int32)) (pc := 99) dX5_describe_99 (by decide) ?_
        refine r_iadd (pc := 100) dX5_describe_100 ?_
        refine r_putI (f := 38) (pc := 101) dX5_describe_101 q3386 (Or.inl rfl) (Or.inl rfl) rfl (fun g24 => ?_)
        refine r_bipush (v := (48 : Int32)) (pc := 104) dX5_describe_104 (by decide) ?_
        refine r_iload_n (pc := 106) dX5_describe_106 rfl 2 rfl ?_
        refine r_iadd (pc := 107) dX5_describe_107 ?_
        refine r_i2c (pc := 108) dX5_describe_108 ?_
        refine r_cast (pc := 109) dX5_describe_109 (fun g25 => ?_)
        refine r_aload_n (pc := 110) dX5_describe_110 rfl 0 rfl ?_
        refine r_getR (f := 37) (pc := 111) dX5_describe_111 q3385 (Or.inl rfl) rfl (fun v26 => ?_)
        refine r_aload_n (pc := 114) dX5_describe_114 rfl 0 rfl ?_
        refine r_dup (pc := 115) dX5_describe_115 rfl ?_
        refine r_getI (f := 38) (pc := 116) dX5_describe_116 q3386 (Or.inl rfl) rfl (fun v27 => ?_)
        refine r_dup_x1 (pc := 119) dX5_describe_119 rfl rfl ?_
        refine r_iconst (v := (1 : Int32)) (pc := 120) dX5_describe_120 (by decide) ?_
        refine r_iadd (pc := 121) dX5_describe_121 ?_
        refine r_putI (f := 38) (pc := 122) dX5_describe_122 q3386 (Or.inl rfl) (Or.inl rfl) rfl (fun g28 => ?_)
        refine r_ldcwS (pc := 125) dX5_describe_125 (List.mem_of_getElem? (i := 30) rfl) ?_
        refine r_aload_n (pc := 128) dX5_describe_128 rfl 0 rfl ?_
        refine r_iload_n (pc := 129) dX5_describe_129 rfl 1 rfl ?_
        refine r_iload_n (pc := 130) dX5_describe_130 rfl 2 rfl ?_
        refine r_cI (pc := 131) (rest := [.ref (γ.1 42), .int v27, .ref v26]) (RunOK_chk (fun h => run_V (n := 2) (c9 := 8) (As := [.int x1, .int x2]) (rest := [.ref (γ.1 42), .int v27, .ref v26]) (t_X5_howDish γ l hl x0 x1 x2 g28) dX5_describe_131 q3503 q3505 qs62 q121 q3506 (by decide +kernel) rfl h ⟨rfl, by decide, by decide⟩ (Nat.le_of_ble_eq_true rfl) (Nat.le_of_ble_eq_true rfl) rfl (Nat.le_of_ble_eq_true rfl))) (fun v30 g29 => ?_)
        refine r_cI (pc := 134) (rest := [.int v27, .ref v26]) (RunOK_chk (fun h => run_V (n := 1) (c9 := 7) (As := [.int v30]) (rest := [.int v27, .ref v26]) (t_J7_charAt γ l hl (γ.1 42) v30 g29) dX5_describe_134 q3778 q3039 q3040 q119 q3041 (by decide +kernel) rfl h ⟨rfl, by decide, by decide⟩ (Nat.le_of_ble_eq_true rfl) (Nat.le_of_ble_eq_true rfl) rfl (Nat.le_of_ble_eq_true rfl))) (fun v32 g31 => ?_)
        refine r_cast (pc := 137) dX5_describe_137 (fun g33 => ?_)
        refine r_iinc (j := 2) (v := (x2 + (1 : Int32))) (pc := 138) dX5_describe_138 rfl rfl (Nat.le_of_ble_eq_true rfl) rfl ?_
        refine r_goto (tgt := 53) (pc := 141) dX5_describe_141 (by decide) ?_
        refine AW_sub [1, 2, 0] rfl ?_
        exact ih (x2 + (1 : Int32)) g33
theorem t_X5_describe (γ : GP) (l : Launch) (hl : l.stackTraces = false) (x0 : Nat) (x1 : Int32) (g : AH) : TrM ρI γ l ⟨"BanquetVotesModel", "describe", "(I)I"⟩ (ws_ ⟨"BanquetVotesModel", "describe", "(I)I"⟩ prog_25_method_84_code 3 (some .int)) 6 [.ref x0, .int x1] g (f_X5_describe γ x0 x1 g) := by
  refine TrM_of (plainFor_of_name (by decide)) (Nat.le_of_ble_eq_true rfl) ?_
  unfold f_X5_describe
  change AW ρI γ l ck_X5_describe g 0 [(0, .ref x0), (1, .int x1)] [] g _
  refine r_aload_n (pc := 0) dX5_describe_0 rfl 0 rfl ?_
  refine r_iconst (v := (0 : Int32)) (pc := 1) dX5_describe_1 (by decide) ?_
  refine r_putI (f := 50) (pc := 2) dX5_describe_2 q3398 (Or.inl rfl) (Or.inl rfl) rfl (fun g1 => ?_)
  refine r_aload_n (pc := 5) dX5_describe_5 rfl 0 rfl ?_
  refine r_iload_n (pc := 6) dX5_describe_6 rfl 1 rfl ?_
  refine r_cI (pc := 7) (rest := []) (RunOK_chk (fun h => run_V (n := 1) (c9 := 8) (As := [.int x1]) (rest := []) (t_X5_isCourse γ l hl x0 x1 g1) dX5_describe_7 q3527 q3529 qs66 q121 q3530 (by decide +kernel) rfl h ⟨rfl, by decide, by decide⟩ (Nat.le_of_ble_eq_true rfl) (Nat.le_of_ble_eq_true rfl) rfl (Nat.le_of_ble_eq_true rfl))) (fun v3 g2 => ?_)
  refine r_if_ne (tgt := 19) (pc := 10) dX5_describe_10 (by decide) ?_ ?_
  · skip
    refine r_aload_n (pc := 13) dX5_describe_13 rfl 0 rfl ?_
    refine r_iconst (v := (1 : Int32)) (pc := 14) dX5_describe_14 (by decide) ?_
    refine r_cI (pc := 15) (rest := []) (RunOK_chk (fun h => run_V (n := 1) (c9 := 8) (As := [.int (1 : Int32)]) (rest := []) (t_X5_raises γ l hl x0 (1 : Int32) g2) dX5_describe_15 q3458 q3460 qs53 q121 q3461 (by decide +kernel) rfl h ⟨rfl, by decide, by decide⟩ (Nat.le_of_ble_eq_true rfl) (Nat.le_of_ble_eq_true rfl) rfl (Nat.le_of_ble_eq_true rfl))) (fun v5 g4 => ?_)
    exact r_iret (pc := 18) dX5_describe_18 rfl
  · skip
    refine r_aload_n (pc := 19) dX5_describe_19 rfl 0 rfl ?_
    refine r_iconst (v := (0 : Int32)) (pc := 20) dX5_describe_20 (by decide) ?_
    refine r_putI (f := 38) (pc := 21) dX5_describe_21 q3386 (Or.inl rfl) (Or.inl rfl) rfl (fun g6 => ?_)
    refine r_aload_n (pc := 24) dX5_describe_24 rfl 0 rfl ?_
    refine r_getR (f := 37) (pc := 25) dX5_describe_25 q3385 (Or.inl rfl) rfl (fun v7 => ?_)
    refine r_aload_n (pc := 28) dX5_describe_28 rfl 0 rfl ?_
    refine r_dup (pc := 29) dX5_describe_29 rfl ?_
    refine r_getI (f := 38) (pc := 30) dX5_describe_30 q3386 (Or.inl rfl) rfl (fun v8 => ?_)
    refine r_dup_x1 (pc := 33) dX5_describe_33 rfl rfl ?_
    refine r_iconst (v := (1 : Int32)) (pc := 34) dX5_describe_34 (by decide) ?_
    refine r_iadd (pc := 35) dX5_describe_35 ?_
    refine r_putI (f := 38) (pc := 36) dX5_describe_36 q3386 (Or.inl rfl) (Or.inl rfl) rfl (fun g9 => ?_)
    refine r_ldcwS (pc := 39) dX5_describe_39 (List.mem_of_getElem? (i := 29) rfl) ?_
    refine r_aload_n (pc := 42) dX5_describe_42 rfl 0 rfl ?_
    refine r_iload_n (pc := 43) dX5_describe_43 rfl 1 rfl ?_
    refine r_cI (pc := 44) (rest := [.ref (γ.1 41), .int v8, .ref v7]) (RunOK_chk (fun h => run_V (n := 1) (c9 := 8) (As := [.int x1]) (rest := [.ref (γ.1 41), .int v8, .ref v7]) (t_X5_how γ l hl x0 x1 g9) dX5_describe_44 q3531 q3533 qs67 q121 q3534 (by decide +kernel) rfl h ⟨rfl, by decide, by decide⟩ (Nat.le_of_ble_eq_true rfl) (Nat.le_of_ble_eq_true rfl) rfl (Nat.le_of_ble_eq_true rfl))) (fun v11 g10 => ?_)
    refine r_cI (pc := 47) (rest := [.int v8, .ref v7]) (RunOK_chk (fun h => run_V (n := 1) (c9 := 7) (As := [.int v11]) (rest := [.int v8, .ref v7]) (t_J7_charAt γ l hl (γ.1 41) v11 g10) dX5_describe_47 q3778 q3039 q3040 q119 q3041 (by decide +kernel) rfl h ⟨rfl, by decide, by decide⟩ (Nat.le_of_ble_eq_true rfl) (Nat.le_of_ble_eq_true rfl) rfl (Nat.le_of_ble_eq_true rfl))) (fun v13 g12 => ?_)
    refine r_cast (pc := 50) dX5_describe_50 (fun g14 => ?_)
    refine r_iconst (v := (0 : Int32)) (pc := 51) dX5_describe_51 (by decide) ?_
    refine r_istore_n (pc := 52) dX5_describe_52 rfl (Nat.le_of_ble_eq_true rfl) rfl ?_
    refine AW_sub [1, 2, 0] rfl ?_
    refine f_X5_describe_L53_w γ l hl _ x0 x1 FU (0 : Int32) g14
abbrev ck_X5_written : CK := ("BanquetVotesModel", prog_25_method_85_code, 2, (some .char), "written", [], 2)
def f_X5_written (γ : GP) (x0 : Nat) (x1 : Int32) (g : AH) : Option (Int32 × AH) := gI g x0 38 fun v1 => bI (f_X5_in γ x1 (0 : Int32) (v1 - (1 : Int32)) g) fun v3 g2 => jn (fun (z4 : Int32) (z5 : Nat) (g6 : AH) => pI γ g6 z5 50 z4 fun g8 => gI g8 x0 50 fun v9 => (if v9 = 0 then gR g8 x0 37 fun v10 => gA g8 103 v10 x1 fun v11 => (rtN .char v11 g8) else (rtN .char (97 : Int32) g8))) (fun (j7 : Int32 → Nat → AH → Option (Int32 × AH)) => (if v3 = 0 then j7 (1 : Int32) x0 g2 else j7 (0 : Int32) x0 g2))
theorem t_X5_written (γ : GP) (l : Launch) (hl : l.stackTraces = false) (x0 : Nat) (x1 : Int32) (g : AH) : TrM ρI γ l ⟨"BanquetVotesModel", "written", "(I)C"⟩ (ws_ ⟨"BanquetVotesModel", "written", "(I)C"⟩ prog_25_method_85_code 2 (some .char)) 2 [.ref x0, .int x1] g (f_X5_written γ x0 x1 g) := by
  refine TrM_of (plainFor_of_name (by decide)) (Nat.le_of_ble_eq_true rfl) ?_
  unfold f_X5_written
  change AW ρI γ l ck_X5_written g 0 [(0, .ref x0), (1, .int x1)] [] g _
  refine r_aload_n (pc := 0) dX5_written_0 rfl 0 rfl ?_
  refine r_iload_n (pc := 1) dX5_written_1 rfl 1 rfl ?_
  refine r_iconst (v := (0 : Int32)) (pc := 2) dX5_written_2 (by decide) ?_
  refine r_aload_n (pc := 3) dX5_written_3 rfl 0 rfl ?_
  refine r_getI (f := 38) (pc := 4) dX5_written_4 q3386 (Or.inl rfl) rfl (fun v1 => ?_)
  refine r_iconst (v := (1 : Int32)) (pc := 7) dX5_written_7 (by decide) ?_
  refine r_isub (pc := 8) dX5_written_8 ?_
  refine r_cI (pc := 9) (rest := [.ref x0]) (run_S (n := 3) (As := [.int x1, .int (0 : Int32), .int (v1 - (1 : Int32))]) (rest := [.ref x0]) (t_X5_in γ l hl x1 (0 : Int32) (v1 - (1 : Int32)) g) dX5_written_9 q3455 q3456 q121 q3457 (by decide +kernel) rfl (Nat.le_of_ble_eq_true rfl) (Nat.le_of_ble_eq_true rfl) rfl (Nat.le_of_ble_eq_true rfl)) (fun v3 g2 => ?_)
  refine AW_jn (P := fun (j : Int32 → Nat → AH → Option (Int32 × AH)) => ∀ (z4 : Int32) (z5 : Nat) (g6 : AH), AW ρI γ l ck_X5_written g 20 [(0, .ref x0), (1, .int x1)] [.int z4, .ref z5] g6 (j z4 z5 g6)) (fun z4 z5 g6 => ?_) (fun j7 h_j7 => ?_)
  · skip
    refine r_putI (f := 50) (pc := 20) dX5_written_20 q3398 (Or.inl rfl) (Or.inl rfl) rfl (fun g8 => ?_)
    refine r_aload_n (pc := 23) dX5_written_23 rfl 0 rfl ?_
    refine r_getI (f := 50) (pc := 24) dX5_written_24 q3398 (Or.inl rfl) rfl (fun v9 => ?_)
    refine r_if_ne (tgt := 39) (pc := 27) dX5_written_27 (by decide) ?_ ?_
    · skip
      refine r_aload_n (pc := 30) dX5_written_30 rfl 0 rfl ?_
      refine r_getR (f := 37) (pc := 31) dX5_written_31 q3385 (Or.inl rfl) rfl (fun v10 => ?_)
      refine r_iload_n (pc := 34) dX5_written_34 rfl 1 rfl ?_
      refine r_cald (pc := 35) dX5_written_35 (fun v11 => ?_)
      refine r_goto (tgt := 41) (pc := 36) dX5_written_36 (by decide) ?_
      exact r_zret (ty := .char) (pc := 41) dX5_written_41 rfl
    · skip
      refine r_bipush (v := (97 : Int32)) (pc := 39) dX5_written_39 (by decide) ?_
      exact r_zret (ty := .char) (pc := 41) dX5_written_41 rfl
  · skip
    refine r_if_eq (tgt := 19) (pc := 12) dX5_written_12 (by decide) ?_ ?_
    · skip
      refine r_iconst (v := (1 : Int32)) (pc := 19) dX5_written_19 (by decide) ?_
      exact h_j7 (1 : Int32) x0 g2
    · skip
      refine r_iconst (v := (0 : Int32)) (pc := 15) dX5_written_15 (by decide) ?_
      refine r_goto (tgt := 20) (pc := 16) dX5_written_16 (by decide) ?_
      exact h_j7 (0 : Int32) x0 g2
abbrev ck_X5_coursesThat : CK := ("BanquetVotesModel", prog_25_method_26_code, 4, (some .int), "coursesThat", [], 3)
def f_X5_coursesThat_L4 (γ : GP) (x0 : Nat) (x1 : Int32) : Nat → Int32 → Int32 → AH → Option (Int32 × AH)
  | 0, _, _, _ => none
  | n + 1, x2, x3, g => gR g x0 30 fun v1 => gA g 101 v1 (2 : Int32) fun v2 => (if v2 ≤ x3 then (some (x2, g)) else bI ((if hK g x0 = 8 then f_X5_how γ x0 x3 g else none)) fun v4 g3 => (if v4 = x1 then f_X5_coursesThat_L4 γ x0 x1 n (x2 + (1 : Int32)) (x3 + (1 : Int32)) g3 else f_X5_coursesThat_L4 γ x0 x1 n x2 (x3 + (1 : Int32)) g3))
def f_X5_coursesThat (γ : GP) (x0 : Nat) (x1 : Int32) (g : AH) : Option (Int32 × AH) := f_X5_coursesThat_L4 γ x0 x1 FU (0 : Int32) (0 : Int32) g
theorem f_X5_coursesThat_L4_w (γ : GP) (l : Launch) (hl : l.stackTraces = false) (G0 : AH) (x0 : Nat) (x1 : Int32) : ∀ (n : Nat) (x2 : Int32) (x3 : Int32) (g : AH), AW ρI γ l ck_X5_coursesThat G0 4 [(0, .ref x0), (1, .int x1), (2, .int x2), (3, .int x3)] [] g (f_X5_coursesThat_L4 γ x0 x1 n x2 x3 g) := by
  intro n
  induction n with
  | zero => intro x2 x3 g; exact AW_none
  | succ n ih =>
    intro x2 x3 g
    unfold f_X5_coursesThat_L4
    refine r_iload_n (pc := 4) dX5_coursesThat_4 rfl 3 rfl ?_
    refine r_aload_n (pc := 5) dX5_coursesThat_5 rfl 0 rfl ?_
    refine r_getR (f := 30) (pc := 6) dX5_coursesThat_6 q3378 (Or.inl rfl) rfl (fun v1 => ?_)
    refine r_iconst (v := (2 : Int32)) (pc := 9) dX5_coursesThat_9 (by decide) ?_
    refine r_iald (pc := 10) dX5_coursesThat_10 (fun v2 => ?_)
    refine r_icmp_ge (tgt := 32) (pc := 11) dX5_coursesThat_11 (by decide) ?_ ?_
    · skip
      refine r_iload_n (pc := 32) dX5_coursesThat_32 rfl 2 rfl ?_
      exact r_iret (pc := 33) dX5_coursesThat_33 rfl
    · skip
      refine r_aload_n (pc := 14) dX5_coursesThat_14 rfl 0 rfl ?_
      refine r_iload_n (pc := 15) dX5_coursesThat_15 rfl 3 rfl ?_
      refine r_cI (pc := 16) (rest := []) (RunOK_chk (fun h => run_V (n := 1) (c9 := 8) (As := [.int x3]) (rest := []) (t_X5_how γ l hl x0 x3 g) dX5_coursesThat_16 q3531 q3533 qs67 q121 q3534 (by decide +kernel) rfl h ⟨rfl, by decide, by decide⟩ (Nat.le_of_ble_eq_true rfl) (Nat.le_of_ble_eq_true rfl) rfl (Nat.le_of_ble_eq_true rfl))) (fun v4 g3 => ?_)
      refine r_iload_n (pc := 19) dX5_coursesThat_19 rfl 1 rfl ?_
      refine r_icmp_ne (tgt := 26) (pc := 20) dX5_coursesThat_20 (by decide) ?_ ?_
      · skip
        refine r_iinc (j := 2) (v := (x2 + (1 : Int32))) (pc := 23) dX5_coursesThat_23 rfl rfl (Nat.le_of_ble_eq_true rfl) rfl ?_
        refine r_iinc (j := 3) (v := (x3 + (1 : Int32))) (pc := 26) dX5_coursesThat_26 rfl rfl (Nat.le_of_ble_eq_true rfl) rfl ?_
        refine r_goto (tgt := 4) (pc := 29) dX5_coursesThat_29 (by decide) ?_
        refine AW_sub [2, 3, 1, 0] rfl ?_
        exact ih (x2 + (1 : Int32)) (x3 + (1 : Int32)) g3
      · skip
        refine r_iinc (j := 3) (v := (x3 + (1 : Int32))) (pc := 26) dX5_coursesThat_26 rfl rfl (Nat.le_of_ble_eq_true rfl) rfl ?_
        refine r_goto (tgt := 4) (pc := 29) dX5_coursesThat_29 (by decide) ?_
        refine AW_sub [1, 2, 3, 0] rfl ?_
        exact ih x2 (x3 + (1 : Int32)) g3
theorem t_X5_coursesThat (γ : GP) (l : Launch) (hl : l.stackTraces = false) (x0 : Nat) (x1 : Int32) (g : AH) : TrM ρI γ l ⟨"BanquetVotesModel", "coursesThat", "(I)I"⟩ (ws_ ⟨"BanquetVotesModel", "coursesThat", "(I)I"⟩ prog_25_method_26_code 4 (some .int)) 3 [.ref x0, .int x1] g (f_X5_coursesThat γ x0 x1 g) := by
  refine TrM_of (plainFor_of_name (by decide)) (Nat.le_of_ble_eq_true rfl) ?_
  unfold f_X5_coursesThat
  change AW ρI γ l ck_X5_coursesThat g 0 [(0, .ref x0), (1, .int x1)] [] g _
  refine r_iconst (v := (0 : Int32)) (pc := 0) dX5_coursesThat_0 (by decide) ?_
  refine r_istore_n (pc := 1) dX5_coursesThat_1 rfl (Nat.le_of_ble_eq_true rfl) rfl ?_
  refine r_iconst (v := (0 : Int32)) (pc := 2) dX5_coursesThat_2 (by decide) ?_
  refine r_istore_n (pc := 3) dX5_coursesThat_3 rfl (Nat.le_of_ble_eq_true rfl) rfl ?_
  refine AW_sub [2, 3, 1, 0] rfl ?_
  refine f_X5_coursesThat_L4_w γ l hl _ x0 x1 FU (0 : Int32) (0 : Int32) g
abbrev ck_X5_account : CK := ("BanquetVotesModel", prog_25_method_86_code, 4, (some .int), "account", [], 5)
def f_X5_account_L115 (γ : GP) (x0 : Nat) : Nat → Int32 → Int32 → AH → Option (Int32 × AH)
  | 0, _, _, _ => none
  | n + 1, x2, x3, g => gR g x0 30 fun v16 => gA g 101 v16 (2 : Int32) fun v17 => (if v17 ≤ x3 then (some (x2, g)) else bI ((if hK g x0 = 8 then f_X5_dishes γ x0 x3 g else none)) fun v19 g18 => f_X5_account_L115 γ x0 n (x2 + v19) (x3 + (1 : Int32)) g18)
def f_X5_account_L143 (γ : GP) (x0 : Nat) : Nat → Int32 → Int32 → AH → Option (Int32 × AH)
  | 0, _, _, _ => none
  | n + 1, x2, x3, g => gR g x0 30 fun v20 => gA g 101 v20 (2 : Int32) fun v21 => (if v21 ≤ x3 then (some (x2, g)) else bI ((if hK g x0 = 8 then f_X5_dishesThat γ x0 x3 (1 : Int32) (1 : Int32) g else none)) fun v23 g22 => f_X5_account_L143 γ x0 n (x2 + v23) (x3 + (1 : Int32)) g22)
def f_X5_account_L192 (γ : GP) (x0 : Nat) : Nat → Int32 → Int32 → AH → Option (Int32 × AH)
  | 0, _, _, _ => none
  | n + 1, x2, x3, g => gR g x0 30 fun v30 => gA g 101 v30 (1 : Int32) fun v31 => (if v31 ≤ x3 then (some (x2, g)) else bI ((if hK g x0 = 8 then f_X5_served γ x0 x3 g else none)) fun v33 g32 => f_X5_account_L192 γ x0 n (x2 + v33) (x3 + (1 : Int32)) g32)
def f_X5_account (γ : GP) (x0 : Nat) (x1 : Int32) (g : AH) : Option (Int32 × AH) := pI γ g x0 50 (0 : Int32) fun g1 => (if x1 = (0 : Int32) then gR g1 x0 30 fun v2 => gA g1 101 v2 (0 : Int32) fun v3 => (some (v3, g1)) else (if x1 = (1 : Int32) then gR g1 x0 30 fun v4 => gA g1 101 v4 (1 : Int32) fun v5 => (some (v5, g1)) else (if x1 = (2 : Int32) then gR g1 x0 30 fun v6 => gA g1 101 v6 (2 : Int32) fun v7 => (some (v7, g1)) else (if x1 = (3 : Int32) then bI ((if hK g1 x0 = 8 then f_X5_coursesThat γ x0 (x1 - (3 : Int32)) g1 else none)) fun v9 g8 => (some (v9, g8)) else (if x1 = (4 : Int32) then bI ((if hK g1 x0 = 8 then f_X5_coursesThat γ x0 (x1 - (3 : Int32)) g1 else none)) fun v11 g10 => (some (v11, g10)) else (if x1 = (5 : Int32) then bI ((if hK g1 x0 = 8 then f_X5_coursesThat γ x0 (x1 - (3 : Int32)) g1 else none)) fun v13 g12 => (some (v13, g12)) else (if x1 = (6 : Int32) then bI ((if hK g1 x0 = 8 then f_X5_coursesThat γ x0 (x1 - (3 : Int32)) g1 else none)) fun v15 g14 => (some (v15, g14)) else (if x1 = (7 : Int32) then f_X5_account_L115 γ x0 FU (0 : Int32) (0 : Int32) g1 else (if x1 = (8 : Int32) then f_X5_account_L143 γ x0 FU (0 : Int32) (0 : Int32) g1 else (if x1 = (9 : Int32) then gR g1 x0 30 fun v24 => gA g1 101 v24 (5 : Int32) fun v25 => (some (v25, g1)) else (if x1 = (10 : Int32) then gR g1 x0 30 fun v26 => gA g1 101 v26 (4 : Int32) fun v27 => (some (v27, g1)) else (if x1 = (11 : Int32) then bI ((if hK g1 x0 = 8 then f_X5_outs γ x0 g1 else none)) fun v29 g28 => (some (v29, g28)) else (if x1 = (12 : Int32) then f_X5_account_L192 γ x0 FU (0 : Int32) (0 : Int32) g1 else (if x1 = (13 : Int32) then gI g1 x0 40 fun v34 => (some (v34, g1)) else (if x1 = (14 : Int32) then gI g1 x0 34 fun v35 => (some (v35, g1)) else bI ((if hK g1 x0 = 8 then f_X5_raises γ x0 (1 : Int32) g1 else none)) fun v37 g36 => (some (v37, g36)))))))))))))))))
theorem f_X5_account_L115_w (γ : GP) (l : Launch) (hl : l.stackTraces = false) (G0 : AH) (x0 : Nat) : ∀ (n : Nat) (x2 : Int32) (x3 : Int32) (g : AH), AW ρI γ l ck_X5_account G0 115 [(0, .ref x0), (2, .int x2), (3, .int x3)] [] g (f_X5_account_L115 γ x0 n x2 x3 g) := by
  intro n
  induction n with
  | zero => intro x2 x3 g; exact AW_none
  | succ n ih =>
    intro x2 x3 g
    unfold f_X5_account_L115
    refine r_iload_n (pc := 115) dX5_account_115 rfl 2 rfl ?_
    refine r_aload_n (pc := 116) dX5_account_116 rfl 0 rfl ?_
    refine r_getR (f := 30) (pc := 117) dX5_account_117 q3378 (Or.inl rfl) rfl (fun v16 => ?_)
    refine r_iconst (v := (2 : Int32)) (pc := 120) dX5_account_120 (by decide) ?_
    refine r_iald (pc := 121) dX5_account_121 (fun v17 => ?_)
    refine r_icmp_ge (tgt := 139) (pc := 122) dX5_account_122 (by decide) ?_ ?_
    · skip
      refine r_iload_n (pc := 139) dX5_account_139 rfl 1 rfl ?_
      exact r_iret (pc := 140) dX5_account_140 rfl
    · skip
      refine r_iload_n (pc := 125) dX5_account_125 rfl 1 rfl ?_
      refine r_aload_n (pc := 126) dX5_account_126 rfl 0 rfl ?_
      refine r_iload_n (pc := 127) dX5_account_127 rfl 2 rfl ?_
      refine r_cI (pc := 128) (rest := [.int x2]) (RunOK_chk (fun h => run_V (n := 1) (c9 := 8) (As := [.int x3]) (rest := [.int x2]) (t_X5_dishes γ l hl x0 x3 g) dX5_account_128 q3535 q3537 qs68 q121 q3538 (by decide +kernel) rfl h ⟨rfl, by decide, by decide⟩ (Nat.le_of_ble_eq_true rfl) (Nat.le_of_ble_eq_true rfl) rfl (Nat.le_of_ble_eq_true rfl))) (fun v19 g18 => ?_)
      refine r_iadd (pc := 131) dX5_account_131 ?_
      refine r_istore_n (pc := 132) dX5_account_132 rfl (Nat.le_of_ble_eq_true rfl) rfl ?_
      refine r_iinc (j := 2) (v := (x3 + (1 : Int32))) (pc := 133) dX5_account_133 rfl rfl (Nat.le_of_ble_eq_true rfl) rfl ?_
      refine r_goto (tgt := 115) (pc := 136) dX5_account_136 (by decide) ?_
      refine AW_sub [2, 1, 0] rfl ?_
      exact ih (x2 + v19) (x3 + (1 : Int32)) g18
theorem f_X5_account_L143_w (γ : GP) (l : Launch) (hl : l.stackTraces = false) (G0 : AH) (x0 : Nat) : ∀ (n : Nat) (x2 : Int32) (x3 : Int32) (g : AH), AW ρI γ l ck_X5_account G0 143 [(0, .ref x0), (2, .int x2), (3, .int x3)] [] g (f_X5_account_L143 γ x0 n x2 x3 g) := by
  intro n
  induction n with
  | zero => intro x2 x3 g; exact AW_none
  | succ n ih =>
    intro x2 x3 g
    unfold f_X5_account_L143
    refine r_iload_n (pc := 143) dX5_account_143 rfl 2 rfl ?_
    refine r_aload_n (pc := 144) dX5_account_144 rfl 0 rfl ?_
    refine r_getR (f := 30) (pc := 145) dX5_account_145 q3378 (Or.inl rfl) rfl (fun v20 => ?_)
    refine r_iconst (v := (2 : Int32)) (pc := 148) dX5_account_148 (by decide) ?_
    refine r_iald (pc := 149) dX5_account_149 (fun v21 => ?_)
    refine r_icmp_ge (tgt := 169) (pc := 150) dX5_account_150 (by decide) ?_ ?_
    · skip
      refine r_iload_n (pc := 169) dX5_account_169 rfl 1 rfl ?_
      exact r_iret (pc := 170) dX5_account_170 rfl
    · skip
      refine r_iload_n (pc := 153) dX5_account_153 rfl 1 rfl ?_
      refine r_aload_n (pc := 154) dX5_account_154 rfl 0 rfl ?_
      refine r_iload_n (pc := 155) dX5_account_155 rfl 2 rfl ?_
      refine r_iconst (v := (1 : Int32)) (pc := 156) dX5_account_156 (by decide) ?_
      refine r_iconst (v := (1 : Int32)) (pc := 157) dX5_account_157 (by decide) ?_
      refine r_cI (pc := 158) (rest := [.int x2]) (RunOK_chk (fun h => run_V (n := 3) (c9 := 8) (As := [.int x3, .int (1 : Int32), .int (1 : Int32)]) (rest := [.int x2]) (t_X5_dishesThat γ l hl x0 x3 (1 : Int32) (1 : Int32) g) dX5_account_158 q3543 q3545 qs69 q121 q3546 (by decide +kernel) rfl h ⟨rfl, by decide, by decide⟩ (Nat.le_of_ble_eq_true rfl) (Nat.le_of_ble_eq_true rfl) rfl (Nat.le_of_ble_eq_true rfl))) (fun v23 g22 => ?_)
      refine r_iadd (pc := 161) dX5_account_161 ?_
      refine r_istore_n (pc := 162) dX5_account_162 rfl (Nat.le_of_ble_eq_true rfl) rfl ?_
      refine r_iinc (j := 2) (v := (x3 + (1 : Int32))) (pc := 163) dX5_account_163 rfl rfl (Nat.le_of_ble_eq_true rfl) rfl ?_
      refine r_goto (tgt := 143) (pc := 166) dX5_account_166 (by decide) ?_
      refine AW_sub [2, 1, 0] rfl ?_
      exact ih (x2 + v23) (x3 + (1 : Int32)) g22
theorem f_X5_account_L192_w (γ : GP) (l : Launch) (hl : l.stackTraces = false) (G0 : AH) (x0 : Nat) : ∀ (n : Nat) (x2 : Int32) (x3 : Int32) (g : AH), AW ρI γ l ck_X5_account G0 192 [(0, .ref x0), (2, .int x2), (3, .int x3)] [] g (f_X5_account_L192 γ x0 n x2 x3 g) := by
  intro n
  induction n with
  | zero => intro x2 x3 g; exact AW_none
  | succ n ih =>
    intro x2 x3 g
    unfold f_X5_account_L192
    refine r_iload_n (pc := 192) dX5_account_192 rfl 2 rfl ?_
    refine r_aload_n (pc := 193) dX5_account_193 rfl 0 rfl ?_
    refine r_getR (f := 30) (pc := 194) dX5_account_194 q3378 (Or.inl rfl) rfl (fun v30 => ?_)
    refine r_iconst (v := (1 : Int32)) (pc := 197) dX5_account_197 (by decide) ?_
    refine r_iald (pc := 198) dX5_account_198 (fun v31 => ?_)
    refine r_icmp_ge (tgt := 216) (pc := 199) dX5_account_199 (by decide) ?_ ?_
    · skip
      refine r_iload_n (pc := 216) dX5_account_216 rfl 1 rfl ?_
      exact r_iret (pc := 217) dX5_account_217 rfl
    · skip
      refine r_iload_n (pc := 202) dX5_account_202 rfl 1 rfl ?_
      refine r_aload_n (pc := 203) dX5_account_203 rfl 0 rfl ?_
      refine r_iload_n (pc := 204) dX5_account_204 rfl 2 rfl ?_
      refine r_cI (pc := 205) (rest := [.int x2]) (RunOK_chk (fun h => run_V (n := 1) (c9 := 8) (As := [.int x3]) (rest := [.int x2]) (t_X5_served γ l hl x0 x3 g) dX5_account_205 q3511 q3513 qs64 q121 q3514 (by decide +kernel) rfl h ⟨rfl, by decide, by decide⟩ (Nat.le_of_ble_eq_true rfl) (Nat.le_of_ble_eq_true rfl) rfl (Nat.le_of_ble_eq_true rfl))) (fun v33 g32 => ?_)
      refine r_iadd (pc := 208) dX5_account_208 ?_
      refine r_istore_n (pc := 209) dX5_account_209 rfl (Nat.le_of_ble_eq_true rfl) rfl ?_
      refine r_iinc (j := 2) (v := (x3 + (1 : Int32))) (pc := 210) dX5_account_210 rfl rfl (Nat.le_of_ble_eq_true rfl) rfl ?_
      refine r_goto (tgt := 192) (pc := 213) dX5_account_213 (by decide) ?_
      refine AW_sub [2, 1, 0] rfl ?_
      exact ih (x2 + v33) (x3 + (1 : Int32)) g32
theorem t_X5_account (γ : GP) (l : Launch) (hl : l.stackTraces = false) (x0 : Nat) (x1 : Int32) (g : AH) : TrM ρI γ l ⟨"BanquetVotesModel", "account", "(I)I"⟩ (ws_ ⟨"BanquetVotesModel", "account", "(I)I"⟩ prog_25_method_86_code 4 (some .int)) 5 [.ref x0, .int x1] g (f_X5_account γ x0 x1 g) := by
  refine TrM_of (plainFor_of_name (by decide)) (Nat.le_of_ble_eq_true rfl) ?_
  unfold f_X5_account
  change AW ρI γ l ck_X5_account g 0 [(0, .ref x0), (1, .int x1)] [] g _
  refine r_aload_n (pc := 0) dX5_account_0 rfl 0 rfl ?_
  refine r_iconst (v := (0 : Int32)) (pc := 1) dX5_account_1 (by decide) ?_
  refine r_putI (f := 50) (pc := 2) dX5_account_2 q3398 (Or.inl rfl) (Or.inl rfl) rfl (fun g1 => ?_)
  refine r_iconst (v := (0 : Int32)) (pc := 5) dX5_account_5 (by decide) ?_
  refine r_istore_n (pc := 6) dX5_account_6 rfl (Nat.le_of_ble_eq_true rfl) rfl ?_
  refine r_iload_n (pc := 7) dX5_account_7 rfl 2 rfl ?_
  refine r_tabC (v := (0 : Int32)) (tgt := 84) (pc := 8) dX5_account_8 (by decide) (by decide) rfl (by decide) ?_ (fun c0 => ?_)
  · skip
    refine r_aload_n (pc := 84) dX5_account_84 rfl 1 rfl ?_
    refine r_getR (f := 30) (pc := 85) dX5_account_85 q3378 (Or.inl rfl) rfl (fun v2 => ?_)
    refine r_iconst (v := (0 : Int32)) (pc := 88) dX5_account_88 (by decide) ?_
    refine r_iald (pc := 89) dX5_account_89 (fun v3 => ?_)
    exact r_iret (pc := 90) dX5_account_90 rfl
  · skip
    refine r_tabC (v := (1 : Int32)) (tgt := 91) (pc := 8) dX5_account_8 (by decide) (by decide) rfl (by decide) ?_ (fun c1 => ?_)
    · skip
      refine r_aload_n (pc := 91) dX5_account_91 rfl 1 rfl ?_
      refine r_getR (f := 30) (pc := 92) dX5_account_92 q3378 (Or.inl rfl) rfl (fun v4 => ?_)
      refine r_iconst (v := (1 : Int32)) (pc := 95) dX5_account_95 (by decide) ?_
      refine r_iald (pc := 96) dX5_account_96 (fun v5 => ?_)
      exact r_iret (pc := 97) dX5_account_97 rfl
    · skip
      refine r_tabC (v := (2 : Int32)) (tgt := 98) (pc := 8) dX5_account_8 (by decide) (by decide) rfl (by decide) ?_ (fun c2 => ?_)
      · skip
        refine r_aload_n (pc := 98) dX5_account_98 rfl 1 rfl ?_
        refine r_getR (f := 30) (pc := 99) dX5_account_99 q3378 (Or.inl rfl) rfl (fun v6 => ?_)
        refine r_iconst (v := (2 : Int32)) (pc := 102) dX5_account_102 (by decide) ?_
        refine r_iald (pc := 103) dX5_account_103 (fun v7 => ?_)
        exact r_iret (pc := 104) dX5_account_104 rfl
      · skip
        refine r_tabC (v := (3 : Int32)) (tgt := 105) (pc := 8) dX5_account_8 (by decide) (by decide) rfl (by decide) ?_ (fun c3 => ?_)
        · skip
          refine r_aload_n (pc := 105) dX5_account_105 rfl 1 rfl ?_
          refine r_iload_n (pc := 106) dX5_account_106 rfl 2 rfl ?_
          refine r_iconst (v := (3 : Int32)) (pc := 107) dX5_account_107 (by decide) ?_
          refine r_isub (pc := 108) dX5_account_108 ?_
          refine r_cI (pc := 109) (rest := []) (RunOK_chk (fun h => run_V (n := 1) (c9 := 8) (As := [.int (x1 - (3 : Int32))]) (rest := []) (t_X5_coursesThat γ l hl x0 (x1 - (3 : Int32)) g1) dX5_account_109 q3855 q3857 qs106 q121 q3858 (by decide +kernel) rfl h ⟨rfl, by decide, by decide⟩ (Nat.le_of_ble_eq_true rfl) (Nat.le_of_ble_eq_true rfl) rfl (Nat.le_of_ble_eq_true rfl))) (fun v9 g8 => ?_)
          exact r_iret (pc := 112) dX5_account_112 rfl
        · skip
          refine r_tabC (v := (4 : Int32)) (tgt := 105) (pc := 8) dX5_account_8 (by decide) (by decide) rfl (by decide) ?_ (fun c4 => ?_)
          · skip
            refine r_aload_n (pc := 105) dX5_account_105 rfl 1 rfl ?_
            refine r_iload_n (pc := 106) dX5_account_106 rfl 2 rfl ?_
            refine r_iconst (v := (3 : Int32)) (pc := 107) dX5_account_107 (by decide) ?_
            refine r_isub (pc := 108) dX5_account_108 ?_
            refine r_cI (pc := 109) (rest := []) (RunOK_chk (fun h => run_V (n := 1) (c9 := 8) (As := [.int (x1 - (3 : Int32))]) (rest := []) (t_X5_coursesThat γ l hl x0 (x1 - (3 : Int32)) g1) dX5_account_109 q3855 q3857 qs106 q121 q3858 (by decide +kernel) rfl h ⟨rfl, by decide, by decide⟩ (Nat.le_of_ble_eq_true rfl) (Nat.le_of_ble_eq_true rfl) rfl (Nat.le_of_ble_eq_true rfl))) (fun v11 g10 => ?_)
            exact r_iret (pc := 112) dX5_account_112 rfl
          · skip
            refine r_tabC (v := (5 : Int32)) (tgt := 105) (pc := 8) dX5_account_8 (by decide) (by decide) rfl (by decide) ?_ (fun c5 => ?_)
            · skip
              refine r_aload_n (pc := 105) dX5_account_105 rfl 1 rfl ?_
              refine r_iload_n (pc := 106) dX5_account_106 rfl 2 rfl ?_
              refine r_iconst (v := (3 : Int32)) (pc := 107) dX5_account_107 (by decide) ?_
              refine r_isub (pc := 108) dX5_account_108 ?_
              refine r_cI (pc := 109) (rest := []) (RunOK_chk (fun h => run_V (n := 1) (c9 := 8) (As := [.int (x1 - (3 : Int32))]) (rest := []) (t_X5_coursesThat γ l hl x0 (x1 - (3 : Int32)) g1) dX5_account_109 q3855 q3857 qs106 q121 q3858 (by decide +kernel) rfl h ⟨rfl, by decide, by decide⟩ (Nat.le_of_ble_eq_true rfl) (Nat.le_of_ble_eq_true rfl) rfl (Nat.le_of_ble_eq_true rfl))) (fun v13 g12 => ?_)
              exact r_iret (pc := 112) dX5_account_112 rfl
            · skip
              refine r_tabC (v := (6 : Int32)) (tgt := 105) (pc := 8) dX5_account_8 (by decide) (by decide) rfl (by decide) ?_ (fun c6 => ?_)
              · skip
                refine r_aload_n (pc := 105) dX5_account_105 rfl 1 rfl ?_
                refine r_iload_n (pc := 106) dX5_account_106 rfl 2 rfl ?_
                refine r_iconst (v := (3 : Int32)) (pc := 107) dX5_account_107 (by decide) ?_
                refine r_isub (pc := 108) dX5_account_108 ?_
                refine r_cI (pc := 109) (rest := []) (RunOK_chk (fun h => run_V (n := 1) (c9 := 8) (As := [.int (x1 - (3 : Int32))]) (rest := []) (t_X5_coursesThat γ l hl x0 (x1 - (3 : Int32)) g1) dX5_account_109 q3855 q3857 qs106 q121 q3858 (by decide +kernel) rfl h ⟨rfl, by decide, by decide⟩ (Nat.le_of_ble_eq_true rfl) (Nat.le_of_ble_eq_true rfl) rfl (Nat.le_of_ble_eq_true rfl))) (fun v15 g14 => ?_)
                exact r_iret (pc := 112) dX5_account_112 rfl
              · skip
                refine r_tabC (v := (7 : Int32)) (tgt := 113) (pc := 8) dX5_account_8 (by decide) (by decide) rfl (by decide) ?_ (fun c7 => ?_)
                · skip
                  refine r_iconst (v := (0 : Int32)) (pc := 113) dX5_account_113 (by decide) ?_
                  refine r_istore_n (pc := 114) dX5_account_114 rfl (Nat.le_of_ble_eq_true rfl) rfl ?_
                  refine AW_sub [2, 1, 0] rfl ?_
                  refine f_X5_account_L115_w γ l hl _ x0 FU (0 : Int32) (0 : Int32) g1
                · skip
                  refine r_tabC (v := (8 : Int32)) (tgt := 141) (pc := 8) dX5_account_8 (by decide) (by decide) rfl (by decide) ?_ (fun c8 => ?_)
                  · skip
                    refine r_iconst (v := (0 : Int32)) (pc := 141) dX5_account_141 (by decide) ?_
                    refine r_istore_n (pc := 142) dX5_account_142 rfl (Nat.le_of_ble_eq_true rfl) rfl ?_
                    refine AW_sub [2, 1, 0] rfl ?_
                    refine f_X5_account_L143_w γ l hl _ x0 FU (0 : Int32) (0 : Int32) g1
                  · skip
                    refine r_tabC (v := (9 : Int32)) (tgt := 171) (pc := 8) dX5_account_8 (by decide) (by decide) rfl (by decide) ?_ (fun c9 => ?_)
                    · skip
                      refine r_aload_n (pc := 171) dX5_account_171 rfl 1 rfl ?_
                      refine r_getR (f := 30) (pc := 172) dX5_account_172 q3378 (Or.inl rfl) rfl (fun v24 => ?_)
                      refine r_iconst (v := (5 : Int32)) (pc := 175) dX5_account_175 (by decide) ?_
                      refine r_iald (pc := 176) dX5_account_176 (fun v25 => ?_)
                      exact r_iret (pc := 177) dX5_account_177 rfl
                    · skip
                      refine r_tabC (v := (10 : Int32)) (tgt := 178) (pc := 8) dX5_account_8 (by decide) (by decide) rfl (by decide) ?_ (fun c10 => ?_)
                      · skip
                        refine r_aload_n (pc := 178) dX5_account_178 rfl 1 rfl ?_
                        refine r_getR (f := 30) (pc := 179) dX5_account_179 q3378 (Or.inl rfl) rfl (fun v26 => ?_)
                        refine r_iconst (v := (4 : Int32)) (pc := 182) dX5_account_182 (by decide) ?_
                        refine r_iald (pc := 183) dX5_account_183 (fun v27 => ?_)
                        exact r_iret (pc := 184) dX5_account_184 rfl
                      · skip
                        refine r_tabC (v := (11 : Int32)) (tgt := 185) (pc := 8) dX5_account_8 (by decide) (by decide) rfl (by decide) ?_ (fun c11 => ?_)
                        · skip
                          refine r_aload_n (pc := 185) dX5_account_185 rfl 1 rfl ?_
                          refine r_cI (pc := 186) (rest := []) (RunOK_chk (fun h => run_V (n := 0) (c9 := 8) (As := []) (rest := []) (t_X5_outs γ l hl x0 g1) dX5_account_186 q3628 q3630 qs84 q121 q3631 (by decide +kernel) rfl h ⟨rfl, by decide, by decide⟩ (Nat.le_of_ble_eq_true rfl) (Nat.le_of_ble_eq_true rfl) rfl (Nat.le_of_ble_eq_true rfl))) (fun v29 g28 => ?_)
                          exact r_iret (pc := 189) dX5_account_189 rfl
                        · skip
                          refine r_tabC (v := (12 : Int32)) (tgt := 190) (pc := 8) dX5_account_8 (by decide) (by decide) rfl (by decide) ?_ (fun c12 => ?_)
                          · skip
                            refine r_iconst (v := (0 : Int32)) (pc := 190) dX5_account_190 (by decide) ?_
                            refine r_istore_n (pc := 191) dX5_account_191 rfl (Nat.le_of_ble_eq_true rfl) rfl ?_
                            refine AW_sub [2, 1, 0] rfl ?_
                            refine f_X5_account_L192_w γ l hl _ x0 FU (0 : Int32) (0 : Int32) g1
                          · skip
                            refine r_tabC (v := (13 : Int32)) (tgt := 218) (pc := 8) dX5_account_8 (by decide) (by decide) rfl (by decide) ?_ (fun c13 => ?_)
                            · skip
                              refine r_aload_n (pc := 218) dX5_account_218 rfl 1 rfl ?_
                              refine r_getI (f := 40) (pc := 219) dX5_account_219 q3388 (Or.inl rfl) rfl (fun v34 => ?_)
                              exact r_iret (pc := 222) dX5_account_222 rfl
                            · skip
                              refine r_tabC (v := (14 : Int32)) (tgt := 223) (pc := 8) dX5_account_8 (by decide) (by decide) rfl (by decide) ?_ (fun c14 => ?_)
                              · skip
                                refine r_aload_n (pc := 223) dX5_account_223 rfl 1 rfl ?_
                                refine r_getI (f := 34) (pc := 224) dX5_account_224 q3382 (Or.inl rfl) rfl (fun v35 => ?_)
                                exact r_iret (pc := 227) dX5_account_227 rfl
                              · skip
                                refine r_tabD (tgt := 228) (pc := 8) dX5_account_8 (by have e0 := lv_neT c0 (a := 0) rfl; have e1 := lv_neT c1 (a := 1) rfl; have e2 := lv_neT c2 (a := 2) rfl; have e3 := lv_neT c3 (a := 3) rfl; have e4 := lv_neT c4 (a := 4) rfl; have e5 := lv_neT c5 (a := 5) rfl; have e6 := lv_neT c6 (a := 6) rfl; have e7 := lv_neT c7 (a := 7) rfl; have e8 := lv_neT c8 (a := 8) rfl; have e9 := lv_neT c9 (a := 9) rfl; have e10 := lv_neT c10 (a := 10) rfl; have e11 := lv_neT c11 (a := 11) rfl; have e12 := lv_neT c12 (a := 12) rfl; have e13 := lv_neT c13 (a := 13) rfl; have e14 := lv_neT c14 (a := 14) rfl; omega) (by decide) ?_
                                refine r_aload_n (pc := 228) dX5_account_228 rfl 1 rfl ?_
                                refine r_iconst (v := (1 : Int32)) (pc := 229) dX5_account_229 (by decide) ?_
                                refine r_cI (pc := 230) (rest := []) (RunOK_chk (fun h => run_V (n := 1) (c9 := 8) (As := [.int (1 : Int32)]) (rest := []) (t_X5_raises γ l hl x0 (1 : Int32) g1) dX5_account_230 q3458 q3460 qs53 q121 q3461 (by decide +kernel) rfl h ⟨rfl, by decide, by decide⟩ (Nat.le_of_ble_eq_true rfl) (Nat.le_of_ble_eq_true rfl) rfl (Nat.le_of_ble_eq_true rfl))) (fun v37 g36 => ?_)
                                exact r_iret (pc := 233) dX5_account_233 rfl
abbrev ck_X5_meanWait : CK := ("BanquetVotesModel", prog_25_method_87_code, 4, (some .double), "meanWait", [], 3)
def f_X5_meanWait_L11 (γ : GP) (x0 : Nat) (K67 : Int32 → Int32 → AH → Option (UInt64 × AH)) : Nat → Int32 → Int32 → Int32 → AH → Option (UInt64 × AH)
  | 0, _, _, _, _ => none
  | n + 1, x1, x2, x3, g => gR g x0 30 fun v2 => gA g 101 v2 (2 : Int32) fun v3 => (if v3 ≤ x3 then K67 x1 x2 g else bI ((if hK g x0 = 8 then f_X5_how γ x0 x3 g else none)) fun v5 g4 => (if v5 < (2 : Int32) then f_X5_meanWait_L11 γ x0 K67 n x1 x2 (x3 + (1 : Int32)) g4 else bI ((if hK g4 x0 = 8 then f_X5_course γ x0 x3 (1 : Int32) g4 else none)) fun v7 g6 => (if 0 ≤ v7 then bI ((if hK g6 x0 = 8 then f_X5_course γ x0 x3 (2 : Int32) g6 else none)) fun v9 g8 => bI ((if hK g8 x0 = 8 then f_X5_course γ x0 x3 (1 : Int32) g8 else none)) fun v11 g10 => f_X5_meanWait_L11 γ x0 K67 n (x1 + (1 : Int32)) (x2 + (v9 - v11)) (x3 + (1 : Int32)) g10 else f_X5_meanWait_L11 γ x0 K67 n x1 x2 (x3 + (1 : Int32)) g6)))
def f_X5_meanWait (γ : GP) (x0 : Nat) (g : AH) : Option (UInt64 × AH) := pI γ g x0 50 (0 : Int32) fun g1 => f_X5_meanWait_L11 γ x0 (fun (y12 : Int32) (y13 : Int32) (g14 : AH) => (if y12 = 0 then bI ((if hK g14 x0 = 8 then f_X5_raises γ x0 (1 : Int32) g14 else none)) fun v16 g15 => (some ((FP.i2d v16), g15)) else (if (FP.ddiv (FP.i2d y13) (FP.i2d y12)) &&& 0x7fffffffffffffff ≤ 0x7ff0000000000000 then (some ((FP.ddiv (FP.i2d y13) (FP.i2d y12)), g14)) else none))) FU (0 : Int32) (0 : Int32) (0 : Int32) g1
theorem f_X5_meanWait_L11_w (γ : GP) (l : Launch) (hl : l.stackTraces = false) (G0 : AH) (x0 : Nat) (K67 : Int32 → Int32 → AH → Option (UInt64 × AH)) (h_K67 : ∀ (y1 : Int32) (y2 : Int32) (g : AH), AW ρD γ l ck_X5_meanWait G0 67 [(0, .ref x0), (1, .int y1), (2, .int y2)] [] g (K67 y1 y2 g)) : ∀ (n : Nat) (x1 : Int32) (x2 : Int32) (x3 : Int32) (g : AH), AW ρD γ l ck_X5_meanWait G0 11 [(0, .ref x0), (1, .int x1), (2, .int x2), (3, .int x3)] [] g (f_X5_meanWait_L11 γ x0 K67 n x1 x2 x3 g) := by
  intro n
  induction n with
  | zero => intro x1 x2 x3 g; exact AW_none
  | succ n ih =>
    intro x1 x2 x3 g
    unfold f_X5_meanWait_L11
    refine r_iload_n (pc := 11) dX5_meanWait_11 rfl 3 rfl ?_
    refine r_aload_n (pc := 12) dX5_meanWait_12 rfl 0 rfl ?_
    refine r_getR (f := 30) (pc := 13) dX5_meanWait_13 q3378 (Or.inl rfl) rfl (fun v2 => ?_)
    refine r_iconst (v := (2 : Int32)) (pc := 16) dX5_meanWait_16 (by decide) ?_
    refine r_iald (pc := 17) dX5_meanWait_17 (fun v3 => ?_)
    refine r_icmp_ge (tgt := 67) (pc := 18) dX5_meanWait_18 (by decide) ?_ ?_
    · skip
      refine AW_sub [0, 1, 2] rfl ?_
      exact h_K67 x1 x2 g
    · skip
      refine r_aload_n (pc := 21) dX5_meanWait_21 rfl 0 rfl ?_
      refine r_iload_n (pc := 22) dX5_meanWait_22 rfl 3 rfl ?_
      refine r_cI (pc := 23) (rest := []) (RunOK_chk (fun h => run_V (n := 1) (c9 := 8) (As := [.int x3]) (rest := []) (t_X5_how γ l hl x0 x3 g) dX5_meanWait_23 q3531 q3533 qs67 q121 q3534 (by decide +kernel) rfl h ⟨rfl, by decide, by decide⟩ (Nat.le_of_ble_eq_true rfl) (Nat.le_of_ble_eq_true rfl) rfl (Nat.le_of_ble_eq_true rfl))) (fun v5 g4 => ?_)
      refine r_iconst (v := (2 : Int32)) (pc := 26) dX5_meanWait_26 (by decide) ?_
      refine r_icmp_lt (tgt := 61) (pc := 27) dX5_meanWait_27 (by decide) ?_ ?_
      · skip
        refine r_iinc (j := 3) (v := (x3 + (1 : Int32))) (pc := 61) dX5_meanWait_61 rfl rfl (Nat.le_of_ble_eq_true rfl) rfl ?_
        refine r_goto (tgt := 11) (pc := 64) dX5_meanWait_64 (by decide) ?_
        refine AW_sub [1, 2, 3, 0] rfl ?_
        exact ih x1 x2 (x3 + (1 : Int32)) g4
      · skip
        refine r_aload_n (pc := 30) dX5_meanWait_30 rfl 0 rfl ?_
        refine r_iload_n (pc := 31) dX5_meanWait_31 rfl 3 rfl ?_
        refine r_iconst (v := (1 : Int32)) (pc := 32) dX5_meanWait_32 (by decide) ?_
        refine r_cI (pc := 33) (rest := []) (RunOK_chk (fun h => run_V (n := 2) (c9 := 8) (As := [.int x3, .int (1 : Int32)]) (rest := []) (t_X5_course γ l hl x0 x3 (1 : Int32) g4) dX5_meanWait_33 q3499 q3501 qs61 q121 q3502 (by decide +kernel) rfl h ⟨rfl, by decide, by decide⟩ (Nat.le_of_ble_eq_true rfl) (Nat.le_of_ble_eq_true rfl) rfl (Nat.le_of_ble_eq_true rfl))) (fun v7 g6 => ?_)
        refine r_if_ge (tgt := 42) (pc := 36) dX5_meanWait_36 (by decide) ?_ ?_
        · skip
          refine r_iinc (j := 1) (v := (x1 + (1 : Int32))) (pc := 42) dX5_meanWait_42 rfl rfl (Nat.le_of_ble_eq_true rfl) rfl ?_
          refine r_iload_n (pc := 45) dX5_meanWait_45 rfl 2 rfl ?_
          refine r_aload_n (pc := 46) dX5_meanWait_46 rfl 1 rfl ?_
          refine r_iload_n (pc := 47) dX5_meanWait_47 rfl 3 rfl ?_
          refine r_iconst (v := (2 : Int32)) (pc := 48) dX5_meanWait_48 (by decide) ?_
          refine r_cI (pc := 49) (rest := [.int x2]) (RunOK_chk (fun h => run_V (n := 2) (c9 := 8) (As := [.int x3, .int (2 : Int32)]) (rest := [.int x2]) (t_X5_course γ l hl x0 x3 (2 : Int32) g6) dX5_meanWait_49 q3499 q3501 qs61 q121 q3502 (by decide +kernel) rfl h ⟨rfl, by decide, by decide⟩ (Nat.le_of_ble_eq_true rfl) (Nat.le_of_ble_eq_true rfl) rfl (Nat.le_of_ble_eq_true rfl))) (fun v9 g8 => ?_)
          refine r_aload_n (pc := 52) dX5_meanWait_52 rfl 1 rfl ?_
          refine r_iload_n (pc := 53) dX5_meanWait_53 rfl 3 rfl ?_
          refine r_iconst (v := (1 : Int32)) (pc := 54) dX5_meanWait_54 (by decide) ?_
          refine r_cI (pc := 55) (rest := [.int v9, .int x2]) (RunOK_chk (fun h => run_V (n := 2) (c9 := 8) (As := [.int x3, .int (1 : Int32)]) (rest := [.int v9, .int x2]) (t_X5_course γ l hl x0 x3 (1 : Int32) g8) dX5_meanWait_55 q3499 q3501 qs61 q121 q3502 (by decide +kernel) rfl h ⟨rfl, by decide, by decide⟩ (Nat.le_of_ble_eq_true rfl) (Nat.le_of_ble_eq_true rfl) rfl (Nat.le_of_ble_eq_true rfl))) (fun v11 g10 => ?_)
          refine r_isub (pc := 58) dX5_meanWait_58 ?_
          refine r_iadd (pc := 59) dX5_meanWait_59 ?_
          refine r_istore_n (pc := 60) dX5_meanWait_60 rfl (Nat.le_of_ble_eq_true rfl) rfl ?_
          refine r_iinc (j := 3) (v := (x3 + (1 : Int32))) (pc := 61) dX5_meanWait_61 rfl rfl (Nat.le_of_ble_eq_true rfl) rfl ?_
          refine r_goto (tgt := 11) (pc := 64) dX5_meanWait_64 (by decide) ?_
          refine AW_sub [3, 2, 1, 0] rfl ?_
          exact ih (x1 + (1 : Int32)) (x2 + (v9 - v11)) (x3 + (1 : Int32)) g10
        · skip
          refine r_goto (tgt := 61) (pc := 39) dX5_meanWait_39 (by decide) ?_
          refine r_iinc (j := 3) (v := (x3 + (1 : Int32))) (pc := 61) dX5_meanWait_61 rfl rfl (Nat.le_of_ble_eq_true rfl) rfl ?_
          refine r_goto (tgt := 11) (pc := 64) dX5_meanWait_64 (by decide) ?_
          refine AW_sub [1, 2, 3, 0] rfl ?_
          exact ih x1 x2 (x3 + (1 : Int32)) g6
theorem t_X5_meanWait (γ : GP) (l : Launch) (hl : l.stackTraces = false) (x0 : Nat) (g : AH) : TrM ρD γ l ⟨"BanquetVotesModel", "meanWait", "()D"⟩ (ws_ ⟨"BanquetVotesModel", "meanWait", "()D"⟩ prog_25_method_87_code 4 (some .double)) 3 [.ref x0] g (f_X5_meanWait γ x0 g) := by
  refine TrM_of (plainFor_of_name (by decide)) (Nat.le_of_ble_eq_true rfl) ?_
  unfold f_X5_meanWait
  change AW ρD γ l ck_X5_meanWait g 0 [(0, .ref x0)] [] g _
  refine r_aload_n (pc := 0) dX5_meanWait_0 rfl 0 rfl ?_
  refine r_iconst (v := (0 : Int32)) (pc := 1) dX5_meanWait_1 (by decide) ?_
  refine r_putI (f := 50) (pc := 2) dX5_meanWait_2 q3398 (Or.inl rfl) (Or.inl rfl) rfl (fun g1 => ?_)
  refine r_iconst (v := (0 : Int32)) (pc := 5) dX5_meanWait_5 (by decide) ?_
  refine r_istore_n (pc := 6) dX5_meanWait_6 rfl (Nat.le_of_ble_eq_true rfl) rfl ?_
  refine r_iconst (v := (0 : Int32)) (pc := 7) dX5_meanWait_7 (by decide) ?_
  refine r_istore_n (pc := 8) dX5_meanWait_8 rfl (Nat.le_of_ble_eq_true rfl) rfl ?_
  refine r_iconst (v := (0 : Int32)) (pc := 9) dX5_meanWait_9 (by decide) ?_
  refine r_istore_n (pc := 10) dX5_meanWait_10 rfl (Nat.le_of_ble_eq_true rfl) rfl ?_
  refine AW_sub [3, 2, 1, 0] rfl ?_
  refine f_X5_meanWait_L11_w γ l hl _ x0 _ ?_ FU (0 : Int32) (0 : Int32) (0 : Int32) g1
  · intro y12 y13 g14
    refine r_iload_n (pc := 67) dX5_meanWait_67 rfl 1 rfl ?_
    refine r_if_ne (tgt := 80) (pc := 68) dX5_meanWait_68 (by decide) ?_ ?_
    · skip
      refine r_aload_n (pc := 71) dX5_meanWait_71 rfl 0 rfl ?_
      refine r_iconst (v := (1 : Int32)) (pc := 72) dX5_meanWait_72 (by decide) ?_
      refine r_cI (pc := 73) (rest := []) (RunOK_chk (fun h => run_V (n := 1) (c9 := 8) (As := [.int (1 : Int32)]) (rest := []) (t_X5_raises γ l hl x0 (1 : Int32) g14) dX5_meanWait_73 q3458 q3460 qs53 q121 q3461 (by decide +kernel) rfl h ⟨rfl, by decide, by decide⟩ (Nat.le_of_ble_eq_true rfl) (Nat.le_of_ble_eq_true rfl) rfl (Nat.le_of_ble_eq_true rfl))) (fun v16 g15 => ?_)
      refine r_i2d (pc := 76) dX5_meanWait_76 ?_
      refine r_goto (tgt := 85) (pc := 77) dX5_meanWait_77 (by decide) ?_
      exact r_dret (pc := 85) dX5_meanWait_85 rfl
    · skip
      refine r_iload_n (pc := 80) dX5_meanWait_80 rfl 2 rfl ?_
      refine r_i2d (pc := 81) dX5_meanWait_81 ?_
      refine r_iload_n (pc := 82) dX5_meanWait_82 rfl 1 rfl ?_
      refine r_i2d (pc := 83) dX5_meanWait_83 ?_
      refine r_ddiv (pc := 84) dX5_meanWait_84 ?_
      exact r_dret (pc := 85) dX5_meanWait_85 rfl
abbrev ck_X5_servedShare : CK := ("BanquetVotesModel", prog_25_method_88_code, 2, (some .float), "servedShare", [], 4)
def f_X5_servedShare (γ : GP) (x0 : Nat) (g : AH) : Option (UInt32 × AH) := pI γ g x0 50 (0 : Int32) fun g1 => bI ((if hK g1 x0 = 8 then f_X5_coursesThat γ x0 (2 : Int32) g1 else none)) fun v3 g2 => bI ((if hK g2 x0 = 8 then f_X5_coursesThat γ x0 (3 : Int32) g2 else none)) fun v5 g4 => (if (v3 + v5) = 0 then bI ((if hK g4 x0 = 8 then f_X5_raises γ x0 (1 : Int32) g4 else none)) fun v7 g6 => (some ((FP.i2f v7), g6)) else bI ((if hK g4 x0 = 8 then f_X5_coursesThat γ x0 (2 : Int32) g4 else none)) fun v9 g8 => (if (FP.fdiv (FP.i2f v9) (FP.i2f (v3 + v5))) &&& 0x7fffffff ≤ 0x7f800000 then (some ((FP.fdiv (FP.i2f v9) (FP.i2f (v3 + v5))), g8)) else none))
theorem t_X5_servedShare (γ : GP) (l : Launch) (hl : l.stackTraces = false) (x0 : Nat) (g : AH) : TrM ρF γ l ⟨"BanquetVotesModel", "servedShare", "()F"⟩ (ws_ ⟨"BanquetVotesModel", "servedShare", "()F"⟩ prog_25_method_88_code 2 (some .float)) 4 [.ref x0] g (f_X5_servedShare γ x0 g) := by
  refine TrM_of (plainFor_of_name (by decide)) (Nat.le_of_ble_eq_true rfl) ?_
  unfold f_X5_servedShare
  change AW ρF γ l ck_X5_servedShare g 0 [(0, .ref x0)] [] g _
  refine r_aload_n (pc := 0) dX5_servedShare_0 rfl 0 rfl ?_
  refine r_iconst (v := (0 : Int32)) (pc := 1) dX5_servedShare_1 (by decide) ?_
  refine r_putI (f := 50) (pc := 2) dX5_servedShare_2 q3398 (Or.inl rfl) (Or.inl rfl) rfl (fun g1 => ?_)
  refine r_aload_n (pc := 5) dX5_servedShare_5 rfl 0 rfl ?_
  refine r_iconst (v := (2 : Int32)) (pc := 6) dX5_servedShare_6 (by decide) ?_
  refine r_cI (pc := 7) (rest := []) (RunOK_chk (fun h => run_V (n := 1) (c9 := 8) (As := [.int (2 : Int32)]) (rest := []) (t_X5_coursesThat γ l hl x0 (2 : Int32) g1) dX5_servedShare_7 q3855 q3857 qs106 q121 q3858 (by decide +kernel) rfl h ⟨rfl, by decide, by decide⟩ (Nat.le_of_ble_eq_true rfl) (Nat.le_of_ble_eq_true rfl) rfl (Nat.le_of_ble_eq_true rfl))) (fun v3 g2 => ?_)
  refine r_aload_n (pc := 10) dX5_servedShare_10 rfl 0 rfl ?_
  refine r_iconst (v := (3 : Int32)) (pc := 11) dX5_servedShare_11 (by decide) ?_
  refine r_cI (pc := 12) (rest := [.int v3]) (RunOK_chk (fun h => run_V (n := 1) (c9 := 8) (As := [.int (3 : Int32)]) (rest := [.int v3]) (t_X5_coursesThat γ l hl x0 (3 : Int32) g2) dX5_servedShare_12 q3855 q3857 qs106 q121 q3858 (by decide +kernel) rfl h ⟨rfl, by decide, by decide⟩ (Nat.le_of_ble_eq_true rfl) (Nat.le_of_ble_eq_true rfl) rfl (Nat.le_of_ble_eq_true rfl))) (fun v5 g4 => ?_)
  refine r_iadd (pc := 15) dX5_servedShare_15 ?_
  refine r_istore_n (pc := 16) dX5_servedShare_16 rfl (Nat.le_of_ble_eq_true rfl) rfl ?_
  refine r_iload_n (pc := 17) dX5_servedShare_17 rfl 0 rfl ?_
  refine r_if_ne (tgt := 30) (pc := 18) dX5_servedShare_18 (by decide) ?_ ?_
  · skip
    refine r_aload_n (pc := 21) dX5_servedShare_21 rfl 1 rfl ?_
    refine r_iconst (v := (1 : Int32)) (pc := 22) dX5_servedShare_22 (by decide) ?_
    refine r_cI (pc := 23) (rest := []) (RunOK_chk (fun h => run_V (n := 1) (c9 := 8) (As := [.int (1 : Int32)]) (rest := []) (t_X5_raises γ l hl x0 (1 : Int32) g4) dX5_servedShare_23 q3458 q3460 qs53 q121 q3461 (by decide +kernel) rfl h ⟨rfl, by decide, by decide⟩ (Nat.le_of_ble_eq_true rfl) (Nat.le_of_ble_eq_true rfl) rfl (Nat.le_of_ble_eq_true rfl))) (fun v7 g6 => ?_)
    refine r_i2f (pc := 26) dX5_servedShare_26 ?_
    refine r_goto (tgt := 39) (pc := 27) dX5_servedShare_27 (by decide) ?_
    exact r_fret (pc := 39) dX5_servedShare_39 rfl
  · skip
    refine r_aload_n (pc := 30) dX5_servedShare_30 rfl 1 rfl ?_
    refine r_iconst (v := (2 : Int32)) (pc := 31) dX5_servedShare_31 (by decide) ?_
    refine r_cI (pc := 32) (rest := []) (RunOK_chk (fun h => run_V (n := 1) (c9 := 8) (As := [.int (2 : Int32)]) (rest := []) (t_X5_coursesThat γ l hl x0 (2 : Int32) g4) dX5_servedShare_32 q3855 q3857 qs106 q121 q3858 (by decide +kernel) rfl h ⟨rfl, by decide, by decide⟩ (Nat.le_of_ble_eq_true rfl) (Nat.le_of_ble_eq_true rfl) rfl (Nat.le_of_ble_eq_true rfl))) (fun v9 g8 => ?_)
    refine r_i2f (pc := 35) dX5_servedShare_35 ?_
    refine r_iload_n (pc := 36) dX5_servedShare_36 rfl 0 rfl ?_
    refine r_i2f (pc := 37) dX5_servedShare_37 ?_
    refine r_fdiv (pc := 38) dX5_servedShare_38 ?_
    exact r_fret (pc := 39) dX5_servedShare_39 rfl
abbrev ck_X5_undo : CK := ("BanquetVotesModel", prog_25_method_89_code, 2, (some .int), "undo", [], 2)
def f_X5_undo_L30 (γ : GP) (x0 : Nat) : Nat → Int32 → AH → Option (Int32 × AH)
  | 0, _, _ => none
  | n + 1, x1, g => (if (5457 : Int32) ≤ x1 then gI g x0 34 fun v7 => (some (v7, g)) else gR g x0 30 fun v8 => gR g x0 33 fun v9 => gI g x0 34 fun v10 => gA g 101 v9 (((5457 : Int32) * v10) + x1) fun v11 => pA γ g 101 v8 x1 v11 fun g12 => f_X5_undo_L30 γ x0 n (x1 + (1 : Int32)) g12)
def f_X5_undo (γ : GP) (x0 : Nat) (g : AH) : Option (Int32 × AH) := pI γ g x0 50 (0 : Int32) fun g1 => gI g1 x0 34 fun v2 => (if v2 = 0 then bI ((if hK g1 x0 = 8 then f_X5_raises γ x0 (1 : Int32) g1 else none)) fun v4 g3 => (some (v4, g3)) else gI g1 x0 34 fun v5 => pI γ g1 x0 34 (v5 - (1 : Int32)) fun g6 => f_X5_undo_L30 γ x0 FU (0 : Int32) g6)
theorem f_X5_undo_L30_w (γ : GP) (l : Launch) (hl : l.stackTraces = false) (G0 : AH) (x0 : Nat) : ∀ (n : Nat) (x1 : Int32) (g : AH), AW ρI γ l ck_X5_undo G0 30 [(0, .ref x0), (1, .int x1)] [] g (f_X5_undo_L30 γ x0 n x1 g) := by
  intro n
  induction n with
  | zero => intro x1 g; exact AW_none
  | succ n ih =>
    intro x1 g
    unfold f_X5_undo_L30
    refine r_iload_n (pc := 30) dX5_undo_30 rfl 1 rfl ?_
    refine r_sipush (v := (5457 : Int32)) (pc := 31) dX5_undo_31 (by decide) ?_
    refine r_icmp_ge (tgt := 64) (pc := 34) dX5_undo_34 (by decide) ?_ ?_
    · skip
      refine r_aload_n (pc := 64) dX5_undo_64 rfl 0 rfl ?_
      refine r_getI (f := 34) (pc := 65) dX5_undo_65 q3382 (Or.inl rfl) rfl (fun v7 => ?_)
      exact r_iret (pc := 68) dX5_undo_68 rfl
    · skip
      refine r_aload_n (pc := 37) dX5_undo_37 rfl 0 rfl ?_
      refine r_getR (f := 30) (pc := 38) dX5_undo_38 q3378 (Or.inl rfl) rfl (fun v8 => ?_)
      refine r_iload_n (pc := 41) dX5_undo_41 rfl 1 rfl ?_
      refine r_aload_n (pc := 42) dX5_undo_42 rfl 0 rfl ?_
      refine r_getR (f := 33) (pc := 43) dX5_undo_43 q3381 (Or.inl rfl) rfl (fun v9 => ?_)
      refine r_sipush (v := (5457 : Int32)) (pc := 46) dX5_undo_46 (by decide) ?_
      refine r_aload_n (pc := 49) dX5_undo_49 rfl 0 rfl ?_
      refine r_getI (f := 34) (pc := 50) dX5_undo_50 q3382 (Or.inl rfl) rfl (fun v10 => ?_)
      refine r_imul (pc := 53) dX5_undo_53 ?_
      refine r_iload_n (pc := 54) dX5_undo_54 rfl 1 rfl ?_
      refine r_iadd (pc := 55) dX5_undo_55 ?_
      refine r_iald (pc := 56) dX5_undo_56 (fun v11 => ?_)
      refine r_iast (pc := 57) dX5_undo_57 (fun g12 => ?_)
      refine r_iinc (j := 1) (v := (x1 + (1 : Int32))) (pc := 58) dX5_undo_58 rfl rfl (Nat.le_of_ble_eq_true rfl) rfl ?_
      refine r_goto (tgt := 30) (pc := 61) dX5_undo_61 (by decide) ?_
      refine AW_sub [1, 0] rfl ?_
      exact ih (x1 + (1 : Int32)) g12
theorem t_X5_undo (γ : GP) (l : Launch) (hl : l.stackTraces = false) (x0 : Nat) (g : AH) : TrM ρI γ l ⟨"BanquetVotesModel", "undo", "()I"⟩ (ws_ ⟨"BanquetVotesModel", "undo", "()I"⟩ prog_25_method_89_code 2 (some .int)) 2 [.ref x0] g (f_X5_undo γ x0 g) := by
  refine TrM_of (plainFor_of_name (by decide)) (Nat.le_of_ble_eq_true rfl) ?_
  unfold f_X5_undo
  change AW ρI γ l ck_X5_undo g 0 [(0, .ref x0)] [] g _
  refine r_aload_n (pc := 0) dX5_undo_0 rfl 0 rfl ?_
  refine r_iconst (v := (0 : Int32)) (pc := 1) dX5_undo_1 (by decide) ?_
  refine r_putI (f := 50) (pc := 2) dX5_undo_2 q3398 (Or.inl rfl) (Or.inl rfl) rfl (fun g1 => ?_)
  refine r_aload_n (pc := 5) dX5_undo_5 rfl 0 rfl ?_
  refine r_getI (f := 34) (pc := 6) dX5_undo_6 q3382 (Or.inl rfl) rfl (fun v2 => ?_)
  refine r_if_ne (tgt := 18) (pc := 9) dX5_undo_9 (by decide) ?_ ?_
  · skip
    refine r_aload_n (pc := 12) dX5_undo_12 rfl 0 rfl ?_
    refine r_iconst (v := (1 : Int32)) (pc := 13) dX5_undo_13 (by decide) ?_
    refine r_cI (pc := 14) (rest := []) (RunOK_chk (fun h => run_V (n := 1) (c9 := 8) (As := [.int (1 : Int32)]) (rest := []) (t_X5_raises γ l hl x0 (1 : Int32) g1) dX5_undo_14 q3458 q3460 qs53 q121 q3461 (by decide +kernel) rfl h ⟨rfl, by decide, by decide⟩ (Nat.le_of_ble_eq_true rfl) (Nat.le_of_ble_eq_true rfl) rfl (Nat.le_of_ble_eq_true rfl))) (fun v4 g3 => ?_)
    exact r_iret (pc := 17) dX5_undo_17 rfl
  · skip
    refine r_aload_n (pc := 18) dX5_undo_18 rfl 0 rfl ?_
    refine r_dup (pc := 19) dX5_undo_19 rfl ?_
    refine r_getI (f := 34) (pc := 20) dX5_undo_20 q3382 (Or.inl rfl) rfl (fun v5 => ?_)
    refine r_iconst (v := (1 : Int32)) (pc := 23) dX5_undo_23 (by decide) ?_
    refine r_isub (pc := 24) dX5_undo_24 ?_
    refine r_putI (f := 34) (pc := 25) dX5_undo_25 q3382 (Or.inl rfl) (Or.inl rfl) rfl (fun g6 => ?_)
    refine r_iconst (v := (0 : Int32)) (pc := 28) dX5_undo_28 (by decide) ?_
    refine r_istore_n (pc := 29) dX5_undo_29 rfl (Nat.le_of_ble_eq_true rfl) rfl ?_
    refine AW_sub [1, 0] rfl ?_
    refine f_X5_undo_L30_w γ l hl _ x0 FU (0 : Int32) g6
abbrev ck_X5_save : CK := ("BanquetVotesModel", prog_25_method_90_code, 2, (some .int), "save", [], 1)
def f_X5_save_L12 (γ : GP) (x0 : Nat) : Nat → Int32 → AH → Option (Int32 × AH)
  | 0, _, _ => none
  | n + 1, x1, g => (if (5457 : Int32) ≤ x1 then gR g x0 30 fun v3 => gA g 101 v3 (0 : Int32) fun v4 => (some (v4, g)) else gR g x0 35 fun v5 => gR g x0 30 fun v6 => gA g 101 v6 x1 fun v7 => pA γ g 101 v5 x1 v7 fun g8 => f_X5_save_L12 γ x0 n (x1 + (1 : Int32)) g8)
def f_X5_save (γ : GP) (x0 : Nat) (g : AH) : Option (Int32 × AH) := pI γ g x0 50 (0 : Int32) fun g1 => pI γ g1 x0 36 (1 : Int32) fun g2 => f_X5_save_L12 γ x0 FU (0 : Int32) g2
theorem f_X5_save_L12_w (γ : GP) (l : Launch) (hl : l.stackTraces = false) (G0 : AH) (x0 : Nat) : ∀ (n : Nat) (x1 : Int32) (g : AH), AW ρI γ l ck_X5_save G0 12 [(0, .ref x0), (1, .int x1)] [] g (f_X5_save_L12 γ x0 n x1 g) := by
  intro n
  induction n with
  | zero => intro x1 g; exact AW_none
  | succ n ih =>
    intro x1 g
    unfold f_X5_save_L12
    refine r_iload_n (pc := 12) dX5_save_12 rfl 1 rfl ?_
    refine r_sipush (v := (5457 : Int32)) (pc := 13) dX5_save_13 (by decide) ?_
    refine r_icmp_ge (tgt := 37) (pc := 16) dX5_save_16 (by decide) ?_ ?_
    · skip
      refine r_aload_n (pc := 37) dX5_save_37 rfl 0 rfl ?_
      refine r_getR (f := 30) (pc := 38) dX5_save_38 q3378 (Or.inl rfl) rfl (fun v3 => ?_)
      refine r_iconst (v := (0 : Int32)) (pc := 41) dX5_save_41 (by decide) ?_
      refine r_iald (pc := 42) dX5_save_42 (fun v4 => ?_)
      exact r_iret (pc := 43) dX5_save_43 rfl
    · skip
      refine r_aload_n (pc := 19) dX5_save_19 rfl 0 rfl ?_
      refine r_getR (f := 35) (pc := 20) dX5_save_20 q3383 (Or.inl rfl) rfl (fun v5 => ?_)
      refine r_iload_n (pc := 23) dX5_save_23 rfl 1 rfl ?_
      refine r_aload_n (pc := 24) dX5_save_24 rfl 0 rfl ?_
      refine r_getR (f := 30) (pc := 25) dX5_save_25 q3378 (Or.inl rfl) rfl (fun v6 => ?_)
      refine r_iload_n (pc := 28) dX5_save_28 rfl 1 rfl ?_
      refine r_iald (pc := 29) dX5_save_29 (fun v7 => ?_)
      refine r_iast (pc := 30) dX5_save_30 (fun g8 => ?_)
      refine r_iinc (j := 1) (v := (x1 + (1 : Int32))) (pc := 31) dX5_save_31 rfl rfl (Nat.le_of_ble_eq_true rfl) rfl ?_
      refine r_goto (tgt := 12) (pc := 34) dX5_save_34 (by decide) ?_
      refine AW_sub [1, 0] rfl ?_
      exact ih (x1 + (1 : Int32)) g8
theorem t_X5_save (γ : GP) (l : Launch) (hl : l.stackTraces = false) (x0 : Nat) (g : AH) : TrM ρI γ l ⟨"BanquetVotesModel", "save", "()I"⟩ (ws_ ⟨"BanquetVotesModel", "save", "()I"⟩ prog_25_method_90_code 2 (some .int)) 1 [.ref x0] g (f_X5_save γ x0 g) := by
  refine TrM_of (plainFor_of_name (by decide)) (Nat.le_of_ble_eq_true rfl) ?_
  unfold f_X5_save
  change AW ρI γ l ck_X5_save g 0 [(0, .ref x0)] [] g _
  refine r_aload_n (pc := 0) dX5_save_0 rfl 0 rfl ?_
  refine r_iconst (v := (0 : Int32)) (pc := 1) dX5_save_1 (by decide) ?_
  refine r_putI (f := 50) (pc := 2) dX5_save_2 q3398 (Or.inl rfl) (Or.inl rfl) rfl (fun g1 => ?_)
  refine r_aload_n (pc := 5) dX5_save_5 rfl 0 rfl ?_
  refine r_iconst (v := (1 : Int32)) (pc := 6) dX5_save_6 (by decide) ?_
  refine r_putI (f := 36) (pc := 7) dX5_save_7 q3384 (Or.inl rfl) (Or.inl rfl) rfl (fun g2 => ?_)
  refine r_iconst (v := (0 : Int32)) (pc := 10) dX5_save_10 (by decide) ?_
  refine r_istore_n (pc := 11) dX5_save_11 rfl (Nat.le_of_ble_eq_true rfl) rfl ?_
  refine AW_sub [1, 0] rfl ?_
  refine f_X5_save_L12_w γ l hl _ x0 FU (0 : Int32) g2
abbrev ck_X5_restore : CK := ("BanquetVotesModel", prog_25_method_91_code, 2, (some .int), "restore", [], 2)
def f_X5_restore_L20 (γ : GP) (x0 : Nat) : Nat → Int32 → AH → Option (Int32 × AH)
  | 0, _, _ => none
  | n + 1, x1, g => (if (5457 : Int32) ≤ x1 then pI γ g x0 34 (0 : Int32) fun g5 => gR g5 x0 30 fun v6 => gA g5 101 v6 (0 : Int32) fun v7 => (some (v7, g5)) else gR g x0 30 fun v8 => gR g x0 35 fun v9 => gA g 101 v9 x1 fun v10 => pA γ g 101 v8 x1 v10 fun g11 => f_X5_restore_L20 γ x0 n (x1 + (1 : Int32)) g11)
def f_X5_restore (γ : GP) (x0 : Nat) (g : AH) : Option (Int32 × AH) := pI γ g x0 50 (0 : Int32) fun g1 => gI g1 x0 36 fun v2 => (if v2 = 0 then bI ((if hK g1 x0 = 8 then f_X5_raises γ x0 (1 : Int32) g1 else none)) fun v4 g3 => (some (v4, g3)) else f_X5_restore_L20 γ x0 FU (0 : Int32) g1)
theorem f_X5_restore_L20_w (γ : GP) (l : Launch) (hl : l.stackTraces = false) (G0 : AH) (x0 : Nat) : ∀ (n : Nat) (x1 : Int32) (g : AH), AW ρI γ l ck_X5_restore G0 20 [(0, .ref x0), (1, .int x1)] [] g (f_X5_restore_L20 γ x0 n x1 g) := by
  intro n
  induction n with
  | zero => intro x1 g; exact AW_none
  | succ n ih =>
    intro x1 g
    unfold f_X5_restore_L20
    refine r_iload_n (pc := 20) dX5_restore_20 rfl 1 rfl ?_
    refine r_sipush (v := (5457 : Int32)) (pc := 21) dX5_restore_21 (by decide) ?_
    refine r_icmp_ge (tgt := 45) (pc := 24) dX5_restore_24 (by decide) ?_ ?_
    · skip
      refine r_aload_n (pc := 45) dX5_restore_45 rfl 0 rfl ?_
      refine r_iconst (v := (0 : Int32)) (pc := 46) dX5_restore_46 (by decide) ?_
      refine r_putI (f := 34) (pc := 47) dX5_restore_47 q3382 (Or.inl rfl) (Or.inl rfl) rfl (fun g5 => ?_)
      refine r_aload_n (pc := 50) dX5_restore_50 rfl 0 rfl ?_
      refine r_getR (f := 30) (pc := 51) dX5_restore_51 q3378 (Or.inl rfl) rfl (fun v6 => ?_)
      refine r_iconst (v := (0 : Int32)) (pc := 54) dX5_restore_54 (by decide) ?_
      refine r_iald (pc := 55) dX5_restore_55 (fun v7 => ?_)
      exact r_iret (pc := 56) dX5_restore_56 rfl
    · skip
      refine r_aload_n (pc := 27) dX5_restore_27 rfl 0 rfl ?_
      refine r_getR (f := 30) (pc := 28) dX5_restore_28 q3378 (Or.inl rfl) rfl (fun v8 => ?_)
      refine r_iload_n (pc := 31) dX5_restore_31 rfl 1 rfl ?_
      refine r_aload_n (pc := 32) dX5_restore_32 rfl 0 rfl ?_
      refine r_getR (f := 35) (pc := 33) dX5_restore_33 q3383 (Or.inl rfl) rfl (fun v9 => ?_)
      refine r_iload_n (pc := 36) dX5_restore_36 rfl 1 rfl ?_
      refine r_iald (pc := 37) dX5_restore_37 (fun v10 => ?_)
      refine r_iast (pc := 38) dX5_restore_38 (fun g11 => ?_)
      refine r_iinc (j := 1) (v := (x1 + (1 : Int32))) (pc := 39) dX5_restore_39 rfl rfl (Nat.le_of_ble_eq_true rfl) rfl ?_
      refine r_goto (tgt := 20) (pc := 42) dX5_restore_42 (by decide) ?_
      refine AW_sub [1, 0] rfl ?_
      exact ih (x1 + (1 : Int32)) g11
theorem t_X5_restore (γ : GP) (l : Launch) (hl : l.stackTraces = false) (x0 : Nat) (g : AH) : TrM ρI γ l ⟨"BanquetVotesModel", "restore", "()I"⟩ (ws_ ⟨"BanquetVotesModel", "restore", "()I"⟩ prog_25_method_91_code 2 (some .int)) 2 [.ref x0] g (f_X5_restore γ x0 g) := by
  refine TrM_of (plainFor_of_name (by decide)) (Nat.le_of_ble_eq_true rfl) ?_
  unfold f_X5_restore
  change AW ρI γ l ck_X5_restore g 0 [(0, .ref x0)] [] g _
  refine r_aload_n (pc := 0) dX5_restore_0 rfl 0 rfl ?_
  refine r_iconst (v := (0 : Int32)) (pc := 1) dX5_restore_1 (by decide) ?_
  refine r_putI (f := 50) (pc := 2) dX5_restore_2 q3398 (Or.inl rfl) (Or.inl rfl) rfl (fun g1 => ?_)
  refine r_aload_n (pc := 5) dX5_restore_5 rfl 0 rfl ?_
  refine r_getI (f := 36) (pc := 6) dX5_restore_6 q3384 (Or.inl rfl) rfl (fun v2 => ?_)
  refine r_if_ne (tgt := 18) (pc := 9) dX5_restore_9 (by decide) ?_ ?_
  · skip
    refine r_aload_n (pc := 12) dX5_restore_12 rfl 0 rfl ?_
    refine r_iconst (v := (1 : Int32)) (pc := 13) dX5_restore_13 (by decide) ?_
    refine r_cI (pc := 14) (rest := []) (RunOK_chk (fun h => run_V (n := 1) (c9 := 8) (As := [.int (1 : Int32)]) (rest := []) (t_X5_raises γ l hl x0 (1 : Int32) g1) dX5_restore_14 q3458 q3460 qs53 q121 q3461 (by decide +kernel) rfl h ⟨rfl, by decide, by decide⟩ (Nat.le_of_ble_eq_true rfl) (Nat.le_of_ble_eq_true rfl) rfl (Nat.le_of_ble_eq_true rfl))) (fun v4 g3 => ?_)
    exact r_iret (pc := 17) dX5_restore_17 rfl
  · skip
    refine r_iconst (v := (0 : Int32)) (pc := 18) dX5_restore_18 (by decide) ?_
    refine r_istore_n (pc := 19) dX5_restore_19 rfl (Nat.le_of_ble_eq_true rfl) rfl ?_
    refine AW_sub [1, 0] rfl ?_
    refine f_X5_restore_L20_w γ l hl _ x0 FU (0 : Int32) g1
