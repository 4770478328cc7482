set_option maxRecDepth 100000
abbrev cX1_cook : ByteArray := prog_1_method_16_code
def dkwX1_cook_1 : List UInt8 := [182, 0, 121, 172, 78, 42, 45, 182, 0, 125, 191]
abbrev dktX1_cook_1 : List UInt8 := dkwX1_cook_1 ++ []
def dkwX1_cook_0 : List UInt8 := [27, 4, 8, 184, 0, 58, 184, 0, 82, 42, 180, 0, 19, 182, 0, 108, 77, 42, 44, 44, 27, 182, 0, 129]
abbrev dktX1_cook_0 : List UInt8 := dkwX1_cook_0 ++ dktX1_cook_1
theorem dksX1_cook_0 : cX1_cook.data.toList.drop 0 = dktX1_cook_0 := by decide +kernel
theorem dksX1_cook_1 : cX1_cook.data.toList.drop 24 = dktX1_cook_1 := dk_seg dksX1_cook_0 24 rfl rfl
theorem dX1_cook_0 : decode cX1_cook 0 = .ok (.iload_n 1, 1) := dk_27 (dk_at dksX1_cook_0 0 rfl rfl)
theorem dX1_cook_1 : decode cX1_cook 1 = .ok (.iconst 1, 1) := dk_4 (dk_at dksX1_cook_0 1 rfl rfl)
theorem dX1_cook_2 : decode cX1_cook 2 = .ok (.iconst 5, 1) := dk_8 (dk_at dksX1_cook_0 2 rfl rfl)
theorem dX1_cook_3 : decode cX1_cook 3 = .ok (.invokestatic 58, 3) := dk_184 0 58 (dk_at dksX1_cook_0 3 rfl rfl)
theorem dX1_cook_6 : decode cX1_cook 6 = .ok (.invokestatic 82, 3) := dk_184 0 82 (dk_at dksX1_cook_0 6 rfl rfl)
theorem dX1_cook_9 : decode cX1_cook 9 = .ok (.aload_n 0, 1) := dk_42 (dk_at dksX1_cook_0 9 rfl rfl)
theorem dX1_cook_10 : decode cX1_cook 10 = .ok (.getfield 19, 3) := dk_180 0 19 (dk_at dksX1_cook_0 10 rfl rfl)
theorem dX1_cook_13 : decode cX1_cook 13 = .ok (.invokevirtual 108, 3) := dk_182 0 108 (dk_at dksX1_cook_0 13 rfl rfl)
theorem dX1_cook_16 : decode cX1_cook 16 = .ok (.astore_n 2, 1) := dk_77 (dk_at dksX1_cook_0 16 rfl rfl)
theorem dX1_cook_17 : decode cX1_cook 17 = .ok (.aload_n 0, 1) := dk_42 (dk_at dksX1_cook_0 17 rfl rfl)
theorem dX1_cook_18 : decode cX1_cook 18 = .ok (.aload_n 2, 1) := dk_44 (dk_at dksX1_cook_0 18 rfl rfl)
theorem dX1_cook_19 : decode cX1_cook 19 = .ok (.aload_n 2, 1) := dk_44 (dk_at dksX1_cook_0 19 rfl rfl)
theorem dX1_cook_20 : decode cX1_cook 20 = .ok (.iload_n 1, 1) := dk_27 (dk_at dksX1_cook_0 20 rfl rfl)
theorem dX1_cook_21 : decode cX1_cook 21 = .ok (.invokevirtual 129, 3) := dk_182 0 129 (dk_at dksX1_cook_0 21 rfl rfl)
theorem dX1_cook_24 : decode cX1_cook 24 = .ok (.invokevirtual 121, 3) := dk_182 0 121 (dk_at dksX1_cook_1 0 rfl rfl)
theorem dX1_cook_27 : decode cX1_cook 27 = .ok (.ireturn, 1) := dk_172 (dk_at dksX1_cook_1 3 rfl rfl)
theorem dX1_cook_28 : decode cX1_cook 28 = .ok (.astore_n 3, 1) := dk_78 (dk_at dksX1_cook_1 4 rfl rfl)
theorem dX1_cook_29 : decode cX1_cook 29 = .ok (.aload_n 0, 1) := dk_42 (dk_at dksX1_cook_1 5 rfl rfl)
theorem dX1_cook_30 : decode cX1_cook 30 = .ok (.aload_n 3, 1) := dk_45 (dk_at dksX1_cook_1 6 rfl rfl)
theorem dX1_cook_31 : decode cX1_cook 31 = .ok (.invokevirtual 125, 3) := dk_182 0 125 (dk_at dksX1_cook_1 7 rfl rfl)
theorem dX1_cook_34 : decode cX1_cook 34 = .ok (.athrow, 1) := dk_191 (dk_at dksX1_cook_1 10 rfl rfl)
abbrev cX1_isIn : ByteArray := prog_1_method_2_code
def dkwX1_isIn_0 : List UInt8 := [26, 27, 161, 0, 12, 26, 28, 163, 0, 7, 4, 167, 0, 4, 3, 172]
abbrev dktX1_isIn_0 : List UInt8 := dkwX1_isIn_0 ++ []
theorem dksX1_isIn_0 : cX1_isIn.data.toList.drop 0 = dktX1_isIn_0 := by decide +kernel
theorem dX1_isIn_0 : decode cX1_isIn 0 = .ok (.iload_n 0, 1) := dk_26 (dk_at dksX1_isIn_0 0 rfl rfl)
theorem dX1_isIn_1 : decode cX1_isIn 1 = .ok (.iload_n 1, 1) := dk_27 (dk_at dksX1_isIn_0 1 rfl rfl)
theorem dX1_isIn_2 : decode cX1_isIn 2 = .ok (.if_icmp .lt 12, 3) := dk_161 0 12 (dk_at dksX1_isIn_0 2 rfl rfl)
theorem dX1_isIn_5 : decode cX1_isIn 5 = .ok (.iload_n 0, 1) := dk_26 (dk_at dksX1_isIn_0 5 rfl rfl)
theorem dX1_isIn_6 : decode cX1_isIn 6 = .ok (.iload_n 2, 1) := dk_28 (dk_at dksX1_isIn_0 6 rfl rfl)
theorem dX1_isIn_7 : decode cX1_isIn 7 = .ok (.if_icmp .gt 7, 3) := dk_163 0 7 (dk_at dksX1_isIn_0 7 rfl rfl)
theorem dX1_isIn_10 : decode cX1_isIn 10 = .ok (.iconst 1, 1) := dk_4 (dk_at dksX1_isIn_0 10 rfl rfl)
theorem dX1_isIn_11 : decode cX1_isIn 11 = .ok (.goto 4, 3) := dk_167 0 4 (dk_at dksX1_isIn_0 11 rfl rfl)
theorem dX1_isIn_14 : decode cX1_isIn 14 = .ok (.iconst 0, 1) := dk_3 (dk_at dksX1_isIn_0 14 rfl rfl)
theorem dX1_isIn_15 : decode cX1_isIn 15 = .ok (.ireturn, 1) := dk_172 (dk_at dksX1_isIn_0 15 rfl rfl)
abbrev cX1_require : ByteArray := prog_1_method_5_code
def dkwX1_require_0 : List UInt8 := [26, 154, 0, 11, 187, 0, 49, 89, 183, 0, 51, 191, 177]
abbrev dktX1_require_0 : List UInt8 := dkwX1_require_0 ++ []
theorem dksX1_require_0 : cX1_require.data.toList.drop 0 = dktX1_require_0 := by decide +kernel
theorem dX1_require_0 : decode cX1_require 0 = .ok (.iload_n 0, 1) := dk_26 (dk_at dksX1_require_0 0 rfl rfl)
theorem dX1_require_1 : decode cX1_require 1 = .ok (.ifCond .ne 11, 3) := dk_154 0 11 (dk_at dksX1_require_0 1 rfl rfl)
theorem dX1_require_4 : decode cX1_require 4 = .ok (.new 49, 3) := dk_187 0 49 (dk_at dksX1_require_0 4 rfl rfl)
theorem dX1_require_7 : decode cX1_require 7 = .ok (.dup, 1) := dk_89 (dk_at dksX1_require_0 7 rfl rfl)
theorem dX1_require_8 : decode cX1_require 8 = .ok (.invokespecial 51, 3) := dk_183 0 51 (dk_at dksX1_require_0 8 rfl rfl)
theorem dX1_require_11 : decode cX1_require 11 = .ok (.athrow, 1) := dk_191 (dk_at dksX1_require_0 11 rfl rfl)
theorem dX1_require_12 : decode cX1_require 12 = .ok (.return_, 1) := dk_177 (dk_at dksX1_require_0 12 rfl rfl)
abbrev cX1_meet : ByteArray := prog_1_method_1_code
def dkwX1_meet_0 : List UInt8 := [26, 154, 0, 13, 187, 0, 1, 89, 27, 28, 183, 0, 3, 191, 177]
abbrev dktX1_meet_0 : List UInt8 := dkwX1_meet_0 ++ []
theorem dksX1_meet_0 : cX1_meet.data.toList.drop 0 = dktX1_meet_0 := by decide +kernel
theorem dX1_meet_0 : decode cX1_meet 0 = .ok (.iload_n 0, 1) := dk_26 (dk_at dksX1_meet_0 0 rfl rfl)
theorem dX1_meet_1 : decode cX1_meet 1 = .ok (.ifCond .ne 13, 3) := dk_154 0 13 (dk_at dksX1_meet_0 1 rfl rfl)
theorem dX1_meet_4 : decode cX1_meet 4 = .ok (.new 1, 3) := dk_187 0 1 (dk_at dksX1_meet_0 4 rfl rfl)
theorem dX1_meet_7 : decode cX1_meet 7 = .ok (.dup, 1) := dk_89 (dk_at dksX1_meet_0 7 rfl rfl)
theorem dX1_meet_8 : decode cX1_meet 8 = .ok (.iload_n 1, 1) := dk_27 (dk_at dksX1_meet_0 8 rfl rfl)
theorem dX1_meet_9 : decode cX1_meet 9 = .ok (.iload_n 2, 1) := dk_28 (dk_at dksX1_meet_0 9 rfl rfl)
theorem dX1_meet_10 : decode cX1_meet 10 = .ok (.invokespecial 3, 3) := dk_183 0 3 (dk_at dksX1_meet_0 10 rfl rfl)
theorem dX1_meet_13 : decode cX1_meet 13 = .ok (.athrow, 1) := dk_191 (dk_at dksX1_meet_0 13 rfl rfl)
theorem dX1_meet_14 : decode cX1_meet 14 = .ok (.return_, 1) := dk_177 (dk_at dksX1_meet_0 14 rfl rfl)
abbrev cX1_become : ByteArray := prog_1_method_13_code
def dkwX1_become_1 : List UInt8 := [42, 180, 0, 19, 182, 0, 91, 42, 43, 181, 0, 19, 28, 172]
abbrev dktX1_become_1 : List UInt8 := dkwX1_become_1 ++ []
def dkwX1_become_0 : List UInt8 := [42, 180, 0, 28, 182, 0, 86, 16, 8, 160, 0, 11, 42, 180, 0, 28, 182, 0, 87, 87, 42, 180, 0, 28]
abbrev dktX1_become_0 : List UInt8 := dkwX1_become_0 ++ dktX1_become_1
theorem dksX1_become_0 : cX1_become.data.toList.drop 0 = dktX1_become_0 := by decide +kernel
theorem dksX1_become_1 : cX1_become.data.toList.drop 24 = dktX1_become_1 := dk_seg dksX1_become_0 24 rfl rfl
theorem dX1_become_0 : decode cX1_become 0 = .ok (.aload_n 0, 1) := dk_42 (dk_at dksX1_become_0 0 rfl rfl)
theorem dX1_become_1 : decode cX1_become 1 = .ok (.getfield 28, 3) := dk_180 0 28 (dk_at dksX1_become_0 1 rfl rfl)
theorem dX1_become_4 : decode cX1_become 4 = .ok (.invokevirtual 86, 3) := dk_182 0 86 (dk_at dksX1_become_0 4 rfl rfl)
theorem dX1_become_7 : decode cX1_become 7 = .ok (.bipush 8, 2) := dk_16 8 (dk_at dksX1_become_0 7 rfl rfl)
theorem dX1_become_9 : decode cX1_become 9 = .ok (.if_icmp .ne 11, 3) := dk_160 0 11 (dk_at dksX1_become_0 9 rfl rfl)
theorem dX1_become_12 : decode cX1_become 12 = .ok (.aload_n 0, 1) := dk_42 (dk_at dksX1_become_0 12 rfl rfl)
theorem dX1_become_13 : decode cX1_become 13 = .ok (.getfield 28, 3) := dk_180 0 28 (dk_at dksX1_become_0 13 rfl rfl)
theorem dX1_become_16 : decode cX1_become 16 = .ok (.invokevirtual 87, 3) := dk_182 0 87 (dk_at dksX1_become_0 16 rfl rfl)
theorem dX1_become_19 : decode cX1_become 19 = .ok (.pop, 1) := dk_87 (dk_at dksX1_become_0 19 rfl rfl)
theorem dX1_become_20 : decode cX1_become 20 = .ok (.aload_n 0, 1) := dk_42 (dk_at dksX1_become_0 20 rfl rfl)
theorem dX1_become_21 : decode cX1_become 21 = .ok (.getfield 28, 3) := dk_180 0 28 (dk_at dksX1_become_0 21 rfl rfl)
theorem dX1_become_24 : decode cX1_become 24 = .ok (.aload_n 0, 1) := dk_42 (dk_at dksX1_become_1 0 rfl rfl)
theorem dX1_become_25 : decode cX1_become 25 = .ok (.getfield 19, 3) := dk_180 0 19 (dk_at dksX1_become_1 1 rfl rfl)
theorem dX1_become_28 : decode cX1_become 28 = .ok (.invokevirtual 91, 3) := dk_182 0 91 (dk_at dksX1_become_1 4 rfl rfl)
theorem dX1_become_31 : decode cX1_become 31 = .ok (.aload_n 0, 1) := dk_42 (dk_at dksX1_become_1 7 rfl rfl)
theorem dX1_become_32 : decode cX1_become 32 = .ok (.aload_n 1, 1) := dk_43 (dk_at dksX1_become_1 8 rfl rfl)
theorem dX1_become_33 : decode cX1_become 33 = .ok (.putfield 19, 3) := dk_181 0 19 (dk_at dksX1_become_1 9 rfl rfl)
theorem dX1_become_36 : decode cX1_become 36 = .ok (.iload_n 2, 1) := dk_28 (dk_at dksX1_become_1 12 rfl rfl)
theorem dX1_become_37 : decode cX1_become 37 = .ok (.ireturn, 1) := dk_172 (dk_at dksX1_become_1 13 rfl rfl)
abbrev cX1_refused : ByteArray := prog_1_method_14_code
def dkwX1_refused_0 : List UInt8 := [42, 43, 182, 0, 95, 181, 0, 98, 42, 43, 182, 0, 100, 181, 0, 103, 187, 0, 105, 89, 183, 0, 107, 176]
abbrev dktX1_refused_0 : List UInt8 := dkwX1_refused_0 ++ []
theorem dksX1_refused_0 : cX1_refused.data.toList.drop 0 = dktX1_refused_0 := by decide +kernel
theorem dX1_refused_0 : decode cX1_refused 0 = .ok (.aload_n 0, 1) := dk_42 (dk_at dksX1_refused_0 0 rfl rfl)
theorem dX1_refused_1 : decode cX1_refused 1 = .ok (.aload_n 1, 1) := dk_43 (dk_at dksX1_refused_0 1 rfl rfl)
theorem dX1_refused_2 : decode cX1_refused 2 = .ok (.invokevirtual 95, 3) := dk_182 0 95 (dk_at dksX1_refused_0 2 rfl rfl)
theorem dX1_refused_5 : decode cX1_refused 5 = .ok (.putfield 98, 3) := dk_181 0 98 (dk_at dksX1_refused_0 5 rfl rfl)
theorem dX1_refused_8 : decode cX1_refused 8 = .ok (.aload_n 0, 1) := dk_42 (dk_at dksX1_refused_0 8 rfl rfl)
theorem dX1_refused_9 : decode cX1_refused 9 = .ok (.aload_n 1, 1) := dk_43 (dk_at dksX1_refused_0 9 rfl rfl)
theorem dX1_refused_10 : decode cX1_refused 10 = .ok (.invokevirtual 100, 3) := dk_182 0 100 (dk_at dksX1_refused_0 10 rfl rfl)
theorem dX1_refused_13 : decode cX1_refused 13 = .ok (.putfield 103, 3) := dk_181 0 103 (dk_at dksX1_refused_0 13 rfl rfl)
theorem dX1_refused_16 : decode cX1_refused 16 = .ok (.new 105, 3) := dk_187 0 105 (dk_at dksX1_refused_0 16 rfl rfl)
theorem dX1_refused_19 : decode cX1_refused 19 = .ok (.dup, 1) := dk_89 (dk_at dksX1_refused_0 19 rfl rfl)
theorem dX1_refused_20 : decode cX1_refused 20 = .ok (.invokespecial 107, 3) := dk_183 0 107 (dk_at dksX1_refused_0 20 rfl rfl)
theorem dX1_refused_23 : decode cX1_refused 23 = .ok (.areturn, 1) := dk_176 (dk_at dksX1_refused_0 23 rfl rfl)
abbrev cX1_stock : ByteArray := prog_1_method_17_code
def dkwX1_stock_2 : List UInt8 := [25, 5, 182, 0, 125, 191]
abbrev dktX1_stock_2 : List UInt8 := dkwX1_stock_2 ++ []
def dkwX1_stock_1 : List UInt8 := [182, 0, 108, 58, 4, 42, 25, 4, 25, 4, 27, 28, 29, 182, 0, 140, 182, 0, 121, 172, 58, 5, 42]
abbrev dktX1_stock_1 : List UInt8 := dkwX1_stock_1 ++ dktX1_stock_2
def dkwX1_stock_0 : List UInt8 := [42, 27, 182, 0, 133, 28, 184, 0, 137, 29, 4, 16, 50, 184, 0, 58, 184, 0, 82, 42, 180, 0, 19]
abbrev dktX1_stock_0 : List UInt8 := dkwX1_stock_0 ++ dktX1_stock_1
theorem dksX1_stock_0 : cX1_stock.data.toList.drop 0 = dktX1_stock_0 := by decide +kernel
theorem dksX1_stock_1 : cX1_stock.data.toList.drop 23 = dktX1_stock_1 := dk_seg dksX1_stock_0 23 rfl rfl
theorem dksX1_stock_2 : cX1_stock.data.toList.drop 46 = dktX1_stock_2 := dk_seg dksX1_stock_1 23 rfl rfl
theorem dX1_stock_0 : decode cX1_stock 0 = .ok (.aload_n 0, 1) := dk_42 (dk_at dksX1_stock_0 0 rfl rfl)
theorem dX1_stock_1 : decode cX1_stock 1 = .ok (.iload_n 1, 1) := dk_27 (dk_at dksX1_stock_0 1 rfl rfl)
theorem dX1_stock_2 : decode cX1_stock 2 = .ok (.invokevirtual 133, 3) := dk_182 0 133 (dk_at dksX1_stock_0 2 rfl rfl)
theorem dX1_stock_5 : decode cX1_stock 5 = .ok (.iload_n 2, 1) := dk_28 (dk_at dksX1_stock_0 5 rfl rfl)
theorem dX1_stock_6 : decode cX1_stock 6 = .ok (.invokestatic 137, 3) := dk_184 0 137 (dk_at dksX1_stock_0 6 rfl rfl)
theorem dX1_stock_9 : decode cX1_stock 9 = .ok (.iload_n 3, 1) := dk_29 (dk_at dksX1_stock_0 9 rfl rfl)
theorem dX1_stock_10 : decode cX1_stock 10 = .ok (.iconst 1, 1) := dk_4 (dk_at dksX1_stock_0 10 rfl rfl)
theorem dX1_stock_11 : decode cX1_stock 11 = .ok (.bipush 50, 2) := dk_16 50 (dk_at dksX1_stock_0 11 rfl rfl)
theorem dX1_stock_13 : decode cX1_stock 13 = .ok (.invokestatic 58, 3) := dk_184 0 58 (dk_at dksX1_stock_0 13 rfl rfl)
theorem dX1_stock_16 : decode cX1_stock 16 = .ok (.invokestatic 82, 3) := dk_184 0 82 (dk_at dksX1_stock_0 16 rfl rfl)
theorem dX1_stock_19 : decode cX1_stock 19 = .ok (.aload_n 0, 1) := dk_42 (dk_at dksX1_stock_0 19 rfl rfl)
theorem dX1_stock_20 : decode cX1_stock 20 = .ok (.getfield 19, 3) := dk_180 0 19 (dk_at dksX1_stock_0 20 rfl rfl)
theorem dX1_stock_23 : decode cX1_stock 23 = .ok (.invokevirtual 108, 3) := dk_182 0 108 (dk_at dksX1_stock_1 0 rfl rfl)
theorem dX1_stock_26 : decode cX1_stock 26 = .ok (.astore 4, 2) := dk_58 4 (dk_at dksX1_stock_1 3 rfl rfl)
theorem dX1_stock_28 : decode cX1_stock 28 = .ok (.aload_n 0, 1) := dk_42 (dk_at dksX1_stock_1 5 rfl rfl)
theorem dX1_stock_29 : decode cX1_stock 29 = .ok (.aload 4, 2) := dk_25 4 (dk_at dksX1_stock_1 6 rfl rfl)
theorem dX1_stock_31 : decode cX1_stock 31 = .ok (.aload 4, 2) := dk_25 4 (dk_at dksX1_stock_1 8 rfl rfl)
theorem dX1_stock_33 : decode cX1_stock 33 = .ok (.iload_n 1, 1) := dk_27 (dk_at dksX1_stock_1 10 rfl rfl)
theorem dX1_stock_34 : decode cX1_stock 34 = .ok (.iload_n 2, 1) := dk_28 (dk_at dksX1_stock_1 11 rfl rfl)
theorem dX1_stock_35 : decode cX1_stock 35 = .ok (.iload_n 3, 1) := dk_29 (dk_at dksX1_stock_1 12 rfl rfl)
theorem dX1_stock_36 : decode cX1_stock 36 = .ok (.invokevirtual 140, 3) := dk_182 0 140 (dk_at dksX1_stock_1 13 rfl rfl)
theorem dX1_stock_39 : decode cX1_stock 39 = .ok (.invokevirtual 121, 3) := dk_182 0 121 (dk_at dksX1_stock_1 16 rfl rfl)
theorem dX1_stock_42 : decode cX1_stock 42 = .ok (.ireturn, 1) := dk_172 (dk_at dksX1_stock_1 19 rfl rfl)
theorem dX1_stock_43 : decode cX1_stock 43 = .ok (.astore 5, 2) := dk_58 5 (dk_at dksX1_stock_1 20 rfl rfl)
theorem dX1_stock_45 : decode cX1_stock 45 = .ok (.aload_n 0, 1) := dk_42 (dk_at dksX1_stock_1 22 rfl rfl)
theorem dX1_stock_46 : decode cX1_stock 46 = .ok (.aload 5, 2) := dk_25 5 (dk_at dksX1_stock_2 0 rfl rfl)
theorem dX1_stock_48 : decode cX1_stock 48 = .ok (.invokevirtual 125, 3) := dk_182 0 125 (dk_at dksX1_stock_2 2 rfl rfl)
theorem dX1_stock_51 : decode cX1_stock 51 = .ok (.athrow, 1) := dk_191 (dk_at dksX1_stock_2 5 rfl rfl)
abbrev cX1_requireCook : ByteArray := prog_1_method_9_code
def dkwX1_requireCook_0 : List UInt8 := [27, 3, 42, 180, 0, 19, 182, 0, 65, 185, 0, 69, 1, 0, 184, 0, 75, 177]
abbrev dktX1_requireCook_0 : List UInt8 := dkwX1_requireCook_0 ++ []
theorem dksX1_requireCook_0 : cX1_requireCook.data.toList.drop 0 = dktX1_requireCook_0 := by decide +kernel
theorem dX1_requireCook_0 : decode cX1_requireCook 0 = .ok (.iload_n 1, 1) := dk_27 (dk_at dksX1_requireCook_0 0 rfl rfl)
theorem dX1_requireCook_1 : decode cX1_requireCook 1 = .ok (.iconst 0, 1) := dk_3 (dk_at dksX1_requireCook_0 1 rfl rfl)
theorem dX1_requireCook_2 : decode cX1_requireCook 2 = .ok (.aload_n 0, 1) := dk_42 (dk_at dksX1_requireCook_0 2 rfl rfl)
theorem dX1_requireCook_3 : decode cX1_requireCook 3 = .ok (.getfield 19, 3) := dk_180 0 19 (dk_at dksX1_requireCook_0 3 rfl rfl)
theorem dX1_requireCook_6 : decode cX1_requireCook 6 = .ok (.invokevirtual 65, 3) := dk_182 0 65 (dk_at dksX1_requireCook_0 6 rfl rfl)
theorem dX1_requireCook_9 : decode cX1_requireCook 9 = .ok (.invokeinterface 69 1, 5) := by decide +kernel
theorem dX1_requireCook_14 : decode cX1_requireCook 14 = .ok (.invokestatic 75, 3) := dk_184 0 75 (dk_at dksX1_requireCook_0 14 rfl rfl)
theorem dX1_requireCook_17 : decode cX1_requireCook 17 = .ok (.return_, 1) := dk_177 (dk_at dksX1_requireCook_0 17 rfl rfl)
abbrev cX1_requireIndex : ByteArray := prog_1_method_8_code
def dkwX1_requireIndex_0 : List UInt8 := [26, 27, 28, 4, 100, 184, 0, 58, 154, 0, 11, 187, 0, 62, 89, 183, 0, 64, 191, 177]
abbrev dktX1_requireIndex_0 : List UInt8 := dkwX1_requireIndex_0 ++ []
theorem dksX1_requireIndex_0 : cX1_requireIndex.data.toList.drop 0 = dktX1_requireIndex_0 := by decide +kernel
theorem dX1_requireIndex_0 : decode cX1_requireIndex 0 = .ok (.iload_n 0, 1) := dk_26 (dk_at dksX1_requireIndex_0 0 rfl rfl)
theorem dX1_requireIndex_1 : decode cX1_requireIndex 1 = .ok (.iload_n 1, 1) := dk_27 (dk_at dksX1_requireIndex_0 1 rfl rfl)
theorem dX1_requireIndex_2 : decode cX1_requireIndex 2 = .ok (.iload_n 2, 1) := dk_28 (dk_at dksX1_requireIndex_0 2 rfl rfl)
theorem dX1_requireIndex_3 : decode cX1_requireIndex 3 = .ok (.iconst 1, 1) := dk_4 (dk_at dksX1_requireIndex_0 3 rfl rfl)
theorem dX1_requireIndex_4 : decode cX1_requireIndex 4 = .ok (.isub, 1) := dk_100 (dk_at dksX1_requireIndex_0 4 rfl rfl)
theorem dX1_requireIndex_5 : decode cX1_requireIndex 5 = .ok (.invokestatic 58, 3) := dk_184 0 58 (dk_at dksX1_requireIndex_0 5 rfl rfl)
theorem dX1_requireIndex_8 : decode cX1_requireIndex 8 = .ok (.ifCond .ne 11, 3) := dk_154 0 11 (dk_at dksX1_requireIndex_0 8 rfl rfl)
theorem dX1_requireIndex_11 : decode cX1_requireIndex 11 = .ok (.new 62, 3) := dk_187 0 62 (dk_at dksX1_requireIndex_0 11 rfl rfl)
theorem dX1_requireIndex_14 : decode cX1_requireIndex 14 = .ok (.dup, 1) := dk_89 (dk_at dksX1_requireIndex_0 14 rfl rfl)
theorem dX1_requireIndex_15 : decode cX1_requireIndex 15 = .ok (.invokespecial 64, 3) := dk_183 0 64 (dk_at dksX1_requireIndex_0 15 rfl rfl)
theorem dX1_requireIndex_18 : decode cX1_requireIndex 18 = .ok (.athrow, 1) := dk_191 (dk_at dksX1_requireIndex_0 18 rfl rfl)
theorem dX1_requireIndex_19 : decode cX1_requireIndex 19 = .ok (.return_, 1) := dk_177 (dk_at dksX1_requireIndex_0 19 rfl rfl)
abbrev cX1_requireIngredient : ByteArray := prog_1_method_12_code
def dkwX1_requireIngredient_0 : List UInt8 := [26, 3, 6, 184, 0, 58, 184, 0, 82, 177]
abbrev dktX1_requireIngredient_0 : List UInt8 := dkwX1_requireIngredient_0 ++ []
theorem dksX1_requireIngredient_0 : cX1_requireIngredient.data.toList.drop 0 = dktX1_requireIngredient_0 := by decide +kernel
theorem dX1_requireIngredient_0 : decode cX1_requireIngredient 0 = .ok (.iload_n 0, 1) := dk_26 (dk_at dksX1_requireIngredient_0 0 rfl rfl)
theorem dX1_requireIngredient_1 : decode cX1_requireIngredient 1 = .ok (.iconst 0, 1) := dk_3 (dk_at dksX1_requireIngredient_0 1 rfl rfl)
theorem dX1_requireIngredient_2 : decode cX1_requireIngredient 2 = .ok (.iconst 3, 1) := dk_6 (dk_at dksX1_requireIngredient_0 2 rfl rfl)
theorem dX1_requireIngredient_3 : decode cX1_requireIngredient 3 = .ok (.invokestatic 58, 3) := dk_184 0 58 (dk_at dksX1_requireIngredient_0 3 rfl rfl)
theorem dX1_requireIngredient_6 : decode cX1_requireIngredient 6 = .ok (.invokestatic 82, 3) := dk_184 0 82 (dk_at dksX1_requireIngredient_0 6 rfl rfl)
theorem dX1_requireIngredient_9 : decode cX1_requireIngredient 9 = .ok (.return_, 1) := dk_177 (dk_at dksX1_requireIngredient_0 9 rfl rfl)
abbrev cX1_cookOf : ByteArray := prog_1_method_18_code
def dkwX1_cookOf_5 : List UInt8 := [185, 0, 69, 1, 0, 172, 187, 0, 49, 89, 183, 0, 51, 191]
abbrev dktX1_cookOf_5 : List UInt8 := dkwX1_cookOf_5 ++ []
def dkwX1_cookOf_4 : List UInt8 := [180, 0, 19, 27, 178, 0, 170, 4, 182, 0, 163, 172, 45, 182, 0, 173, 172, 45, 182, 0, 176]
abbrev dktX1_cookOf_4 : List UInt8 := dkwX1_cookOf_4 ++ dktX1_cookOf_5
def dkwX1_cookOf_3 : List UInt8 := [178, 0, 157, 3, 182, 0, 163, 172, 42, 180, 0, 19, 27, 178, 0, 167, 3, 182, 0, 163, 172, 42]
abbrev dktX1_cookOf_3 : List UInt8 := dkwX1_cookOf_3 ++ dktX1_cookOf_4
def dkwX1_cookOf_2 : List UInt8 := [45, 182, 0, 148, 172, 45, 182, 0, 153, 153, 0, 7, 4, 167, 0, 4, 3, 172, 42, 180, 0, 19, 27]
abbrev dktX1_cookOf_2 : List UInt8 := dkwX1_cookOf_2 ++ dktX1_cookOf_3
def dkwX1_cookOf_1 : List UInt8 := [170, 0, 0, 0, 113, 0, 0, 0, 0, 0, 0, 0, 6, 0, 0, 0, 41, 0, 0, 0, 46, 0, 0, 0, 59, 0, 0, 0, 72, 0, 0, 0, 85, 0, 0, 0, 98, 0, 0, 0, 103]
abbrev dktX1_cookOf_1 : List UInt8 := dkwX1_cookOf_1 ++ dktX1_cookOf_2
def dkwX1_cookOf_0 : List UInt8 := [42, 27, 182, 0, 133, 42, 180, 0, 19, 27, 182, 0, 144, 78, 28]
abbrev dktX1_cookOf_0 : List UInt8 := dkwX1_cookOf_0 ++ dktX1_cookOf_1
theorem dksX1_cookOf_0 : cX1_cookOf.data.toList.drop 0 = dktX1_cookOf_0 := by decide +kernel
theorem dksX1_cookOf_1 : cX1_cookOf.data.toList.drop 15 = dktX1_cookOf_1 := dk_seg dksX1_cookOf_0 15 rfl rfl
theorem dksX1_cookOf_2 : cX1_cookOf.data.toList.drop 56 = dktX1_cookOf_2 := dk_seg dksX1_cookOf_1 41 rfl rfl
theorem dksX1_cookOf_3 : cX1_cookOf.data.toList.drop 79 = dktX1_cookOf_3 := dk_seg dksX1_cookOf_2 23 rfl rfl
theorem dksX1_cookOf_4 : cX1_cookOf.data.toList.drop 101 = dktX1_cookOf_4 := dk_seg dksX1_cookOf_3 22 rfl rfl
theorem dksX1_cookOf_5 : cX1_cookOf.data.toList.drop 122 = dktX1_cookOf_5 := dk_seg dksX1_cookOf_4 21 rfl rfl
theorem dX1_cookOf_0 : decode cX1_cookOf 0 = .ok (.aload_n 0, 1) := dk_42 (dk_at dksX1_cookOf_0 0 rfl rfl)
theorem dX1_cookOf_1 : decode cX1_cookOf 1 = .ok (.iload_n 1, 1) := dk_27 (dk_at dksX1_cookOf_0 1 rfl rfl)
theorem dX1_cookOf_2 : decode cX1_cookOf 2 = .ok (.invokevirtual 133, 3) := dk_182 0 133 (dk_at dksX1_cookOf_0 2 rfl rfl)
theorem dX1_cookOf_5 : decode cX1_cookOf 5 = .ok (.aload_n 0, 1) := dk_42 (dk_at dksX1_cookOf_0 5 rfl rfl)
theorem dX1_cookOf_6 : decode cX1_cookOf 6 = .ok (.getfield 19, 3) := dk_180 0 19 (dk_at dksX1_cookOf_0 6 rfl rfl)
theorem dX1_cookOf_9 : decode cX1_cookOf 9 = .ok (.iload_n 1, 1) := dk_27 (dk_at dksX1_cookOf_0 9 rfl rfl)
theorem dX1_cookOf_10 : decode cX1_cookOf 10 = .ok (.invokevirtual 144, 3) := dk_182 0 144 (dk_at dksX1_cookOf_0 10 rfl rfl)
theorem dX1_cookOf_13 : decode cX1_cookOf 13 = .ok (.astore_n 3, 1) := dk_78 (dk_at dksX1_cookOf_0 13 rfl rfl)
theorem dX1_cookOf_14 : decode cX1_cookOf 14 = .ok (.iload_n 2, 1) := dk_28 (dk_at dksX1_cookOf_0 14 rfl rfl)
theorem dX1_cookOf_15 : decode cX1_cookOf 15 = .ok (.tableswitch 113 0 6 #[41, 46, 59, 72, 85, 98, 103], 41) := by decide +kernel
theorem dX1_cookOf_56 : decode cX1_cookOf 56 = .ok (.aload_n 3, 1) := dk_45 (dk_at dksX1_cookOf_2 0 rfl rfl)
theorem dX1_cookOf_57 : decode cX1_cookOf 57 = .ok (.invokevirtual 148, 3) := dk_182 0 148 (dk_at dksX1_cookOf_2 1 rfl rfl)
theorem dX1_cookOf_60 : decode cX1_cookOf 60 = .ok (.ireturn, 1) := dk_172 (dk_at dksX1_cookOf_2 4 rfl rfl)
theorem dX1_cookOf_61 : decode cX1_cookOf 61 = .ok (.aload_n 3, 1) := dk_45 (dk_at dksX1_cookOf_2 5 rfl rfl)
theorem dX1_cookOf_62 : decode cX1_cookOf 62 = .ok (.invokevirtual 153, 3) := dk_182 0 153 (dk_at dksX1_cookOf_2 6 rfl rfl)
theorem dX1_cookOf_65 : decode cX1_cookOf 65 = .ok (.ifCond .eq 7, 3) := dk_153 0 7 (dk_at dksX1_cookOf_2 9 rfl rfl)
theorem dX1_cookOf_68 : decode cX1_cookOf 68 = .ok (.iconst 1, 1) := dk_4 (dk_at dksX1_cookOf_2 12 rfl rfl)
theorem dX1_cookOf_69 : decode cX1_cookOf 69 = .ok (.goto 4, 3) := dk_167 0 4 (dk_at dksX1_cookOf_2 13 rfl rfl)
theorem dX1_cookOf_72 : decode cX1_cookOf 72 = .ok (.iconst 0, 1) := dk_3 (dk_at dksX1_cookOf_2 16 rfl rfl)
theorem dX1_cookOf_73 : decode cX1_cookOf 73 = .ok (.ireturn, 1) := dk_172 (dk_at dksX1_cookOf_2 17 rfl rfl)
theorem dX1_cookOf_74 : decode cX1_cookOf 74 = .ok (.aload_n 0, 1) := dk_42 (dk_at dksX1_cookOf_2 18 rfl rfl)
theorem dX1_cookOf_75 : decode cX1_cookOf 75 = .ok (.getfield 19, 3) := dk_180 0 19 (dk_at dksX1_cookOf_2 19 rfl rfl)
theorem dX1_cookOf_78 : decode cX1_cookOf 78 = .ok (.iload_n 1, 1) := dk_27 (dk_at dksX1_cookOf_2 22 rfl rfl)
theorem dX1_cookOf_79 : decode cX1_cookOf 79 = .ok (.getstatic 157, 3) := dk_178 0 157 (dk_at dksX1_cookOf_3 0 rfl rfl)
theorem dX1_cookOf_82 : decode cX1_cookOf 82 = .ok (.iconst 0, 1) := dk_3 (dk_at dksX1_cookOf_3 3 rfl rfl)
theorem dX1_cookOf_83 : decode cX1_cookOf 83 = .ok (.invokevirtual 163, 3) := dk_182 0 163 (dk_at dksX1_cookOf_3 4 rfl rfl)
theorem dX1_cookOf_86 : decode cX1_cookOf 86 = .ok (.ireturn, 1) := dk_172 (dk_at dksX1_cookOf_3 7 rfl rfl)
theorem dX1_cookOf_87 : decode cX1_cookOf 87 = .ok (.aload_n 0, 1) := dk_42 (dk_at dksX1_cookOf_3 8 rfl rfl)
theorem dX1_cookOf_88 : decode cX1_cookOf 88 = .ok (.getfield 19, 3) := dk_180 0 19 (dk_at dksX1_cookOf_3 9 rfl rfl)
theorem dX1_cookOf_91 : decode cX1_cookOf 91 = .ok (.iload_n 1, 1) := dk_27 (dk_at dksX1_cookOf_3 12 rfl rfl)
theorem dX1_cookOf_92 : decode cX1_cookOf 92 = .ok (.getstatic 167, 3) := dk_178 0 167 (dk_at dksX1_cookOf_3 13 rfl rfl)
theorem dX1_cookOf_95 : decode cX1_cookOf 95 = .ok (.iconst 0, 1) := dk_3 (dk_at dksX1_cookOf_3 16 rfl rfl)
theorem dX1_cookOf_96 : decode cX1_cookOf 96 = .ok (.invokevirtual 163, 3) := dk_182 0 163 (dk_at dksX1_cookOf_3 17 rfl rfl)
theorem dX1_cookOf_99 : decode cX1_cookOf 99 = .ok (.ireturn, 1) := dk_172 (dk_at dksX1_cookOf_3 20 rfl rfl)
theorem dX1_cookOf_100 : decode cX1_cookOf 100 = .ok (.aload_n 0, 1) := dk_42 (dk_at dksX1_cookOf_3 21 rfl rfl)
theorem dX1_cookOf_101 : decode cX1_cookOf 101 = .ok (.getfield 19, 3) := dk_180 0 19 (dk_at dksX1_cookOf_4 0 rfl rfl)
theorem dX1_cookOf_104 : decode cX1_cookOf 104 = .ok (.iload_n 1, 1) := dk_27 (dk_at dksX1_cookOf_4 3 rfl rfl)
theorem dX1_cookOf_105 : decode cX1_cookOf 105 = .ok (.getstatic 170, 3) := dk_178 0 170 (dk_at dksX1_cookOf_4 4 rfl rfl)
theorem dX1_cookOf_108 : decode cX1_cookOf 108 = .ok (.iconst 1, 1) := dk_4 (dk_at dksX1_cookOf_4 7 rfl rfl)
theorem dX1_cookOf_109 : decode cX1_cookOf 109 = .ok (.invokevirtual 163, 3) := dk_182 0 163 (dk_at dksX1_cookOf_4 8 rfl rfl)
theorem dX1_cookOf_112 : decode cX1_cookOf 112 = .ok (.ireturn, 1) := dk_172 (dk_at dksX1_cookOf_4 11 rfl rfl)
theorem dX1_cookOf_113 : decode cX1_cookOf 113 = .ok (.aload_n 3, 1) := dk_45 (dk_at dksX1_cookOf_4 12 rfl rfl)
theorem dX1_cookOf_114 : decode cX1_cookOf 114 = .ok (.invokevirtual 173, 3) := dk_182 0 173 (dk_at dksX1_cookOf_4 13 rfl rfl)
theorem dX1_cookOf_117 : decode cX1_cookOf 117 = .ok (.ireturn, 1) := dk_172 (dk_at dksX1_cookOf_4 16 rfl rfl)
theorem dX1_cookOf_118 : decode cX1_cookOf 118 = .ok (.aload_n 3, 1) := dk_45 (dk_at dksX1_cookOf_4 17 rfl rfl)
theorem dX1_cookOf_119 : decode cX1_cookOf 119 = .ok (.invokevirtual 176, 3) := dk_182 0 176 (dk_at dksX1_cookOf_4 18 rfl rfl)
theorem dX1_cookOf_122 : decode cX1_cookOf 122 = .ok (.invokeinterface 69 1, 5) := by decide +kernel
theorem dX1_cookOf_127 : decode cX1_cookOf 127 = .ok (.ireturn, 1) := dk_172 (dk_at dksX1_cookOf_5 5 rfl rfl)
theorem dX1_cookOf_128 : decode cX1_cookOf 128 = .ok (.new 49, 3) := dk_187 0 49 (dk_at dksX1_cookOf_5 6 rfl rfl)
theorem dX1_cookOf_131 : decode cX1_cookOf 131 = .ok (.dup, 1) := dk_89 (dk_at dksX1_cookOf_5 9 rfl rfl)
theorem dX1_cookOf_132 : decode cX1_cookOf 132 = .ok (.invokespecial 51, 3) := dk_183 0 51 (dk_at dksX1_cookOf_5 10 rfl rfl)
theorem dX1_cookOf_135 : decode cX1_cookOf 135 = .ok (.athrow, 1) := dk_191 (dk_at dksX1_cookOf_5 13 rfl rfl)
abbrev cX1_course : ByteArray := prog_1_method_19_code
def dkwX1_course_1 : List UInt8 := [191]
abbrev dktX1_course_1 : List UInt8 := dkwX1_course_1 ++ []
def dkwX1_course_0 : List UInt8 := [42, 180, 0, 19, 182, 0, 108, 76, 42, 43, 43, 182, 0, 179, 182, 0, 121, 172, 77, 42, 44, 182, 0, 125]
abbrev dktX1_course_0 : List UInt8 := dkwX1_course_0 ++ dktX1_course_1
theorem dksX1_course_0 : cX1_course.data.toList.drop 0 = dktX1_course_0 := by decide +kernel
theorem dksX1_course_1 : cX1_course.data.toList.drop 24 = dktX1_course_1 := dk_seg dksX1_course_0 24 rfl rfl
theorem dX1_course_0 : decode cX1_course 0 = .ok (.aload_n 0, 1) := dk_42 (dk_at dksX1_course_0 0 rfl rfl)
theorem dX1_course_1 : decode cX1_course 1 = .ok (.getfield 19, 3) := dk_180 0 19 (dk_at dksX1_course_0 1 rfl rfl)
theorem dX1_course_4 : decode cX1_course 4 = .ok (.invokevirtual 108, 3) := dk_182 0 108 (dk_at dksX1_course_0 4 rfl rfl)
theorem dX1_course_7 : decode cX1_course 7 = .ok (.astore_n 1, 1) := dk_76 (dk_at dksX1_course_0 7 rfl rfl)
theorem dX1_course_8 : decode cX1_course 8 = .ok (.aload_n 0, 1) := dk_42 (dk_at dksX1_course_0 8 rfl rfl)
theorem dX1_course_9 : decode cX1_course 9 = .ok (.aload_n 1, 1) := dk_43 (dk_at dksX1_course_0 9 rfl rfl)
theorem dX1_course_10 : decode cX1_course 10 = .ok (.aload_n 1, 1) := dk_43 (dk_at dksX1_course_0 10 rfl rfl)
theorem dX1_course_11 : decode cX1_course 11 = .ok (.invokevirtual 179, 3) := dk_182 0 179 (dk_at dksX1_course_0 11 rfl rfl)
theorem dX1_course_14 : decode cX1_course 14 = .ok (.invokevirtual 121, 3) := dk_182 0 121 (dk_at dksX1_course_0 14 rfl rfl)
theorem dX1_course_17 : decode cX1_course 17 = .ok (.ireturn, 1) := dk_172 (dk_at dksX1_course_0 17 rfl rfl)
theorem dX1_course_18 : decode cX1_course 18 = .ok (.astore_n 2, 1) := dk_77 (dk_at dksX1_course_0 18 rfl rfl)
theorem dX1_course_19 : decode cX1_course 19 = .ok (.aload_n 0, 1) := dk_42 (dk_at dksX1_course_0 19 rfl rfl)
theorem dX1_course_20 : decode cX1_course 20 = .ok (.aload_n 2, 1) := dk_44 (dk_at dksX1_course_0 20 rfl rfl)
theorem dX1_course_21 : decode cX1_course 21 = .ok (.invokevirtual 125, 3) := dk_182 0 125 (dk_at dksX1_course_0 21 rfl rfl)
theorem dX1_course_24 : decode cX1_course 24 = .ok (.athrow, 1) := dk_191 (dk_at dksX1_course_1 0 rfl rfl)
abbrev cX1_dish : ByteArray := prog_1_method_20_code
def dkwX1_dish_2 : List UInt8 := [182, 0, 185, 182, 0, 121, 172, 58, 6, 42, 25, 6, 182, 0, 125, 191]
abbrev dktX1_dish_2 : List UInt8 := dkwX1_dish_2 ++ []
def dkwX1_dish_1 : List UInt8 := [184, 0, 82, 42, 180, 0, 19, 182, 0, 108, 58, 5, 42, 25, 5, 25, 5, 27, 28, 29, 21, 4]
abbrev dktX1_dish_1 : List UInt8 := dkwX1_dish_1 ++ dktX1_dish_2
def dkwX1_dish_0 : List UInt8 := [42, 27, 182, 0, 182, 42, 28, 182, 0, 133, 29, 184, 0, 137, 21, 4, 4, 16, 20, 184, 0, 58]
abbrev dktX1_dish_0 : List UInt8 := dkwX1_dish_0 ++ dktX1_dish_1
theorem dksX1_dish_0 : cX1_dish.data.toList.drop 0 = dktX1_dish_0 := by decide +kernel
theorem dksX1_dish_1 : cX1_dish.data.toList.drop 22 = dktX1_dish_1 := dk_seg dksX1_dish_0 22 rfl rfl
theorem dksX1_dish_2 : cX1_dish.data.toList.drop 44 = dktX1_dish_2 := dk_seg dksX1_dish_1 22 rfl rfl
theorem dX1_dish_0 : decode cX1_dish 0 = .ok (.aload_n 0, 1) := dk_42 (dk_at dksX1_dish_0 0 rfl rfl)
theorem dX1_dish_1 : decode cX1_dish 1 = .ok (.iload_n 1, 1) := dk_27 (dk_at dksX1_dish_0 1 rfl rfl)
theorem dX1_dish_2 : decode cX1_dish 2 = .ok (.invokevirtual 182, 3) := dk_182 0 182 (dk_at dksX1_dish_0 2 rfl rfl)
theorem dX1_dish_5 : decode cX1_dish 5 = .ok (.aload_n 0, 1) := dk_42 (dk_at dksX1_dish_0 5 rfl rfl)
theorem dX1_dish_6 : decode cX1_dish 6 = .ok (.iload_n 2, 1) := dk_28 (dk_at dksX1_dish_0 6 rfl rfl)
theorem dX1_dish_7 : decode cX1_dish 7 = .ok (.invokevirtual 133, 3) := dk_182 0 133 (dk_at dksX1_dish_0 7 rfl rfl)
theorem dX1_dish_10 : decode cX1_dish 10 = .ok (.iload_n 3, 1) := dk_29 (dk_at dksX1_dish_0 10 rfl rfl)
theorem dX1_dish_11 : decode cX1_dish 11 = .ok (.invokestatic 137, 3) := dk_184 0 137 (dk_at dksX1_dish_0 11 rfl rfl)
theorem dX1_dish_14 : decode cX1_dish 14 = .ok (.iload 4, 2) := dk_21 4 (dk_at dksX1_dish_0 14 rfl rfl)
theorem dX1_dish_16 : decode cX1_dish 16 = .ok (.iconst 1, 1) := dk_4 (dk_at dksX1_dish_0 16 rfl rfl)
theorem dX1_dish_17 : decode cX1_dish 17 = .ok (.bipush 20, 2) := dk_16 20 (dk_at dksX1_dish_0 17 rfl rfl)
theorem dX1_dish_19 : decode cX1_dish 19 = .ok (.invokestatic 58, 3) := dk_184 0 58 (dk_at dksX1_dish_0 19 rfl rfl)
theorem dX1_dish_22 : decode cX1_dish 22 = .ok (.invokestatic 82, 3) := dk_184 0 82 (dk_at dksX1_dish_1 0 rfl rfl)
theorem dX1_dish_25 : decode cX1_dish 25 = .ok (.aload_n 0, 1) := dk_42 (dk_at dksX1_dish_1 3 rfl rfl)
theorem dX1_dish_26 : decode cX1_dish 26 = .ok (.getfield 19, 3) := dk_180 0 19 (dk_at dksX1_dish_1 4 rfl rfl)
theorem dX1_dish_29 : decode cX1_dish 29 = .ok (.invokevirtual 108, 3) := dk_182 0 108 (dk_at dksX1_dish_1 7 rfl rfl)
theorem dX1_dish_32 : decode cX1_dish 32 = .ok (.astore 5, 2) := dk_58 5 (dk_at dksX1_dish_1 10 rfl rfl)
theorem dX1_dish_34 : decode cX1_dish 34 = .ok (.aload_n 0, 1) := dk_42 (dk_at dksX1_dish_1 12 rfl rfl)
theorem dX1_dish_35 : decode cX1_dish 35 = .ok (.aload 5, 2) := dk_25 5 (dk_at dksX1_dish_1 13 rfl rfl)
theorem dX1_dish_37 : decode cX1_dish 37 = .ok (.aload 5, 2) := dk_25 5 (dk_at dksX1_dish_1 15 rfl rfl)
theorem dX1_dish_39 : decode cX1_dish 39 = .ok (.iload_n 1, 1) := dk_27 (dk_at dksX1_dish_1 17 rfl rfl)
theorem dX1_dish_40 : decode cX1_dish 40 = .ok (.iload_n 2, 1) := dk_28 (dk_at dksX1_dish_1 18 rfl rfl)
theorem dX1_dish_41 : decode cX1_dish 41 = .ok (.iload_n 3, 1) := dk_29 (dk_at dksX1_dish_1 19 rfl rfl)
theorem dX1_dish_42 : decode cX1_dish 42 = .ok (.iload 4, 2) := dk_21 4 (dk_at dksX1_dish_1 20 rfl rfl)
theorem dX1_dish_44 : decode cX1_dish 44 = .ok (.invokevirtual 185, 3) := dk_182 0 185 (dk_at dksX1_dish_2 0 rfl rfl)
theorem dX1_dish_47 : decode cX1_dish 47 = .ok (.invokevirtual 121, 3) := dk_182 0 121 (dk_at dksX1_dish_2 3 rfl rfl)
theorem dX1_dish_50 : decode cX1_dish 50 = .ok (.ireturn, 1) := dk_172 (dk_at dksX1_dish_2 6 rfl rfl)
theorem dX1_dish_51 : decode cX1_dish 51 = .ok (.astore 6, 2) := dk_58 6 (dk_at dksX1_dish_2 7 rfl rfl)
theorem dX1_dish_53 : decode cX1_dish 53 = .ok (.aload_n 0, 1) := dk_42 (dk_at dksX1_dish_2 9 rfl rfl)
theorem dX1_dish_54 : decode cX1_dish 54 = .ok (.aload 6, 2) := dk_25 6 (dk_at dksX1_dish_2 10 rfl rfl)
theorem dX1_dish_56 : decode cX1_dish 56 = .ok (.invokevirtual 125, 3) := dk_182 0 125 (dk_at dksX1_dish_2 12 rfl rfl)
theorem dX1_dish_59 : decode cX1_dish 59 = .ok (.athrow, 1) := dk_191 (dk_at dksX1_dish_2 15 rfl rfl)
abbrev cX1_requireCourse : ByteArray := prog_1_method_11_code
def dkwX1_requireCourse_0 : List UInt8 := [27, 3, 42, 180, 0, 19, 182, 0, 79, 185, 0, 69, 1, 0, 184, 0, 75, 177]
abbrev dktX1_requireCourse_0 : List UInt8 := dkwX1_requireCourse_0 ++ []
theorem dksX1_requireCourse_0 : cX1_requireCourse.data.toList.drop 0 = dktX1_requireCourse_0 := by decide +kernel
theorem dX1_requireCourse_0 : decode cX1_requireCourse 0 = .ok (.iload_n 1, 1) := dk_27 (dk_at dksX1_requireCourse_0 0 rfl rfl)
theorem dX1_requireCourse_1 : decode cX1_requireCourse 1 = .ok (.iconst 0, 1) := dk_3 (dk_at dksX1_requireCourse_0 1 rfl rfl)
theorem dX1_requireCourse_2 : decode cX1_requireCourse 2 = .ok (.aload_n 0, 1) := dk_42 (dk_at dksX1_requireCourse_0 2 rfl rfl)
theorem dX1_requireCourse_3 : decode cX1_requireCourse 3 = .ok (.getfield 19, 3) := dk_180 0 19 (dk_at dksX1_requireCourse_0 3 rfl rfl)
theorem dX1_requireCourse_6 : decode cX1_requireCourse 6 = .ok (.invokevirtual 79, 3) := dk_182 0 79 (dk_at dksX1_requireCourse_0 6 rfl rfl)
theorem dX1_requireCourse_9 : decode cX1_requireCourse 9 = .ok (.invokeinterface 69 1, 5) := by decide +kernel
theorem dX1_requireCourse_14 : decode cX1_requireCourse 14 = .ok (.invokestatic 75, 3) := dk_184 0 75 (dk_at dksX1_requireCourse_0 14 rfl rfl)
theorem dX1_requireCourse_17 : decode cX1_requireCourse 17 = .ok (.return_, 1) := dk_177 (dk_at dksX1_requireCourse_0 17 rfl rfl)
abbrev cX1_courseOf : ByteArray := prog_1_method_21_code
def dkwX1_courseOf_4 : List UInt8 := [182, 0, 218, 172, 187, 0, 49, 89, 183, 0, 51, 191]
abbrev dktX1_courseOf_4 : List UInt8 := dkwX1_courseOf_4 ++ []
def dkwX1_courseOf_3 : List UInt8 := [178, 0, 167, 182, 0, 205, 172, 45, 182, 0, 209, 172, 45, 182, 0, 212, 172, 45, 182, 0, 215, 172, 45]
abbrev dktX1_courseOf_3 : List UInt8 := dkwX1_courseOf_3 ++ dktX1_courseOf_4
def dkwX1_courseOf_2 : List UInt8 := [45, 182, 0, 193, 172, 45, 182, 0, 198, 182, 0, 202, 172, 45, 178, 0, 157, 182, 0, 205, 172, 45]
abbrev dktX1_courseOf_2 : List UInt8 := dkwX1_courseOf_2 ++ dktX1_courseOf_3
def dkwX1_courseOf_1 : List UInt8 := [170, 0, 0, 0, 94, 0, 0, 0, 0, 0, 0, 0, 7, 0, 0, 0, 45, 0, 0, 0, 50, 0, 0, 0, 58, 0, 0, 0, 66, 0, 0, 0, 74, 0, 0, 0, 79, 0, 0, 0, 84, 0, 0, 0, 89]
abbrev dktX1_courseOf_1 : List UInt8 := dkwX1_courseOf_1 ++ dktX1_courseOf_2
def dkwX1_courseOf_0 : List UInt8 := [42, 27, 182, 0, 182, 42, 180, 0, 19, 27, 182, 0, 189, 78, 28]
abbrev dktX1_courseOf_0 : List UInt8 := dkwX1_courseOf_0 ++ dktX1_courseOf_1
theorem dksX1_courseOf_0 : cX1_courseOf.data.toList.drop 0 = dktX1_courseOf_0 := by decide +kernel
theorem dksX1_courseOf_1 : cX1_courseOf.data.toList.drop 15 = dktX1_courseOf_1 := dk_seg dksX1_courseOf_0 15 rfl rfl
theorem dksX1_courseOf_2 : cX1_courseOf.data.toList.drop 60 = dktX1_courseOf_2 := dk_seg dksX1_courseOf_1 45 rfl rfl
theorem dksX1_courseOf_3 : cX1_courseOf.data.toList.drop 82 = dktX1_courseOf_3 := dk_seg dksX1_courseOf_2 22 rfl rfl
theorem dksX1_courseOf_4 : cX1_courseOf.data.toList.drop 105 = dktX1_courseOf_4 := dk_seg dksX1_courseOf_3 23 rfl rfl
theorem dX1_courseOf_0 : decode cX1_courseOf 0 = .ok (.aload_n 0, 1) := dk_42 (dk_at dksX1_courseOf_0 0 rfl rfl)
theorem dX1_courseOf_1 : decode cX1_courseOf 1 = .ok (.iload_n 1, 1) := dk_27 (dk_at dksX1_courseOf_0 1 rfl rfl)
theorem dX1_courseOf_2 : decode cX1_courseOf 2 = .ok (.invokevirtual 182, 3) := dk_182 0 182 (dk_at dksX1_courseOf_0 2 rfl rfl)
theorem dX1_courseOf_5 : decode cX1_courseOf 5 = .ok (.aload_n 0, 1) := dk_42 (dk_at dksX1_courseOf_0 5 rfl rfl)
theorem dX1_courseOf_6 : decode cX1_courseOf 6 = .ok (.getfield 19, 3) := dk_180 0 19 (dk_at dksX1_courseOf_0 6 rfl rfl)
theorem dX1_courseOf_9 : decode cX1_courseOf 9 = .ok (.iload_n 1, 1) := dk_27 (dk_at dksX1_courseOf_0 9 rfl rfl)
theorem dX1_courseOf_10 : decode cX1_courseOf 10 = .ok (.invokevirtual 189, 3) := dk_182 0 189 (dk_at dksX1_courseOf_0 10 rfl rfl)
theorem dX1_courseOf_13 : decode cX1_courseOf 13 = .ok (.astore_n 3, 1) := dk_78 (dk_at dksX1_courseOf_0 13 rfl rfl)
theorem dX1_courseOf_14 : decode cX1_courseOf 14 = .ok (.iload_n 2, 1) := dk_28 (dk_at dksX1_courseOf_0 14 rfl rfl)
theorem dX1_courseOf_15 : decode cX1_courseOf 15 = .ok (.tableswitch 94 0 7 #[45, 50, 58, 66, 74, 79, 84, 89], 45) := by decide +kernel
theorem dX1_courseOf_60 : decode cX1_courseOf 60 = .ok (.aload_n 3, 1) := dk_45 (dk_at dksX1_courseOf_2 0 rfl rfl)
theorem dX1_courseOf_61 : decode cX1_courseOf 61 = .ok (.invokevirtual 193, 3) := dk_182 0 193 (dk_at dksX1_courseOf_2 1 rfl rfl)
theorem dX1_courseOf_64 : decode cX1_courseOf 64 = .ok (.ireturn, 1) := dk_172 (dk_at dksX1_courseOf_2 4 rfl rfl)
theorem dX1_courseOf_65 : decode cX1_courseOf 65 = .ok (.aload_n 3, 1) := dk_45 (dk_at dksX1_courseOf_2 5 rfl rfl)
theorem dX1_courseOf_66 : decode cX1_courseOf 66 = .ok (.invokevirtual 198, 3) := dk_182 0 198 (dk_at dksX1_courseOf_2 6 rfl rfl)
theorem dX1_courseOf_69 : decode cX1_courseOf 69 = .ok (.invokevirtual 202, 3) := dk_182 0 202 (dk_at dksX1_courseOf_2 9 rfl rfl)
theorem dX1_courseOf_72 : decode cX1_courseOf 72 = .ok (.ireturn, 1) := dk_172 (dk_at dksX1_courseOf_2 12 rfl rfl)
theorem dX1_courseOf_73 : decode cX1_courseOf 73 = .ok (.aload_n 3, 1) := dk_45 (dk_at dksX1_courseOf_2 13 rfl rfl)
theorem dX1_courseOf_74 : decode cX1_courseOf 74 = .ok (.getstatic 157, 3) := dk_178 0 157 (dk_at dksX1_courseOf_2 14 rfl rfl)
theorem dX1_courseOf_77 : decode cX1_courseOf 77 = .ok (.invokevirtual 205, 3) := dk_182 0 205 (dk_at dksX1_courseOf_2 17 rfl rfl)
theorem dX1_courseOf_80 : decode cX1_courseOf 80 = .ok (.ireturn, 1) := dk_172 (dk_at dksX1_courseOf_2 20 rfl rfl)
theorem dX1_courseOf_81 : decode cX1_courseOf 81 = .ok (.aload_n 3, 1) := dk_45 (dk_at dksX1_courseOf_2 21 rfl rfl)
theorem dX1_courseOf_82 : decode cX1_courseOf 82 = .ok (.getstatic 167, 3) := dk_178 0 167 (dk_at dksX1_courseOf_3 0 rfl rfl)
theorem dX1_courseOf_85 : decode cX1_courseOf 85 = .ok (.invokevirtual 205, 3) := dk_182 0 205 (dk_at dksX1_courseOf_3 3 rfl rfl)
theorem dX1_courseOf_88 : decode cX1_courseOf 88 = .ok (.ireturn, 1) := dk_172 (dk_at dksX1_courseOf_3 6 rfl rfl)
theorem dX1_courseOf_89 : decode cX1_courseOf 89 = .ok (.aload_n 3, 1) := dk_45 (dk_at dksX1_courseOf_3 7 rfl rfl)
theorem dX1_courseOf_90 : decode cX1_courseOf 90 = .ok (.invokevirtual 209, 3) := dk_182 0 209 (dk_at dksX1_courseOf_3 8 rfl rfl)
theorem dX1_courseOf_93 : decode cX1_courseOf 93 = .ok (.ireturn, 1) := dk_172 (dk_at dksX1_courseOf_3 11 rfl rfl)
theorem dX1_courseOf_94 : decode cX1_courseOf 94 = .ok (.aload_n 3, 1) := dk_45 (dk_at dksX1_courseOf_3 12 rfl rfl)
theorem dX1_courseOf_95 : decode cX1_courseOf 95 = .ok (.invokevirtual 212, 3) := dk_182 0 212 (dk_at dksX1_courseOf_3 13 rfl rfl)
theorem dX1_courseOf_98 : decode cX1_courseOf 98 = .ok (.ireturn, 1) := dk_172 (dk_at dksX1_courseOf_3 16 rfl rfl)
theorem dX1_courseOf_99 : decode cX1_courseOf 99 = .ok (.aload_n 3, 1) := dk_45 (dk_at dksX1_courseOf_3 17 rfl rfl)
theorem dX1_courseOf_100 : decode cX1_courseOf 100 = .ok (.invokevirtual 215, 3) := dk_182 0 215 (dk_at dksX1_courseOf_3 18 rfl rfl)
theorem dX1_courseOf_103 : decode cX1_courseOf 103 = .ok (.ireturn, 1) := dk_172 (dk_at dksX1_courseOf_3 21 rfl rfl)
theorem dX1_courseOf_104 : decode cX1_courseOf 104 = .ok (.aload_n 3, 1) := dk_45 (dk_at dksX1_courseOf_3 22 rfl rfl)
theorem dX1_courseOf_105 : decode cX1_courseOf 105 = .ok (.invokevirtual 218, 3) := dk_182 0 218 (dk_at dksX1_courseOf_4 0 rfl rfl)
theorem dX1_courseOf_108 : decode cX1_courseOf 108 = .ok (.ireturn, 1) := dk_172 (dk_at dksX1_courseOf_4 3 rfl rfl)
theorem dX1_courseOf_109 : decode cX1_courseOf 109 = .ok (.new 49, 3) := dk_187 0 49 (dk_at dksX1_courseOf_4 4 rfl rfl)
theorem dX1_courseOf_112 : decode cX1_courseOf 112 = .ok (.dup, 1) := dk_89 (dk_at dksX1_courseOf_4 7 rfl rfl)
theorem dX1_courseOf_113 : decode cX1_courseOf 113 = .ok (.invokespecial 51, 3) := dk_183 0 51 (dk_at dksX1_courseOf_4 8 rfl rfl)
theorem dX1_courseOf_116 : decode cX1_courseOf 116 = .ok (.athrow, 1) := dk_191 (dk_at dksX1_courseOf_4 11 rfl rfl)
abbrev cX1_dishOf : ByteArray := prog_1_method_22_code
def dkwX1_dishOf_3 : List UInt8 := [29, 5, 160, 0, 11, 25, 4, 182, 0, 236, 167, 0, 8, 25, 4, 182, 0, 239, 172]
abbrev dktX1_dishOf_3 : List UInt8 := dkwX1_dishOf_3 ++ []
def dkwX1_dishOf_2 : List UInt8 := [154, 0, 11, 25, 4, 182, 0, 228, 167, 0, 34, 29, 4, 160, 0, 11, 25, 4, 182, 0, 233, 167, 0, 21]
abbrev dktX1_dishOf_2 : List UInt8 := dkwX1_dishOf_2 ++ dktX1_dishOf_3
def dkwX1_dishOf_1 : List UInt8 := [182, 0, 189, 28, 182, 0, 221, 58, 4, 25, 4, 198, 0, 7, 4, 167, 0, 4, 3, 184, 0, 225, 29]
abbrev dktX1_dishOf_1 : List UInt8 := dkwX1_dishOf_1 ++ dktX1_dishOf_2
def dkwX1_dishOf_0 : List UInt8 := [42, 27, 182, 0, 182, 42, 28, 182, 0, 133, 29, 3, 6, 184, 0, 58, 184, 0, 82, 42, 180, 0, 19, 27]
abbrev dktX1_dishOf_0 : List UInt8 := dkwX1_dishOf_0 ++ dktX1_dishOf_1
theorem dksX1_dishOf_0 : cX1_dishOf.data.toList.drop 0 = dktX1_dishOf_0 := by decide +kernel
theorem dksX1_dishOf_1 : cX1_dishOf.data.toList.drop 24 = dktX1_dishOf_1 := dk_seg dksX1_dishOf_0 24 rfl rfl
theorem dksX1_dishOf_2 : cX1_dishOf.data.toList.drop 47 = dktX1_dishOf_2 := dk_seg dksX1_dishOf_1 23 rfl rfl
theorem dksX1_dishOf_3 : cX1_dishOf.data.toList.drop 71 = dktX1_dishOf_3 := dk_seg dksX1_dishOf_2 24 rfl rfl
theorem dX1_dishOf_0 : decode cX1_dishOf 0 = .ok (.aload_n 0, 1) := dk_42 (dk_at dksX1_dishOf_0 0 rfl rfl)
theorem dX1_dishOf_1 : decode cX1_dishOf 1 = .ok (.iload_n 1, 1) := dk_27 (dk_at dksX1_dishOf_0 1 rfl rfl)
theorem dX1_dishOf_2 : decode cX1_dishOf 2 = .ok (.invokevirtual 182, 3) := dk_182 0 182 (dk_at dksX1_dishOf_0 2 rfl rfl)
theorem dX1_dishOf_5 : decode cX1_dishOf 5 = .ok (.aload_n 0, 1) := dk_42 (dk_at dksX1_dishOf_0 5 rfl rfl)
theorem dX1_dishOf_6 : decode cX1_dishOf 6 = .ok (.iload_n 2, 1) := dk_28 (dk_at dksX1_dishOf_0 6 rfl rfl)
theorem dX1_dishOf_7 : decode cX1_dishOf 7 = .ok (.invokevirtual 133, 3) := dk_182 0 133 (dk_at dksX1_dishOf_0 7 rfl rfl)
theorem dX1_dishOf_10 : decode cX1_dishOf 10 = .ok (.iload_n 3, 1) := dk_29 (dk_at dksX1_dishOf_0 10 rfl rfl)
theorem dX1_dishOf_11 : decode cX1_dishOf 11 = .ok (.iconst 0, 1) := dk_3 (dk_at dksX1_dishOf_0 11 rfl rfl)
theorem dX1_dishOf_12 : decode cX1_dishOf 12 = .ok (.iconst 3, 1) := dk_6 (dk_at dksX1_dishOf_0 12 rfl rfl)
theorem dX1_dishOf_13 : decode cX1_dishOf 13 = .ok (.invokestatic 58, 3) := dk_184 0 58 (dk_at dksX1_dishOf_0 13 rfl rfl)
theorem dX1_dishOf_16 : decode cX1_dishOf 16 = .ok (.invokestatic 82, 3) := dk_184 0 82 (dk_at dksX1_dishOf_0 16 rfl rfl)
theorem dX1_dishOf_19 : decode cX1_dishOf 19 = .ok (.aload_n 0, 1) := dk_42 (dk_at dksX1_dishOf_0 19 rfl rfl)
theorem dX1_dishOf_20 : decode cX1_dishOf 20 = .ok (.getfield 19, 3) := dk_180 0 19 (dk_at dksX1_dishOf_0 20 rfl rfl)
theorem dX1_dishOf_23 : decode cX1_dishOf 23 = .ok (.iload_n 1, 1) := dk_27 (dk_at dksX1_dishOf_0 23 rfl rfl)
theorem dX1_dishOf_24 : decode cX1_dishOf 24 = .ok (.invokevirtual 189, 3) := dk_182 0 189 (dk_at dksX1_dishOf_1 0 rfl rfl)
theorem dX1_dishOf_27 : decode cX1_dishOf 27 = .ok (.iload_n 2, 1) := dk_28 (dk_at dksX1_dishOf_1 3 rfl rfl)
theorem dX1_dishOf_28 : decode cX1_dishOf 28 = .ok (.invokevirtual 221, 3) := dk_182 0 221 (dk_at dksX1_dishOf_1 4 rfl rfl)
theorem dX1_dishOf_31 : decode cX1_dishOf 31 = .ok (.astore 4, 2) := dk_58 4 (dk_at dksX1_dishOf_1 7 rfl rfl)
theorem dX1_dishOf_33 : decode cX1_dishOf 33 = .ok (.aload 4, 2) := dk_25 4 (dk_at dksX1_dishOf_1 9 rfl rfl)
theorem dX1_dishOf_35 : decode cX1_dishOf 35 = .ok (.ifnull 7, 3) := dk_198 0 7 (dk_at dksX1_dishOf_1 11 rfl rfl)
theorem dX1_dishOf_38 : decode cX1_dishOf 38 = .ok (.iconst 1, 1) := dk_4 (dk_at dksX1_dishOf_1 14 rfl rfl)
theorem dX1_dishOf_39 : decode cX1_dishOf 39 = .ok (.goto 4, 3) := dk_167 0 4 (dk_at dksX1_dishOf_1 15 rfl rfl)
theorem dX1_dishOf_42 : decode cX1_dishOf 42 = .ok (.iconst 0, 1) := dk_3 (dk_at dksX1_dishOf_1 18 rfl rfl)
theorem dX1_dishOf_43 : decode cX1_dishOf 43 = .ok (.invokestatic 225, 3) := dk_184 0 225 (dk_at dksX1_dishOf_1 19 rfl rfl)
theorem dX1_dishOf_46 : decode cX1_dishOf 46 = .ok (.iload_n 3, 1) := dk_29 (dk_at dksX1_dishOf_1 22 rfl rfl)
theorem dX1_dishOf_47 : decode cX1_dishOf 47 = .ok (.ifCond .ne 11, 3) := dk_154 0 11 (dk_at dksX1_dishOf_2 0 rfl rfl)
theorem dX1_dishOf_50 : decode cX1_dishOf 50 = .ok (.aload 4, 2) := dk_25 4 (dk_at dksX1_dishOf_2 3 rfl rfl)
theorem dX1_dishOf_52 : decode cX1_dishOf 52 = .ok (.invokevirtual 228, 3) := dk_182 0 228 (dk_at dksX1_dishOf_2 5 rfl rfl)
theorem dX1_dishOf_55 : decode cX1_dishOf 55 = .ok (.goto 34, 3) := dk_167 0 34 (dk_at dksX1_dishOf_2 8 rfl rfl)
theorem dX1_dishOf_58 : decode cX1_dishOf 58 = .ok (.iload_n 3, 1) := dk_29 (dk_at dksX1_dishOf_2 11 rfl rfl)
theorem dX1_dishOf_59 : decode cX1_dishOf 59 = .ok (.iconst 1, 1) := dk_4 (dk_at dksX1_dishOf_2 12 rfl rfl)
theorem dX1_dishOf_60 : decode cX1_dishOf 60 = .ok (.if_icmp .ne 11, 3) := dk_160 0 11 (dk_at dksX1_dishOf_2 13 rfl rfl)
theorem dX1_dishOf_63 : decode cX1_dishOf 63 = .ok (.aload 4, 2) := dk_25 4 (dk_at dksX1_dishOf_2 16 rfl rfl)
theorem dX1_dishOf_65 : decode cX1_dishOf 65 = .ok (.invokevirtual 233, 3) := dk_182 0 233 (dk_at dksX1_dishOf_2 18 rfl rfl)
theorem dX1_dishOf_68 : decode cX1_dishOf 68 = .ok (.goto 21, 3) := dk_167 0 21 (dk_at dksX1_dishOf_2 21 rfl rfl)
theorem dX1_dishOf_71 : decode cX1_dishOf 71 = .ok (.iload_n 3, 1) := dk_29 (dk_at dksX1_dishOf_3 0 rfl rfl)
theorem dX1_dishOf_72 : decode cX1_dishOf 72 = .ok (.iconst 2, 1) := dk_5 (dk_at dksX1_dishOf_3 1 rfl rfl)
theorem dX1_dishOf_73 : decode cX1_dishOf 73 = .ok (.if_icmp .ne 11, 3) := dk_160 0 11 (dk_at dksX1_dishOf_3 2 rfl rfl)
theorem dX1_dishOf_76 : decode cX1_dishOf 76 = .ok (.aload 4, 2) := dk_25 4 (dk_at dksX1_dishOf_3 5 rfl rfl)
theorem dX1_dishOf_78 : decode cX1_dishOf 78 = .ok (.invokevirtual 236, 3) := dk_182 0 236 (dk_at dksX1_dishOf_3 7 rfl rfl)
theorem dX1_dishOf_81 : decode cX1_dishOf 81 = .ok (.goto 8, 3) := dk_167 0 8 (dk_at dksX1_dishOf_3 10 rfl rfl)
theorem dX1_dishOf_84 : decode cX1_dishOf 84 = .ok (.aload 4, 2) := dk_25 4 (dk_at dksX1_dishOf_3 13 rfl rfl)
theorem dX1_dishOf_86 : decode cX1_dishOf 86 = .ok (.invokevirtual 239, 3) := dk_182 0 239 (dk_at dksX1_dishOf_3 15 rfl rfl)
theorem dX1_dishOf_89 : decode cX1_dishOf 89 = .ok (.ireturn, 1) := dk_172 (dk_at dksX1_dishOf_3 18 rfl rfl)
abbrev cX1_requireElement : ByteArray := prog_1_method_7_code
def dkwX1_requireElement_0 : List UInt8 := [26, 154, 0, 11, 187, 0, 55, 89, 183, 0, 57, 191, 177]
abbrev dktX1_requireElement_0 : List UInt8 := dkwX1_requireElement_0 ++ []
theorem dksX1_requireElement_0 : cX1_requireElement.data.toList.drop 0 = dktX1_requireElement_0 := by decide +kernel
theorem dX1_requireElement_0 : decode cX1_requireElement 0 = .ok (.iload_n 0, 1) := dk_26 (dk_at dksX1_requireElement_0 0 rfl rfl)
theorem dX1_requireElement_1 : decode cX1_requireElement 1 = .ok (.ifCond .ne 11, 3) := dk_154 0 11 (dk_at dksX1_requireElement_0 1 rfl rfl)
theorem dX1_requireElement_4 : decode cX1_requireElement 4 = .ok (.new 55, 3) := dk_187 0 55 (dk_at dksX1_requireElement_0 4 rfl rfl)
theorem dX1_requireElement_7 : decode cX1_requireElement 7 = .ok (.dup, 1) := dk_89 (dk_at dksX1_requireElement_0 7 rfl rfl)
theorem dX1_requireElement_8 : decode cX1_requireElement 8 = .ok (.invokespecial 57, 3) := dk_183 0 57 (dk_at dksX1_requireElement_0 8 rfl rfl)
theorem dX1_requireElement_11 : decode cX1_requireElement 11 = .ok (.athrow, 1) := dk_191 (dk_at dksX1_requireElement_0 11 rfl rfl)
theorem dX1_requireElement_12 : decode cX1_requireElement 12 = .ok (.return_, 1) := dk_177 (dk_at dksX1_requireElement_0 12 rfl rfl)
abbrev cX1_has : ByteArray := prog_1_method_23_code
def dkwX1_has_1 : List UInt8 := [167, 0, 15, 42, 180, 0, 19, 27, 182, 0, 144, 28, 182, 0, 246, 172]
abbrev dktX1_has_1 : List UInt8 := dkwX1_has_1 ++ []
def dkwX1_has_0 : List UInt8 := [42, 27, 182, 0, 133, 28, 184, 0, 137, 29, 153, 0, 15, 42, 180, 0, 19, 27, 28, 182, 0, 242]
abbrev dktX1_has_0 : List UInt8 := dkwX1_has_0 ++ dktX1_has_1
theorem dksX1_has_0 : cX1_has.data.toList.drop 0 = dktX1_has_0 := by decide +kernel
theorem dksX1_has_1 : cX1_has.data.toList.drop 22 = dktX1_has_1 := dk_seg dksX1_has_0 22 rfl rfl
theorem dX1_has_0 : decode cX1_has 0 = .ok (.aload_n 0, 1) := dk_42 (dk_at dksX1_has_0 0 rfl rfl)
theorem dX1_has_1 : decode cX1_has 1 = .ok (.iload_n 1, 1) := dk_27 (dk_at dksX1_has_0 1 rfl rfl)
theorem dX1_has_2 : decode cX1_has 2 = .ok (.invokevirtual 133, 3) := dk_182 0 133 (dk_at dksX1_has_0 2 rfl rfl)
theorem dX1_has_5 : decode cX1_has 5 = .ok (.iload_n 2, 1) := dk_28 (dk_at dksX1_has_0 5 rfl rfl)
theorem dX1_has_6 : decode cX1_has 6 = .ok (.invokestatic 137, 3) := dk_184 0 137 (dk_at dksX1_has_0 6 rfl rfl)
theorem dX1_has_9 : decode cX1_has 9 = .ok (.iload_n 3, 1) := dk_29 (dk_at dksX1_has_0 9 rfl rfl)
theorem dX1_has_10 : decode cX1_has 10 = .ok (.ifCond .eq 15, 3) := dk_153 0 15 (dk_at dksX1_has_0 10 rfl rfl)
theorem dX1_has_13 : decode cX1_has 13 = .ok (.aload_n 0, 1) := dk_42 (dk_at dksX1_has_0 13 rfl rfl)
theorem dX1_has_14 : decode cX1_has 14 = .ok (.getfield 19, 3) := dk_180 0 19 (dk_at dksX1_has_0 14 rfl rfl)
theorem dX1_has_17 : decode cX1_has 17 = .ok (.iload_n 1, 1) := dk_27 (dk_at dksX1_has_0 17 rfl rfl)
theorem dX1_has_18 : decode cX1_has 18 = .ok (.iload_n 2, 1) := dk_28 (dk_at dksX1_has_0 18 rfl rfl)
theorem dX1_has_19 : decode cX1_has 19 = .ok (.invokevirtual 242, 3) := dk_182 0 242 (dk_at dksX1_has_0 19 rfl rfl)
theorem dX1_has_22 : decode cX1_has 22 = .ok (.goto 15, 3) := dk_167 0 15 (dk_at dksX1_has_1 0 rfl rfl)
theorem dX1_has_25 : decode cX1_has 25 = .ok (.aload_n 0, 1) := dk_42 (dk_at dksX1_has_1 3 rfl rfl)
theorem dX1_has_26 : decode cX1_has 26 = .ok (.getfield 19, 3) := dk_180 0 19 (dk_at dksX1_has_1 4 rfl rfl)
theorem dX1_has_29 : decode cX1_has 29 = .ok (.iload_n 1, 1) := dk_27 (dk_at dksX1_has_1 7 rfl rfl)
theorem dX1_has_30 : decode cX1_has 30 = .ok (.invokevirtual 144, 3) := dk_182 0 144 (dk_at dksX1_has_1 8 rfl rfl)
theorem dX1_has_33 : decode cX1_has 33 = .ok (.iload_n 2, 1) := dk_28 (dk_at dksX1_has_1 11 rfl rfl)
theorem dX1_has_34 : decode cX1_has 34 = .ok (.invokevirtual 246, 3) := dk_182 0 246 (dk_at dksX1_has_1 12 rfl rfl)
theorem dX1_has_37 : decode cX1_has 37 = .ok (.ireturn, 1) := dk_172 (dk_at dksX1_has_1 15 rfl rfl)
abbrev cX1_freeAgain : ByteArray := prog_1_method_24_code
def dkwX1_freeAgain_0 : List UInt8 := [42, 27, 182, 0, 133, 28, 184, 0, 137, 42, 180, 0, 19, 27, 28, 182, 0, 249, 172]
abbrev dktX1_freeAgain_0 : List UInt8 := dkwX1_freeAgain_0 ++ []
theorem dksX1_freeAgain_0 : cX1_freeAgain.data.toList.drop 0 = dktX1_freeAgain_0 := by decide +kernel
theorem dX1_freeAgain_0 : decode cX1_freeAgain 0 = .ok (.aload_n 0, 1) := dk_42 (dk_at dksX1_freeAgain_0 0 rfl rfl)
theorem dX1_freeAgain_1 : decode cX1_freeAgain 1 = .ok (.iload_n 1, 1) := dk_27 (dk_at dksX1_freeAgain_0 1 rfl rfl)
theorem dX1_freeAgain_2 : decode cX1_freeAgain 2 = .ok (.invokevirtual 133, 3) := dk_182 0 133 (dk_at dksX1_freeAgain_0 2 rfl rfl)
theorem dX1_freeAgain_5 : decode cX1_freeAgain 5 = .ok (.iload_n 2, 1) := dk_28 (dk_at dksX1_freeAgain_0 5 rfl rfl)
theorem dX1_freeAgain_6 : decode cX1_freeAgain 6 = .ok (.invokestatic 137, 3) := dk_184 0 137 (dk_at dksX1_freeAgain_0 6 rfl rfl)
theorem dX1_freeAgain_9 : decode cX1_freeAgain 9 = .ok (.aload_n 0, 1) := dk_42 (dk_at dksX1_freeAgain_0 9 rfl rfl)
theorem dX1_freeAgain_10 : decode cX1_freeAgain 10 = .ok (.getfield 19, 3) := dk_180 0 19 (dk_at dksX1_freeAgain_0 10 rfl rfl)
theorem dX1_freeAgain_13 : decode cX1_freeAgain 13 = .ok (.iload_n 1, 1) := dk_27 (dk_at dksX1_freeAgain_0 13 rfl rfl)
theorem dX1_freeAgain_14 : decode cX1_freeAgain 14 = .ok (.iload_n 2, 1) := dk_28 (dk_at dksX1_freeAgain_0 14 rfl rfl)
theorem dX1_freeAgain_15 : decode cX1_freeAgain 15 = .ok (.invokevirtual 249, 3) := dk_182 0 249 (dk_at dksX1_freeAgain_0 15 rfl rfl)
theorem dX1_freeAgain_18 : decode cX1_freeAgain 18 = .ok (.ireturn, 1) := dk_172 (dk_at dksX1_freeAgain_0 18 rfl rfl)
abbrev cX3_init : ByteArray := prog_20_method_1_code
def dkwX3_init_0 : List UInt8 := [42, 183, 0, 1, 42, 187, 0, 7, 89, 183, 0, 9, 181, 0, 10, 177]
abbrev dktX3_init_0 : List UInt8 := dkwX3_init_0 ++ []
theorem dksX3_init_0 : cX3_init.data.toList.drop 0 = dktX3_init_0 := by decide +kernel
theorem dX3_init_0 : decode cX3_init 0 = .ok (.aload_n 0, 1) := dk_42 (dk_at dksX3_init_0 0 rfl rfl)
theorem dX3_init_1 : decode cX3_init 1 = .ok (.invokespecial 1, 3) := dk_183 0 1 (dk_at dksX3_init_0 1 rfl rfl)
theorem dX3_init_4 : decode cX3_init 4 = .ok (.aload_n 0, 1) := dk_42 (dk_at dksX3_init_0 4 rfl rfl)
theorem dX3_init_5 : decode cX3_init 5 = .ok (.new 7, 3) := dk_187 0 7 (dk_at dksX3_init_0 5 rfl rfl)
theorem dX3_init_8 : decode cX3_init 8 = .ok (.dup, 1) := dk_89 (dk_at dksX3_init_0 8 rfl rfl)
theorem dX3_init_9 : decode cX3_init 9 = .ok (.invokespecial 9, 3) := dk_183 0 9 (dk_at dksX3_init_0 9 rfl rfl)
theorem dX3_init_12 : decode cX3_init 12 = .ok (.putfield 10, 3) := dk_181 0 10 (dk_at dksX3_init_0 12 rfl rfl)
theorem dX3_init_15 : decode cX3_init 15 = .ok (.return_, 1) := dk_177 (dk_at dksX3_init_0 15 rfl rfl)
abbrev cX3_isLike : ByteArray := prog_20_method_6_code
def dkwX3_isLike_0 : List UInt8 := [42, 43, 180, 0, 16, 181, 0, 16, 42, 180, 0, 10, 43, 180, 0, 10, 185, 0, 31, 2, 0, 87, 177]
abbrev dktX3_isLike_0 : List UInt8 := dkwX3_isLike_0 ++ []
theorem dksX3_isLike_0 : cX3_isLike.data.toList.drop 0 = dktX3_isLike_0 := by decide +kernel
theorem dX3_isLike_0 : decode cX3_isLike 0 = .ok (.aload_n 0, 1) := dk_42 (dk_at dksX3_isLike_0 0 rfl rfl)
theorem dX3_isLike_1 : decode cX3_isLike 1 = .ok (.aload_n 1, 1) := dk_43 (dk_at dksX3_isLike_0 1 rfl rfl)
theorem dX3_isLike_2 : decode cX3_isLike 2 = .ok (.getfield 16, 3) := dk_180 0 16 (dk_at dksX3_isLike_0 2 rfl rfl)
theorem dX3_isLike_5 : decode cX3_isLike 5 = .ok (.putfield 16, 3) := dk_181 0 16 (dk_at dksX3_isLike_0 5 rfl rfl)
theorem dX3_isLike_8 : decode cX3_isLike 8 = .ok (.aload_n 0, 1) := dk_42 (dk_at dksX3_isLike_0 8 rfl rfl)
theorem dX3_isLike_9 : decode cX3_isLike 9 = .ok (.getfield 10, 3) := dk_180 0 10 (dk_at dksX3_isLike_0 9 rfl rfl)
theorem dX3_isLike_12 : decode cX3_isLike 12 = .ok (.aload_n 1, 1) := dk_43 (dk_at dksX3_isLike_0 12 rfl rfl)
theorem dX3_isLike_13 : decode cX3_isLike 13 = .ok (.getfield 10, 3) := dk_180 0 10 (dk_at dksX3_isLike_0 13 rfl rfl)
theorem dX3_isLike_16 : decode cX3_isLike 16 = .ok (.invokeinterface 31 2, 5) := by decide +kernel
theorem dX3_isLike_21 : decode cX3_isLike 21 = .ok (.pop, 1) := dk_87 (dk_at dksX3_isLike_0 21 rfl rfl)
theorem dX3_isLike_22 : decode cX3_isLike 22 = .ok (.return_, 1) := dk_177 (dk_at dksX3_isLike_0 22 rfl rfl)
abbrev cX3_hasFainted : ByteArray := prog_20_method_2_code
theorem dX3_hasFainted_0 : decode cX3_hasFainted 0 = .ok (.aload_n 0, 1) := by decide +kernel
theorem dX3_hasFainted_1 : decode cX3_hasFainted 1 = .ok (.getfield 16, 3) := by decide +kernel
theorem dX3_hasFainted_4 : decode cX3_hasFainted 4 = .ok (.ireturn, 1) := by decide +kernel
abbrev cX3_log : ByteArray := prog_20_method_4_code
theorem dX3_log_0 : decode cX3_log 0 = .ok (.aload_n 0, 1) := by decide +kernel
theorem dX3_log_1 : decode cX3_log 1 = .ok (.getfield 10, 3) := by decide +kernel
theorem dX3_log_4 : decode cX3_log 4 = .ok (.areturn, 1) := by decide +kernel
abbrev cX3_writes : ByteArray := prog_20_method_5_code
def dkwX3_writes_0 : List UInt8 := [42, 180, 0, 10, 187, 0, 20, 89, 27, 28, 29, 183, 0, 22, 185, 0, 25, 2, 0, 87, 177]
abbrev dktX3_writes_0 : List UInt8 := dkwX3_writes_0 ++ []
theorem dksX3_writes_0 : cX3_writes.data.toList.drop 0 = dktX3_writes_0 := by decide +kernel
theorem dX3_writes_0 : decode cX3_writes 0 = .ok (.aload_n 0, 1) := dk_42 (dk_at dksX3_writes_0 0 rfl rfl)
theorem dX3_writes_1 : decode cX3_writes 1 = .ok (.getfield 10, 3) := dk_180 0 10 (dk_at dksX3_writes_0 1 rfl rfl)
theorem dX3_writes_4 : decode cX3_writes 4 = .ok (.new 20, 3) := dk_187 0 20 (dk_at dksX3_writes_0 4 rfl rfl)
theorem dX3_writes_7 : decode cX3_writes 7 = .ok (.dup, 1) := dk_89 (dk_at dksX3_writes_0 7 rfl rfl)
theorem dX3_writes_8 : decode cX3_writes 8 = .ok (.iload_n 1, 1) := dk_27 (dk_at dksX3_writes_0 8 rfl rfl)
theorem dX3_writes_9 : decode cX3_writes 9 = .ok (.iload_n 2, 1) := dk_28 (dk_at dksX3_writes_0 9 rfl rfl)
theorem dX3_writes_10 : decode cX3_writes 10 = .ok (.iload_n 3, 1) := dk_29 (dk_at dksX3_writes_0 10 rfl rfl)
theorem dX3_writes_11 : decode cX3_writes 11 = .ok (.invokespecial 22, 3) := dk_183 0 22 (dk_at dksX3_writes_0 11 rfl rfl)
theorem dX3_writes_14 : decode cX3_writes 14 = .ok (.invokeinterface 25 2, 5) := by decide +kernel
theorem dX3_writes_19 : decode cX3_writes 19 = .ok (.pop, 1) := dk_87 (dk_at dksX3_writes_0 19 rfl rfl)
theorem dX3_writes_20 : decode cX3_writes 20 = .ok (.return_, 1) := dk_177 (dk_at dksX3_writes_0 20 rfl rfl)
abbrev cX3_faints : ByteArray := prog_20_method_3_code
def dkwX3_faints_0 : List UInt8 := [42, 27, 181, 0, 16, 177]
abbrev dktX3_faints_0 : List UInt8 := dkwX3_faints_0 ++ []
theorem dksX3_faints_0 : cX3_faints.data.toList.drop 0 = dktX3_faints_0 := by decide +kernel
theorem dX3_faints_0 : decode cX3_faints 0 = .ok (.aload_n 0, 1) := dk_42 (dk_at dksX3_faints_0 0 rfl rfl)
theorem dX3_faints_1 : decode cX3_faints 1 = .ok (.iload_n 1, 1) := dk_27 (dk_at dksX3_faints_0 1 rfl rfl)
theorem dX3_faints_2 : decode cX3_faints 2 = .ok (.putfield 16, 3) := dk_181 0 16 (dk_at dksX3_faints_0 2 rfl rfl)
theorem dX3_faints_5 : decode cX3_faints 5 = .ok (.return_, 1) := dk_177 (dk_at dksX3_faints_0 5 rfl rfl)
abbrev cX4_init : ByteArray := prog_6_method_1_code
theorem dX4_init_0 : decode cX4_init 0 = .ok (.aload_n 0, 1) := by decide +kernel
theorem dX4_init_1 : decode cX4_init 1 = .ok (.invokespecial 1, 3) := by decide +kernel
theorem dX4_init_4 : decode cX4_init 4 = .ok (.return_, 1) := by decide +kernel
abbrev cX2_init : ByteArray := prog_14_method_1_code
def dkwX2_init_2 : List UInt8 := [181, 0, 31, 177]
abbrev dktX2_init_2 : List UInt8 := dkwX2_init_2 ++ []
def dkwX2_init_1 : List UInt8 := [181, 0, 18, 42, 187, 0, 21, 89, 183, 0, 23, 181, 0, 24, 42, 187, 0, 28, 89, 183, 0, 30]
abbrev dktX2_init_1 : List UInt8 := dkwX2_init_1 ++ dktX2_init_2
def dkwX2_init_0 : List UInt8 := [42, 183, 0, 3, 42, 187, 0, 9, 89, 183, 0, 11, 181, 0, 12, 42, 187, 0, 9, 89, 183, 0, 11]
abbrev dktX2_init_0 : List UInt8 := dkwX2_init_0 ++ dktX2_init_1
theorem dksX2_init_0 : cX2_init.data.toList.drop 0 = dktX2_init_0 := by decide +kernel
theorem dksX2_init_1 : cX2_init.data.toList.drop 23 = dktX2_init_1 := dk_seg dksX2_init_0 23 rfl rfl
theorem dksX2_init_2 : cX2_init.data.toList.drop 45 = dktX2_init_2 := dk_seg dksX2_init_1 22 rfl rfl
theorem dX2_init_0 : decode cX2_init 0 = .ok (.aload_n 0, 1) := dk_42 (dk_at dksX2_init_0 0 rfl rfl)
theorem dX2_init_1 : decode cX2_init 1 = .ok (.invokespecial 3, 3) := dk_183 0 3 (dk_at dksX2_init_0 1 rfl rfl)
theorem dX2_init_4 : decode cX2_init 4 = .ok (.aload_n 0, 1) := dk_42 (dk_at dksX2_init_0 4 rfl rfl)
theorem dX2_init_5 : decode cX2_init 5 = .ok (.new 9, 3) := dk_187 0 9 (dk_at dksX2_init_0 5 rfl rfl)
theorem dX2_init_8 : decode cX2_init 8 = .ok (.dup, 1) := dk_89 (dk_at dksX2_init_0 8 rfl rfl)
theorem dX2_init_9 : decode cX2_init 9 = .ok (.invokespecial 11, 3) := dk_183 0 11 (dk_at dksX2_init_0 9 rfl rfl)
theorem dX2_init_12 : decode cX2_init 12 = .ok (.putfield 12, 3) := dk_181 0 12 (dk_at dksX2_init_0 12 rfl rfl)
theorem dX2_init_15 : decode cX2_init 15 = .ok (.aload_n 0, 1) := dk_42 (dk_at dksX2_init_0 15 rfl rfl)
theorem dX2_init_16 : decode cX2_init 16 = .ok (.new 9, 3) := dk_187 0 9 (dk_at dksX2_init_0 16 rfl rfl)
theorem dX2_init_19 : decode cX2_init 19 = .ok (.dup, 1) := dk_89 (dk_at dksX2_init_0 19 rfl rfl)
theorem dX2_init_20 : decode cX2_init 20 = .ok (.invokespecial 11, 3) := dk_183 0 11 (dk_at dksX2_init_0 20 rfl rfl)
theorem dX2_init_23 : decode cX2_init 23 = .ok (.putfield 18, 3) := dk_181 0 18 (dk_at dksX2_init_1 0 rfl rfl)
theorem dX2_init_26 : decode cX2_init 26 = .ok (.aload_n 0, 1) := dk_42 (dk_at dksX2_init_1 3 rfl rfl)
theorem dX2_init_27 : decode cX2_init 27 = .ok (.new 21, 3) := dk_187 0 21 (dk_at dksX2_init_1 4 rfl rfl)
theorem dX2_init_30 : decode cX2_init 30 = .ok (.dup, 1) := dk_89 (dk_at dksX2_init_1 7 rfl rfl)
theorem dX2_init_31 : decode cX2_init 31 = .ok (.invokespecial 23, 3) := dk_183 0 23 (dk_at dksX2_init_1 8 rfl rfl)
theorem dX2_init_34 : decode cX2_init 34 = .ok (.putfield 24, 3) := dk_181 0 24 (dk_at dksX2_init_1 11 rfl rfl)
theorem dX2_init_37 : decode cX2_init 37 = .ok (.aload_n 0, 1) := dk_42 (dk_at dksX2_init_1 14 rfl rfl)
theorem dX2_init_38 : decode cX2_init 38 = .ok (.new 28, 3) := dk_187 0 28 (dk_at dksX2_init_1 15 rfl rfl)
theorem dX2_init_41 : decode cX2_init 41 = .ok (.dup, 1) := dk_89 (dk_at dksX2_init_1 18 rfl rfl)
theorem dX2_init_42 : decode cX2_init 42 = .ok (.invokespecial 30, 3) := dk_183 0 30 (dk_at dksX2_init_1 19 rfl rfl)
theorem dX2_init_45 : decode cX2_init 45 = .ok (.putfield 31, 3) := dk_181 0 31 (dk_at dksX2_init_2 0 rfl rfl)
theorem dX2_init_48 : decode cX2_init 48 = .ok (.return_, 1) := dk_177 (dk_at dksX2_init_2 3 rfl rfl)
abbrev cX2_copy : ByteArray := prog_14_method_2_code
def dkwX2_copy_6 : List UInt8 := [181, 0, 79, 43, 176]
abbrev dktX2_copy_6 : List UInt8 := dkwX2_copy_6 ++ []
def dkwX2_copy_5 : List UInt8 := [180, 0, 31, 42, 180, 0, 31, 182, 0, 71, 87, 43, 42, 180, 0, 75, 181, 0, 75, 43, 42, 180, 0, 79]
abbrev dktX2_copy_5 : List UInt8 := dkwX2_copy_5 ++ dktX2_copy_6
def dkwX2_copy_4 : List UInt8 := [182, 0, 64, 185, 0, 58, 2, 0, 87, 167, 255, 223, 43, 180, 0, 24, 42, 180, 0, 24, 182, 0, 67, 43]
abbrev dktX2_copy_4 : List UInt8 := dkwX2_copy_4 ++ dktX2_copy_5
def dkwX2_copy_3 : List UInt8 := [185, 0, 42, 1, 0, 153, 0, 30, 44, 185, 0, 48, 1, 0, 192, 0, 62, 78, 43, 180, 0, 18, 45]
abbrev dktX2_copy_3 : List UInt8 := dkwX2_copy_3 ++ dktX2_copy_4
def dkwX2_copy_2 : List UInt8 := [185, 0, 58, 2, 0, 87, 167, 255, 223, 42, 180, 0, 18, 185, 0, 36, 1, 0, 77, 44]
abbrev dktX2_copy_2 : List UInt8 := dkwX2_copy_2 ++ dktX2_copy_3
def dkwX2_copy_1 : List UInt8 := [153, 0, 30, 44, 185, 0, 48, 1, 0, 192, 0, 52, 78, 43, 180, 0, 12, 45, 182, 0, 54]
abbrev dktX2_copy_1 : List UInt8 := dkwX2_copy_1 ++ dktX2_copy_2
def dkwX2_copy_0 : List UInt8 := [187, 0, 13, 89, 183, 0, 35, 76, 42, 180, 0, 12, 185, 0, 36, 1, 0, 77, 44, 185, 0, 42, 1, 0]
abbrev dktX2_copy_0 : List UInt8 := dkwX2_copy_0 ++ dktX2_copy_1
theorem dksX2_copy_0 : cX2_copy.data.toList.drop 0 = dktX2_copy_0 := by decide +kernel
theorem dksX2_copy_1 : cX2_copy.data.toList.drop 24 = dktX2_copy_1 := dk_seg dksX2_copy_0 24 rfl rfl
theorem dksX2_copy_2 : cX2_copy.data.toList.drop 45 = dktX2_copy_2 := dk_seg dksX2_copy_1 21 rfl rfl
theorem dksX2_copy_3 : cX2_copy.data.toList.drop 65 = dktX2_copy_3 := dk_seg dksX2_copy_2 20 rfl rfl
theorem dksX2_copy_4 : cX2_copy.data.toList.drop 88 = dktX2_copy_4 := dk_seg dksX2_copy_3 23 rfl rfl
theorem dksX2_copy_5 : cX2_copy.data.toList.drop 112 = dktX2_copy_5 := dk_seg dksX2_copy_4 24 rfl rfl
theorem dksX2_copy_6 : cX2_copy.data.toList.drop 136 = dktX2_copy_6 := dk_seg dksX2_copy_5 24 rfl rfl
theorem dX2_copy_0 : decode cX2_copy 0 = .ok (.new 13, 3) := dk_187 0 13 (dk_at dksX2_copy_0 0 rfl rfl)
theorem dX2_copy_3 : decode cX2_copy 3 = .ok (.dup, 1) := dk_89 (dk_at dksX2_copy_0 3 rfl rfl)
theorem dX2_copy_4 : decode cX2_copy 4 = .ok (.invokespecial 35, 3) := dk_183 0 35 (dk_at dksX2_copy_0 4 rfl rfl)
theorem dX2_copy_7 : decode cX2_copy 7 = .ok (.astore_n 1, 1) := dk_76 (dk_at dksX2_copy_0 7 rfl rfl)
theorem dX2_copy_8 : decode cX2_copy 8 = .ok (.aload_n 0, 1) := dk_42 (dk_at dksX2_copy_0 8 rfl rfl)
theorem dX2_copy_9 : decode cX2_copy 9 = .ok (.getfield 12, 3) := dk_180 0 12 (dk_at dksX2_copy_0 9 rfl rfl)
theorem dX2_copy_12 : decode cX2_copy 12 = .ok (.invokeinterface 36 1, 5) := by decide +kernel
theorem dX2_copy_17 : decode cX2_copy 17 = .ok (.astore_n 2, 1) := dk_77 (dk_at dksX2_copy_0 17 rfl rfl)
theorem dX2_copy_18 : decode cX2_copy 18 = .ok (.aload_n 2, 1) := dk_44 (dk_at dksX2_copy_0 18 rfl rfl)
theorem dX2_copy_19 : decode cX2_copy 19 = .ok (.invokeinterface 42 1, 5) := by decide +kernel
theorem dX2_copy_24 : decode cX2_copy 24 = .ok (.ifCond .eq 30, 3) := dk_153 0 30 (dk_at dksX2_copy_1 0 rfl rfl)
theorem dX2_copy_27 : decode cX2_copy 27 = .ok (.aload_n 2, 1) := dk_44 (dk_at dksX2_copy_1 3 rfl rfl)
theorem dX2_copy_28 : decode cX2_copy 28 = .ok (.invokeinterface 48 1, 5) := by decide +kernel
theorem dX2_copy_33 : decode cX2_copy 33 = .ok (.checkcast 52, 3) := dk_192 0 52 (dk_at dksX2_copy_1 9 rfl rfl)
theorem dX2_copy_36 : decode cX2_copy 36 = .ok (.astore_n 3, 1) := dk_78 (dk_at dksX2_copy_1 12 rfl rfl)
theorem dX2_copy_37 : decode cX2_copy 37 = .ok (.aload_n 1, 1) := dk_43 (dk_at dksX2_copy_1 13 rfl rfl)
theorem dX2_copy_38 : decode cX2_copy 38 = .ok (.getfield 12, 3) := dk_180 0 12 (dk_at dksX2_copy_1 14 rfl rfl)
theorem dX2_copy_41 : decode cX2_copy 41 = .ok (.aload_n 3, 1) := dk_45 (dk_at dksX2_copy_1 17 rfl rfl)
theorem dX2_copy_42 : decode cX2_copy 42 = .ok (.invokevirtual 54, 3) := dk_182 0 54 (dk_at dksX2_copy_1 18 rfl rfl)
theorem dX2_copy_45 : decode cX2_copy 45 = .ok (.invokeinterface 58 2, 5) := by decide +kernel
theorem dX2_copy_50 : decode cX2_copy 50 = .ok (.pop, 1) := dk_87 (dk_at dksX2_copy_2 5 rfl rfl)
theorem dX2_copy_51 : decode cX2_copy 51 = .ok (.goto (-33), 3) := dk_167 255 223 (dk_at dksX2_copy_2 6 rfl rfl)
theorem dX2_copy_54 : decode cX2_copy 54 = .ok (.aload_n 0, 1) := dk_42 (dk_at dksX2_copy_2 9 rfl rfl)
theorem dX2_copy_55 : decode cX2_copy 55 = .ok (.getfield 18, 3) := dk_180 0 18 (dk_at dksX2_copy_2 10 rfl rfl)
theorem dX2_copy_58 : decode cX2_copy 58 = .ok (.invokeinterface 36 1, 5) := by decide +kernel
theorem dX2_copy_63 : decode cX2_copy 63 = .ok (.astore_n 2, 1) := dk_77 (dk_at dksX2_copy_2 18 rfl rfl)
theorem dX2_copy_64 : decode cX2_copy 64 = .ok (.aload_n 2, 1) := dk_44 (dk_at dksX2_copy_2 19 rfl rfl)
theorem dX2_copy_65 : decode cX2_copy 65 = .ok (.invokeinterface 42 1, 5) := by decide +kernel
theorem dX2_copy_70 : decode cX2_copy 70 = .ok (.ifCond .eq 30, 3) := dk_153 0 30 (dk_at dksX2_copy_3 5 rfl rfl)
theorem dX2_copy_73 : decode cX2_copy 73 = .ok (.aload_n 2, 1) := dk_44 (dk_at dksX2_copy_3 8 rfl rfl)
theorem dX2_copy_74 : decode cX2_copy 74 = .ok (.invokeinterface 48 1, 5) := by decide +kernel
theorem dX2_copy_79 : decode cX2_copy 79 = .ok (.checkcast 62, 3) := dk_192 0 62 (dk_at dksX2_copy_3 14 rfl rfl)
theorem dX2_copy_82 : decode cX2_copy 82 = .ok (.astore_n 3, 1) := dk_78 (dk_at dksX2_copy_3 17 rfl rfl)
theorem dX2_copy_83 : decode cX2_copy 83 = .ok (.aload_n 1, 1) := dk_43 (dk_at dksX2_copy_3 18 rfl rfl)
theorem dX2_copy_84 : decode cX2_copy 84 = .ok (.getfield 18, 3) := dk_180 0 18 (dk_at dksX2_copy_3 19 rfl rfl)
theorem dX2_copy_87 : decode cX2_copy 87 = .ok (.aload_n 3, 1) := dk_45 (dk_at dksX2_copy_3 22 rfl rfl)
theorem dX2_copy_88 : decode cX2_copy 88 = .ok (.invokevirtual 64, 3) := dk_182 0 64 (dk_at dksX2_copy_4 0 rfl rfl)
theorem dX2_copy_91 : decode cX2_copy 91 = .ok (.invokeinterface 58 2, 5) := by decide +kernel
theorem dX2_copy_96 : decode cX2_copy 96 = .ok (.pop, 1) := dk_87 (dk_at dksX2_copy_4 8 rfl rfl)
theorem dX2_copy_97 : decode cX2_copy 97 = .ok (.goto (-33), 3) := dk_167 255 223 (dk_at dksX2_copy_4 9 rfl rfl)
theorem dX2_copy_100 : decode cX2_copy 100 = .ok (.aload_n 1, 1) := dk_43 (dk_at dksX2_copy_4 12 rfl rfl)
theorem dX2_copy_101 : decode cX2_copy 101 = .ok (.getfield 24, 3) := dk_180 0 24 (dk_at dksX2_copy_4 13 rfl rfl)
theorem dX2_copy_104 : decode cX2_copy 104 = .ok (.aload_n 0, 1) := dk_42 (dk_at dksX2_copy_4 16 rfl rfl)
theorem dX2_copy_105 : decode cX2_copy 105 = .ok (.getfield 24, 3) := dk_180 0 24 (dk_at dksX2_copy_4 17 rfl rfl)
theorem dX2_copy_108 : decode cX2_copy 108 = .ok (.invokevirtual 67, 3) := dk_182 0 67 (dk_at dksX2_copy_4 20 rfl rfl)
theorem dX2_copy_111 : decode cX2_copy 111 = .ok (.aload_n 1, 1) := dk_43 (dk_at dksX2_copy_4 23 rfl rfl)
theorem dX2_copy_112 : decode cX2_copy 112 = .ok (.getfield 31, 3) := dk_180 0 31 (dk_at dksX2_copy_5 0 rfl rfl)
theorem dX2_copy_115 : decode cX2_copy 115 = .ok (.aload_n 0, 1) := dk_42 (dk_at dksX2_copy_5 3 rfl rfl)
theorem dX2_copy_116 : decode cX2_copy 116 = .ok (.getfield 31, 3) := dk_180 0 31 (dk_at dksX2_copy_5 4 rfl rfl)
theorem dX2_copy_119 : decode cX2_copy 119 = .ok (.invokevirtual 71, 3) := dk_182 0 71 (dk_at dksX2_copy_5 7 rfl rfl)
theorem dX2_copy_122 : decode cX2_copy 122 = .ok (.pop, 1) := dk_87 (dk_at dksX2_copy_5 10 rfl rfl)
theorem dX2_copy_123 : decode cX2_copy 123 = .ok (.aload_n 1, 1) := dk_43 (dk_at dksX2_copy_5 11 rfl rfl)
theorem dX2_copy_124 : decode cX2_copy 124 = .ok (.aload_n 0, 1) := dk_42 (dk_at dksX2_copy_5 12 rfl rfl)
theorem dX2_copy_125 : decode cX2_copy 125 = .ok (.getfield 75, 3) := dk_180 0 75 (dk_at dksX2_copy_5 13 rfl rfl)
theorem dX2_copy_128 : decode cX2_copy 128 = .ok (.putfield 75, 3) := dk_181 0 75 (dk_at dksX2_copy_5 16 rfl rfl)
theorem dX2_copy_131 : decode cX2_copy 131 = .ok (.aload_n 1, 1) := dk_43 (dk_at dksX2_copy_5 19 rfl rfl)
theorem dX2_copy_132 : decode cX2_copy 132 = .ok (.aload_n 0, 1) := dk_42 (dk_at dksX2_copy_5 20 rfl rfl)
theorem dX2_copy_133 : decode cX2_copy 133 = .ok (.getfield 79, 3) := dk_180 0 79 (dk_at dksX2_copy_5 21 rfl rfl)
theorem dX2_copy_136 : decode cX2_copy 136 = .ok (.putfield 79, 3) := dk_181 0 79 (dk_at dksX2_copy_6 0 rfl rfl)
theorem dX2_copy_139 : decode cX2_copy 139 = .ok (.aload_n 1, 1) := dk_43 (dk_at dksX2_copy_6 3 rfl rfl)
theorem dX2_copy_140 : decode cX2_copy 140 = .ok (.areturn, 1) := dk_176 (dk_at dksX2_copy_6 4 rfl rfl)
abbrev cX2_hires : ByteArray := prog_14_method_11_code
def dkwX2_hires_2 : List UInt8 := [180, 0, 12, 185, 0, 100, 1, 0, 4, 100, 172]
abbrev dktX2_hires_2 : List UInt8 := dkwX2_hires_2 ++ []
def dkwX2_hires_1 : List UInt8 := [184, 0, 103, 42, 180, 0, 12, 187, 0, 52, 89, 27, 183, 0, 107, 185, 0, 58, 2, 0, 87, 42]
abbrev dktX2_hires_1 : List UInt8 := dkwX2_hires_1 ++ dktX2_hires_2
def dkwX2_hires_0 : List UInt8 := [42, 180, 0, 12, 185, 0, 100, 1, 0, 16, 6, 162, 0, 7, 4, 167, 0, 4, 3, 4, 16, 6]
abbrev dktX2_hires_0 : List UInt8 := dkwX2_hires_0 ++ dktX2_hires_1
theorem dksX2_hires_0 : cX2_hires.data.toList.drop 0 = dktX2_hires_0 := by decide +kernel
theorem dksX2_hires_1 : cX2_hires.data.toList.drop 22 = dktX2_hires_1 := dk_seg dksX2_hires_0 22 rfl rfl
theorem dksX2_hires_2 : cX2_hires.data.toList.drop 44 = dktX2_hires_2 := dk_seg dksX2_hires_1 22 rfl rfl
theorem dX2_hires_0 : decode cX2_hires 0 = .ok (.aload_n 0, 1) := dk_42 (dk_at dksX2_hires_0 0 rfl rfl)
theorem dX2_hires_1 : decode cX2_hires 1 = .ok (.getfield 12, 3) := dk_180 0 12 (dk_at dksX2_hires_0 1 rfl rfl)
theorem dX2_hires_4 : decode cX2_hires 4 = .ok (.invokeinterface 100 1, 5) := by decide +kernel
theorem dX2_hires_9 : decode cX2_hires 9 = .ok (.bipush 6, 2) := dk_16 6 (dk_at dksX2_hires_0 9 rfl rfl)
theorem dX2_hires_11 : decode cX2_hires 11 = .ok (.if_icmp .ge 7, 3) := dk_162 0 7 (dk_at dksX2_hires_0 11 rfl rfl)
theorem dX2_hires_14 : decode cX2_hires 14 = .ok (.iconst 1, 1) := dk_4 (dk_at dksX2_hires_0 14 rfl rfl)
theorem dX2_hires_15 : decode cX2_hires 15 = .ok (.goto 4, 3) := dk_167 0 4 (dk_at dksX2_hires_0 15 rfl rfl)
theorem dX2_hires_18 : decode cX2_hires 18 = .ok (.iconst 0, 1) := dk_3 (dk_at dksX2_hires_0 18 rfl rfl)
theorem dX2_hires_19 : decode cX2_hires 19 = .ok (.iconst 1, 1) := dk_4 (dk_at dksX2_hires_0 19 rfl rfl)
theorem dX2_hires_20 : decode cX2_hires 20 = .ok (.bipush 6, 2) := dk_16 6 (dk_at dksX2_hires_0 20 rfl rfl)
theorem dX2_hires_22 : decode cX2_hires 22 = .ok (.invokestatic 103, 3) := dk_184 0 103 (dk_at dksX2_hires_1 0 rfl rfl)
theorem dX2_hires_25 : decode cX2_hires 25 = .ok (.aload_n 0, 1) := dk_42 (dk_at dksX2_hires_1 3 rfl rfl)
theorem dX2_hires_26 : decode cX2_hires 26 = .ok (.getfield 12, 3) := dk_180 0 12 (dk_at dksX2_hires_1 4 rfl rfl)
theorem dX2_hires_29 : decode cX2_hires 29 = .ok (.new 52, 3) := dk_187 0 52 (dk_at dksX2_hires_1 7 rfl rfl)
theorem dX2_hires_32 : decode cX2_hires 32 = .ok (.dup, 1) := dk_89 (dk_at dksX2_hires_1 10 rfl rfl)
theorem dX2_hires_33 : decode cX2_hires 33 = .ok (.iload_n 1, 1) := dk_27 (dk_at dksX2_hires_1 11 rfl rfl)
theorem dX2_hires_34 : decode cX2_hires 34 = .ok (.invokespecial 107, 3) := dk_183 0 107 (dk_at dksX2_hires_1 12 rfl rfl)
theorem dX2_hires_37 : decode cX2_hires 37 = .ok (.invokeinterface 58 2, 5) := by decide +kernel
theorem dX2_hires_42 : decode cX2_hires 42 = .ok (.pop, 1) := dk_87 (dk_at dksX2_hires_1 20 rfl rfl)
theorem dX2_hires_43 : decode cX2_hires 43 = .ok (.aload_n 0, 1) := dk_42 (dk_at dksX2_hires_1 21 rfl rfl)
theorem dX2_hires_44 : decode cX2_hires 44 = .ok (.getfield 12, 3) := dk_180 0 12 (dk_at dksX2_hires_2 0 rfl rfl)
theorem dX2_hires_47 : decode cX2_hires 47 = .ok (.invokeinterface 100 1, 5) := by decide +kernel
theorem dX2_hires_52 : decode cX2_hires 52 = .ok (.iconst 1, 1) := dk_4 (dk_at dksX2_hires_2 8 rfl rfl)
theorem dX2_hires_53 : decode cX2_hires 53 = .ok (.isub, 1) := dk_100 (dk_at dksX2_hires_2 9 rfl rfl)
theorem dX2_hires_54 : decode cX2_hires 54 = .ok (.ireturn, 1) := dk_172 (dk_at dksX2_hires_2 10 rfl rfl)
abbrev cX2_cooks : ByteArray := prog_14_method_3_code
theorem dX2_cooks_0 : decode cX2_cooks 0 = .ok (.aload_n 0, 1) := by decide +kernel
theorem dX2_cooks_1 : decode cX2_cooks 1 = .ok (.getfield 12, 3) := by decide +kernel
theorem dX2_cooks_4 : decode cX2_cooks 4 = .ok (.areturn, 1) := by decide +kernel
abbrev cX2_brings : ByteArray := prog_14_method_12_code
def dkwX2_brings_1 : List UInt8 := [3, 5, 21, 4, 184, 0, 103, 42, 27, 182, 0, 86, 28, 29, 182, 0, 114, 21, 4, 172]
abbrev dktX2_brings_1 : List UInt8 := dkwX2_brings_1 ++ []
def dkwX2_brings_0 : List UInt8 := [42, 27, 182, 0, 86, 28, 182, 0, 110, 29, 96, 54, 4, 21, 4, 16, 50, 163, 0, 7, 4, 167, 0, 4]
abbrev dktX2_brings_0 : List UInt8 := dkwX2_brings_0 ++ dktX2_brings_1
theorem dksX2_brings_0 : cX2_brings.data.toList.drop 0 = dktX2_brings_0 := by decide +kernel
theorem dksX2_brings_1 : cX2_brings.data.toList.drop 24 = dktX2_brings_1 := dk_seg dksX2_brings_0 24 rfl rfl
theorem dX2_brings_0 : decode cX2_brings 0 = .ok (.aload_n 0, 1) := dk_42 (dk_at dksX2_brings_0 0 rfl rfl)
theorem dX2_brings_1 : decode cX2_brings 1 = .ok (.iload_n 1, 1) := dk_27 (dk_at dksX2_brings_0 1 rfl rfl)
theorem dX2_brings_2 : decode cX2_brings 2 = .ok (.invokevirtual 86, 3) := dk_182 0 86 (dk_at dksX2_brings_0 2 rfl rfl)
theorem dX2_brings_5 : decode cX2_brings 5 = .ok (.iload_n 2, 1) := dk_28 (dk_at dksX2_brings_0 5 rfl rfl)
theorem dX2_brings_6 : decode cX2_brings 6 = .ok (.invokevirtual 110, 3) := dk_182 0 110 (dk_at dksX2_brings_0 6 rfl rfl)
theorem dX2_brings_9 : decode cX2_brings 9 = .ok (.iload_n 3, 1) := dk_29 (dk_at dksX2_brings_0 9 rfl rfl)
theorem dX2_brings_10 : decode cX2_brings 10 = .ok (.iadd, 1) := dk_96 (dk_at dksX2_brings_0 10 rfl rfl)
theorem dX2_brings_11 : decode cX2_brings 11 = .ok (.istore 4, 2) := dk_54 4 (dk_at dksX2_brings_0 11 rfl rfl)
theorem dX2_brings_13 : decode cX2_brings 13 = .ok (.iload 4, 2) := dk_21 4 (dk_at dksX2_brings_0 13 rfl rfl)
theorem dX2_brings_15 : decode cX2_brings 15 = .ok (.bipush 50, 2) := dk_16 50 (dk_at dksX2_brings_0 15 rfl rfl)
theorem dX2_brings_17 : decode cX2_brings 17 = .ok (.if_icmp .gt 7, 3) := dk_163 0 7 (dk_at dksX2_brings_0 17 rfl rfl)
theorem dX2_brings_20 : decode cX2_brings 20 = .ok (.iconst 1, 1) := dk_4 (dk_at dksX2_brings_0 20 rfl rfl)
theorem dX2_brings_21 : decode cX2_brings 21 = .ok (.goto 4, 3) := dk_167 0 4 (dk_at dksX2_brings_0 21 rfl rfl)
theorem dX2_brings_24 : decode cX2_brings 24 = .ok (.iconst 0, 1) := dk_3 (dk_at dksX2_brings_1 0 rfl rfl)
theorem dX2_brings_25 : decode cX2_brings 25 = .ok (.iconst 2, 1) := dk_5 (dk_at dksX2_brings_1 1 rfl rfl)
theorem dX2_brings_26 : decode cX2_brings 26 = .ok (.iload 4, 2) := dk_21 4 (dk_at dksX2_brings_1 2 rfl rfl)
theorem dX2_brings_28 : decode cX2_brings 28 = .ok (.invokestatic 103, 3) := dk_184 0 103 (dk_at dksX2_brings_1 4 rfl rfl)
theorem dX2_brings_31 : decode cX2_brings 31 = .ok (.aload_n 0, 1) := dk_42 (dk_at dksX2_brings_1 7 rfl rfl)
theorem dX2_brings_32 : decode cX2_brings 32 = .ok (.iload_n 1, 1) := dk_27 (dk_at dksX2_brings_1 8 rfl rfl)
theorem dX2_brings_33 : decode cX2_brings 33 = .ok (.invokevirtual 86, 3) := dk_182 0 86 (dk_at dksX2_brings_1 9 rfl rfl)
theorem dX2_brings_36 : decode cX2_brings 36 = .ok (.iload_n 2, 1) := dk_28 (dk_at dksX2_brings_1 12 rfl rfl)
theorem dX2_brings_37 : decode cX2_brings 37 = .ok (.iload_n 3, 1) := dk_29 (dk_at dksX2_brings_1 13 rfl rfl)
theorem dX2_brings_38 : decode cX2_brings 38 = .ok (.invokevirtual 114, 3) := dk_182 0 114 (dk_at dksX2_brings_1 14 rfl rfl)
theorem dX2_brings_41 : decode cX2_brings 41 = .ok (.iload 4, 2) := dk_21 4 (dk_at dksX2_brings_1 17 rfl rfl)
theorem dX2_brings_43 : decode cX2_brings 43 = .ok (.ireturn, 1) := dk_172 (dk_at dksX2_brings_1 19 rfl rfl)
abbrev cX2_cook : ByteArray := prog_14_method_4_code
def dkwX2_cook_0 : List UInt8 := [42, 180, 0, 12, 27, 185, 0, 82, 2, 0, 192, 0, 52, 176]
abbrev dktX2_cook_0 : List UInt8 := dkwX2_cook_0 ++ []
theorem dksX2_cook_0 : cX2_cook.data.toList.drop 0 = dktX2_cook_0 := by decide +kernel
theorem dX2_cook_0 : decode cX2_cook 0 = .ok (.aload_n 0, 1) := dk_42 (dk_at dksX2_cook_0 0 rfl rfl)
theorem dX2_cook_1 : decode cX2_cook 1 = .ok (.getfield 12, 3) := dk_180 0 12 (dk_at dksX2_cook_0 1 rfl rfl)
theorem dX2_cook_4 : decode cX2_cook 4 = .ok (.iload_n 1, 1) := dk_27 (dk_at dksX2_cook_0 4 rfl rfl)
theorem dX2_cook_5 : decode cX2_cook 5 = .ok (.invokeinterface 82 2, 5) := by decide +kernel
theorem dX2_cook_10 : decode cX2_cook 10 = .ok (.checkcast 52, 3) := dk_192 0 52 (dk_at dksX2_cook_0 10 rfl rfl)
theorem dX2_cook_13 : decode cX2_cook 13 = .ok (.areturn, 1) := dk_176 (dk_at dksX2_cook_0 13 rfl rfl)
abbrev cX2_dishesOf : ByteArray := prog_14_method_48_code
def dkwX2_dishesOf_3 : List UInt8 := [182, 0, 250, 44, 166, 0, 7, 4, 167, 0, 4, 3, 96, 54, 4, 167, 255, 184, 21, 4, 172]
abbrev dktX2_dishesOf_3 : List UInt8 := dkwX2_dishesOf_3 ++ []
def dkwX2_dishesOf_2 : List UInt8 := [198, 0, 34, 29, 153, 0, 17, 25, 7, 182, 0, 250, 182, 1, 37, 153, 0, 19, 167, 0, 12, 25, 7]
abbrev dktX2_dishesOf_2 : List UInt8 := dkwX2_dishesOf_2 ++ dktX2_dishesOf_3
def dkwX2_dishesOf_1 : List UInt8 := [25, 5, 185, 0, 48, 1, 0, 192, 0, 62, 58, 6, 25, 6, 27, 182, 0, 126, 58, 7, 21, 4, 25, 7]
abbrev dktX2_dishesOf_1 : List UInt8 := dkwX2_dishesOf_1 ++ dktX2_dishesOf_2
def dkwX2_dishesOf_0 : List UInt8 := [3, 54, 4, 42, 180, 0, 18, 185, 0, 36, 1, 0, 58, 5, 25, 5, 185, 0, 42, 1, 0, 153, 0, 68]
abbrev dktX2_dishesOf_0 : List UInt8 := dkwX2_dishesOf_0 ++ dktX2_dishesOf_1
theorem dksX2_dishesOf_0 : cX2_dishesOf.data.toList.drop 0 = dktX2_dishesOf_0 := by decide +kernel
theorem dksX2_dishesOf_1 : cX2_dishesOf.data.toList.drop 24 = dktX2_dishesOf_1 := dk_seg dksX2_dishesOf_0 24 rfl rfl
theorem dksX2_dishesOf_2 : cX2_dishesOf.data.toList.drop 48 = dktX2_dishesOf_2 := dk_seg dksX2_dishesOf_1 24 rfl rfl
theorem dksX2_dishesOf_3 : cX2_dishesOf.data.toList.drop 71 = dktX2_dishesOf_3 := dk_seg dksX2_dishesOf_2 23 rfl rfl
theorem dX2_dishesOf_0 : decode cX2_dishesOf 0 = .ok (.iconst 0, 1) := dk_3 (dk_at dksX2_dishesOf_0 0 rfl rfl)
theorem dX2_dishesOf_1 : decode cX2_dishesOf 1 = .ok (.istore 4, 2) := dk_54 4 (dk_at dksX2_dishesOf_0 1 rfl rfl)
theorem dX2_dishesOf_3 : decode cX2_dishesOf 3 = .ok (.aload_n 0, 1) := dk_42 (dk_at dksX2_dishesOf_0 3 rfl rfl)
theorem dX2_dishesOf_4 : decode cX2_dishesOf 4 = .ok (.getfield 18, 3) := dk_180 0 18 (dk_at dksX2_dishesOf_0 4 rfl rfl)
theorem dX2_dishesOf_7 : decode cX2_dishesOf 7 = .ok (.invokeinterface 36 1, 5) := by decide +kernel
theorem dX2_dishesOf_12 : decode cX2_dishesOf 12 = .ok (.astore 5, 2) := dk_58 5 (dk_at dksX2_dishesOf_0 12 rfl rfl)
theorem dX2_dishesOf_14 : decode cX2_dishesOf 14 = .ok (.aload 5, 2) := dk_25 5 (dk_at dksX2_dishesOf_0 14 rfl rfl)
theorem dX2_dishesOf_16 : decode cX2_dishesOf 16 = .ok (.invokeinterface 42 1, 5) := by decide +kernel
theorem dX2_dishesOf_21 : decode cX2_dishesOf 21 = .ok (.ifCond .eq 68, 3) := dk_153 0 68 (dk_at dksX2_dishesOf_0 21 rfl rfl)
theorem dX2_dishesOf_24 : decode cX2_dishesOf 24 = .ok (.aload 5, 2) := dk_25 5 (dk_at dksX2_dishesOf_1 0 rfl rfl)
theorem dX2_dishesOf_26 : decode cX2_dishesOf 26 = .ok (.invokeinterface 48 1, 5) := by decide +kernel
theorem dX2_dishesOf_31 : decode cX2_dishesOf 31 = .ok (.checkcast 62, 3) := dk_192 0 62 (dk_at dksX2_dishesOf_1 7 rfl rfl)
theorem dX2_dishesOf_34 : decode cX2_dishesOf 34 = .ok (.astore 6, 2) := dk_58 6 (dk_at dksX2_dishesOf_1 10 rfl rfl)
theorem dX2_dishesOf_36 : decode cX2_dishesOf 36 = .ok (.aload 6, 2) := dk_25 6 (dk_at dksX2_dishesOf_1 12 rfl rfl)
theorem dX2_dishesOf_38 : decode cX2_dishesOf 38 = .ok (.iload_n 1, 1) := dk_27 (dk_at dksX2_dishesOf_1 14 rfl rfl)
theorem dX2_dishesOf_39 : decode cX2_dishesOf 39 = .ok (.invokevirtual 126, 3) := dk_182 0 126 (dk_at dksX2_dishesOf_1 15 rfl rfl)
theorem dX2_dishesOf_42 : decode cX2_dishesOf 42 = .ok (.astore 7, 2) := dk_58 7 (dk_at dksX2_dishesOf_1 18 rfl rfl)
theorem dX2_dishesOf_44 : decode cX2_dishesOf 44 = .ok (.iload 4, 2) := dk_21 4 (dk_at dksX2_dishesOf_1 20 rfl rfl)
theorem dX2_dishesOf_46 : decode cX2_dishesOf 46 = .ok (.aload 7, 2) := dk_25 7 (dk_at dksX2_dishesOf_1 22 rfl rfl)
theorem dX2_dishesOf_48 : decode cX2_dishesOf 48 = .ok (.ifnull 34, 3) := dk_198 0 34 (dk_at dksX2_dishesOf_2 0 rfl rfl)
theorem dX2_dishesOf_51 : decode cX2_dishesOf 51 = .ok (.iload_n 3, 1) := dk_29 (dk_at dksX2_dishesOf_2 3 rfl rfl)
theorem dX2_dishesOf_52 : decode cX2_dishesOf 52 = .ok (.ifCond .eq 17, 3) := dk_153 0 17 (dk_at dksX2_dishesOf_2 4 rfl rfl)
theorem dX2_dishesOf_55 : decode cX2_dishesOf 55 = .ok (.aload 7, 2) := dk_25 7 (dk_at dksX2_dishesOf_2 7 rfl rfl)
theorem dX2_dishesOf_57 : decode cX2_dishesOf 57 = .ok (.invokevirtual 250, 3) := dk_182 0 250 (dk_at dksX2_dishesOf_2 9 rfl rfl)
theorem dX2_dishesOf_60 : decode cX2_dishesOf 60 = .ok (.invokevirtual 293, 3) := dk_182 1 37 (dk_at dksX2_dishesOf_2 12 rfl rfl)
theorem dX2_dishesOf_63 : decode cX2_dishesOf 63 = .ok (.ifCond .eq 19, 3) := dk_153 0 19 (dk_at dksX2_dishesOf_2 15 rfl rfl)
theorem dX2_dishesOf_66 : decode cX2_dishesOf 66 = .ok (.goto 12, 3) := dk_167 0 12 (dk_at dksX2_dishesOf_2 18 rfl rfl)
theorem dX2_dishesOf_69 : decode cX2_dishesOf 69 = .ok (.aload 7, 2) := dk_25 7 (dk_at dksX2_dishesOf_2 21 rfl rfl)
theorem dX2_dishesOf_71 : decode cX2_dishesOf 71 = .ok (.invokevirtual 250, 3) := dk_182 0 250 (dk_at dksX2_dishesOf_3 0 rfl rfl)
theorem dX2_dishesOf_74 : decode cX2_dishesOf 74 = .ok (.aload_n 2, 1) := dk_44 (dk_at dksX2_dishesOf_3 3 rfl rfl)
theorem dX2_dishesOf_75 : decode cX2_dishesOf 75 = .ok (.if_acmp .ne 7, 3) := dk_166 0 7 (dk_at dksX2_dishesOf_3 4 rfl rfl)
theorem dX2_dishesOf_78 : decode cX2_dishesOf 78 = .ok (.iconst 1, 1) := dk_4 (dk_at dksX2_dishesOf_3 7 rfl rfl)
theorem dX2_dishesOf_79 : decode cX2_dishesOf 79 = .ok (.goto 4, 3) := dk_167 0 4 (dk_at dksX2_dishesOf_3 8 rfl rfl)
theorem dX2_dishesOf_82 : decode cX2_dishesOf 82 = .ok (.iconst 0, 1) := dk_3 (dk_at dksX2_dishesOf_3 11 rfl rfl)
theorem dX2_dishesOf_83 : decode cX2_dishesOf 83 = .ok (.iadd, 1) := dk_96 (dk_at dksX2_dishesOf_3 12 rfl rfl)
theorem dX2_dishesOf_84 : decode cX2_dishesOf 84 = .ok (.istore 4, 2) := dk_54 4 (dk_at dksX2_dishesOf_3 13 rfl rfl)
theorem dX2_dishesOf_86 : decode cX2_dishesOf 86 = .ok (.goto (-72), 3) := dk_167 255 184 (dk_at dksX2_dishesOf_3 15 rfl rfl)
theorem dX2_dishesOf_89 : decode cX2_dishesOf 89 = .ok (.iload 4, 2) := dk_21 4 (dk_at dksX2_dishesOf_3 18 rfl rfl)
theorem dX2_dishesOf_91 : decode cX2_dishesOf 91 = .ok (.ireturn, 1) := dk_172 (dk_at dksX2_dishesOf_3 20 rfl rfl)
abbrev cX2_plans : ByteArray := prog_14_method_13_code
def dkwX2_plans_2 : List UInt8 := [185, 0, 100, 1, 0, 4, 100, 172]
abbrev dktX2_plans_2 : List UInt8 := dkwX2_plans_2 ++ []
def dkwX2_plans_1 : List UInt8 := [184, 0, 103, 42, 180, 0, 18, 187, 0, 62, 89, 183, 0, 118, 185, 0, 58, 2, 0, 87, 42, 180, 0, 18]
abbrev dktX2_plans_1 : List UInt8 := dkwX2_plans_1 ++ dktX2_plans_2
def dkwX2_plans_0 : List UInt8 := [42, 180, 0, 18, 185, 0, 100, 1, 0, 16, 8, 162, 0, 7, 4, 167, 0, 4, 3, 4, 16, 8]
abbrev dktX2_plans_0 : List UInt8 := dkwX2_plans_0 ++ dktX2_plans_1
theorem dksX2_plans_0 : cX2_plans.data.toList.drop 0 = dktX2_plans_0 := by decide +kernel
theorem dksX2_plans_1 : cX2_plans.data.toList.drop 22 = dktX2_plans_1 := dk_seg dksX2_plans_0 22 rfl rfl
theorem dksX2_plans_2 : cX2_plans.data.toList.drop 46 = dktX2_plans_2 := dk_seg dksX2_plans_1 24 rfl rfl
theorem dX2_plans_0 : decode cX2_plans 0 = .ok (.aload_n 0, 1) := dk_42 (dk_at dksX2_plans_0 0 rfl rfl)
theorem dX2_plans_1 : decode cX2_plans 1 = .ok (.getfield 18, 3) := dk_180 0 18 (dk_at dksX2_plans_0 1 rfl rfl)
theorem dX2_plans_4 : decode cX2_plans 4 = .ok (.invokeinterface 100 1, 5) := by decide +kernel
theorem dX2_plans_9 : decode cX2_plans 9 = .ok (.bipush 8, 2) := dk_16 8 (dk_at dksX2_plans_0 9 rfl rfl)
theorem dX2_plans_11 : decode cX2_plans 11 = .ok (.if_icmp .ge 7, 3) := dk_162 0 7 (dk_at dksX2_plans_0 11 rfl rfl)
theorem dX2_plans_14 : decode cX2_plans 14 = .ok (.iconst 1, 1) := dk_4 (dk_at dksX2_plans_0 14 rfl rfl)
theorem dX2_plans_15 : decode cX2_plans 15 = .ok (.goto 4, 3) := dk_167 0 4 (dk_at dksX2_plans_0 15 rfl rfl)
theorem dX2_plans_18 : decode cX2_plans 18 = .ok (.iconst 0, 1) := dk_3 (dk_at dksX2_plans_0 18 rfl rfl)
theorem dX2_plans_19 : decode cX2_plans 19 = .ok (.iconst 1, 1) := dk_4 (dk_at dksX2_plans_0 19 rfl rfl)
theorem dX2_plans_20 : decode cX2_plans 20 = .ok (.bipush 8, 2) := dk_16 8 (dk_at dksX2_plans_0 20 rfl rfl)
theorem dX2_plans_22 : decode cX2_plans 22 = .ok (.invokestatic 103, 3) := dk_184 0 103 (dk_at dksX2_plans_1 0 rfl rfl)
theorem dX2_plans_25 : decode cX2_plans 25 = .ok (.aload_n 0, 1) := dk_42 (dk_at dksX2_plans_1 3 rfl rfl)
theorem dX2_plans_26 : decode cX2_plans 26 = .ok (.getfield 18, 3) := dk_180 0 18 (dk_at dksX2_plans_1 4 rfl rfl)
theorem dX2_plans_29 : decode cX2_plans 29 = .ok (.new 62, 3) := dk_187 0 62 (dk_at dksX2_plans_1 7 rfl rfl)
theorem dX2_plans_32 : decode cX2_plans 32 = .ok (.dup, 1) := dk_89 (dk_at dksX2_plans_1 10 rfl rfl)
theorem dX2_plans_33 : decode cX2_plans 33 = .ok (.invokespecial 118, 3) := dk_183 0 118 (dk_at dksX2_plans_1 11 rfl rfl)
theorem dX2_plans_36 : decode cX2_plans 36 = .ok (.invokeinterface 58 2, 5) := by decide +kernel
theorem dX2_plans_41 : decode cX2_plans 41 = .ok (.pop, 1) := dk_87 (dk_at dksX2_plans_1 19 rfl rfl)
theorem dX2_plans_42 : decode cX2_plans 42 = .ok (.aload_n 0, 1) := dk_42 (dk_at dksX2_plans_1 20 rfl rfl)
theorem dX2_plans_43 : decode cX2_plans 43 = .ok (.getfield 18, 3) := dk_180 0 18 (dk_at dksX2_plans_1 21 rfl rfl)
theorem dX2_plans_46 : decode cX2_plans 46 = .ok (.invokeinterface 100 1, 5) := by decide +kernel
theorem dX2_plans_51 : decode cX2_plans 51 = .ok (.iconst 1, 1) := dk_4 (dk_at dksX2_plans_2 5 rfl rfl)
theorem dX2_plans_52 : decode cX2_plans 52 = .ok (.isub, 1) := dk_100 (dk_at dksX2_plans_2 6 rfl rfl)
theorem dX2_plans_53 : decode cX2_plans 53 = .ok (.ireturn, 1) := dk_172 (dk_at dksX2_plans_2 7 rfl rfl)
abbrev cX2_courses : ByteArray := prog_14_method_5_code
theorem dX2_courses_0 : decode cX2_courses 0 = .ok (.aload_n 0, 1) := by decide +kernel
theorem dX2_courses_1 : decode cX2_courses 1 = .ok (.getfield 18, 3) := by decide +kernel
theorem dX2_courses_4 : decode cX2_courses 4 = .ok (.areturn, 1) := by decide +kernel
abbrev cX2_givesDish : ByteArray := prog_14_method_14_code
def dkwX2_givesDish_4 : List UInt8 := [182, 0, 153, 172]
abbrev dktX2_givesDish_4 : List UInt8 := dkwX2_givesDish_4 ++ []
def dkwX2_givesDish_3 : List UInt8 := [184, 0, 139, 187, 0, 131, 89, 29, 21, 4, 183, 0, 145, 182, 0, 147, 87, 25, 5, 182, 0, 135]
abbrev dktX2_givesDish_3 : List UInt8 := dkwX2_givesDish_3 ++ dktX2_givesDish_4
def dkwX2_givesDish_2 : List UInt8 := [7, 25, 6, 199, 0, 7, 2, 167, 0, 8, 25, 6, 182, 0, 130, 184, 0, 103, 25, 5, 182, 0, 135, 28]
abbrev dktX2_givesDish_2 : List UInt8 := dkwX2_givesDish_2 ++ dktX2_givesDish_3
def dkwX2_givesDish_1 : List UInt8 := [182, 0, 123, 184, 0, 103, 25, 5, 28, 182, 0, 126, 58, 6, 25, 6, 199, 0, 7, 4, 167, 0, 4, 3]
abbrev dktX2_givesDish_1 : List UInt8 := dkwX2_givesDish_1 ++ dktX2_givesDish_2
def dkwX2_givesDish_0 : List UInt8 := [42, 27, 182, 0, 119, 58, 5, 25, 5, 182, 0, 123, 154, 0, 7, 4, 167, 0, 4, 3, 6, 25, 5]
abbrev dktX2_givesDish_0 : List UInt8 := dkwX2_givesDish_0 ++ dktX2_givesDish_1
theorem dksX2_givesDish_0 : cX2_givesDish.data.toList.drop 0 = dktX2_givesDish_0 := by decide +kernel
theorem dksX2_givesDish_1 : cX2_givesDish.data.toList.drop 23 = dktX2_givesDish_1 := dk_seg dksX2_givesDish_0 23 rfl rfl
theorem dksX2_givesDish_2 : cX2_givesDish.data.toList.drop 47 = dktX2_givesDish_2 := dk_seg dksX2_givesDish_1 24 rfl rfl
theorem dksX2_givesDish_3 : cX2_givesDish.data.toList.drop 71 = dktX2_givesDish_3 := dk_seg dksX2_givesDish_2 24 rfl rfl
theorem dksX2_givesDish_4 : cX2_givesDish.data.toList.drop 93 = dktX2_givesDish_4 := dk_seg dksX2_givesDish_3 22 rfl rfl
theorem dX2_givesDish_0 : decode cX2_givesDish 0 = .ok (.aload_n 0, 1) := dk_42 (dk_at dksX2_givesDish_0 0 rfl rfl)
theorem dX2_givesDish_1 : decode cX2_givesDish 1 = .ok (.iload_n 1, 1) := dk_27 (dk_at dksX2_givesDish_0 1 rfl rfl)
theorem dX2_givesDish_2 : decode cX2_givesDish 2 = .ok (.invokevirtual 119, 3) := dk_182 0 119 (dk_at dksX2_givesDish_0 2 rfl rfl)
theorem dX2_givesDish_5 : decode cX2_givesDish 5 = .ok (.astore 5, 2) := dk_58 5 (dk_at dksX2_givesDish_0 5 rfl rfl)
theorem dX2_givesDish_7 : decode cX2_givesDish 7 = .ok (.aload 5, 2) := dk_25 5 (dk_at dksX2_givesDish_0 7 rfl rfl)
theorem dX2_givesDish_9 : decode cX2_givesDish 9 = .ok (.invokevirtual 123, 3) := dk_182 0 123 (dk_at dksX2_givesDish_0 9 rfl rfl)
theorem dX2_givesDish_12 : decode cX2_givesDish 12 = .ok (.ifCond .ne 7, 3) := dk_154 0 7 (dk_at dksX2_givesDish_0 12 rfl rfl)
theorem dX2_givesDish_15 : decode cX2_givesDish 15 = .ok (.iconst 1, 1) := dk_4 (dk_at dksX2_givesDish_0 15 rfl rfl)
theorem dX2_givesDish_16 : decode cX2_givesDish 16 = .ok (.goto 4, 3) := dk_167 0 4 (dk_at dksX2_givesDish_0 16 rfl rfl)
theorem dX2_givesDish_19 : decode cX2_givesDish 19 = .ok (.iconst 0, 1) := dk_3 (dk_at dksX2_givesDish_0 19 rfl rfl)
theorem dX2_givesDish_20 : decode cX2_givesDish 20 = .ok (.iconst 3, 1) := dk_6 (dk_at dksX2_givesDish_0 20 rfl rfl)
theorem dX2_givesDish_21 : decode cX2_givesDish 21 = .ok (.aload 5, 2) := dk_25 5 (dk_at dksX2_givesDish_0 21 rfl rfl)
theorem dX2_givesDish_23 : decode cX2_givesDish 23 = .ok (.invokevirtual 123, 3) := dk_182 0 123 (dk_at dksX2_givesDish_1 0 rfl rfl)
theorem dX2_givesDish_26 : decode cX2_givesDish 26 = .ok (.invokestatic 103, 3) := dk_184 0 103 (dk_at dksX2_givesDish_1 3 rfl rfl)
theorem dX2_givesDish_29 : decode cX2_givesDish 29 = .ok (.aload 5, 2) := dk_25 5 (dk_at dksX2_givesDish_1 6 rfl rfl)
theorem dX2_givesDish_31 : decode cX2_givesDish 31 = .ok (.iload_n 2, 1) := dk_28 (dk_at dksX2_givesDish_1 8 rfl rfl)
theorem dX2_givesDish_32 : decode cX2_givesDish 32 = .ok (.invokevirtual 126, 3) := dk_182 0 126 (dk_at dksX2_givesDish_1 9 rfl rfl)
theorem dX2_givesDish_35 : decode cX2_givesDish 35 = .ok (.astore 6, 2) := dk_58 6 (dk_at dksX2_givesDish_1 12 rfl rfl)
theorem dX2_givesDish_37 : decode cX2_givesDish 37 = .ok (.aload 6, 2) := dk_25 6 (dk_at dksX2_givesDish_1 14 rfl rfl)
theorem dX2_givesDish_39 : decode cX2_givesDish 39 = .ok (.ifnonnull 7, 3) := dk_199 0 7 (dk_at dksX2_givesDish_1 16 rfl rfl)
theorem dX2_givesDish_42 : decode cX2_givesDish 42 = .ok (.iconst 1, 1) := dk_4 (dk_at dksX2_givesDish_1 19 rfl rfl)
theorem dX2_givesDish_43 : decode cX2_givesDish 43 = .ok (.goto 4, 3) := dk_167 0 4 (dk_at dksX2_givesDish_1 20 rfl rfl)
theorem dX2_givesDish_46 : decode cX2_givesDish 46 = .ok (.iconst 0, 1) := dk_3 (dk_at dksX2_givesDish_1 23 rfl rfl)
theorem dX2_givesDish_47 : decode cX2_givesDish 47 = .ok (.iconst 4, 1) := dk_7 (dk_at dksX2_givesDish_2 0 rfl rfl)
theorem dX2_givesDish_48 : decode cX2_givesDish 48 = .ok (.aload 6, 2) := dk_25 6 (dk_at dksX2_givesDish_2 1 rfl rfl)
theorem dX2_givesDish_50 : decode cX2_givesDish 50 = .ok (.ifnonnull 7, 3) := dk_199 0 7 (dk_at dksX2_givesDish_2 3 rfl rfl)
theorem dX2_givesDish_53 : decode cX2_givesDish 53 = .ok (.iconst (-1), 1) := dk_2 (dk_at dksX2_givesDish_2 6 rfl rfl)
theorem dX2_givesDish_54 : decode cX2_givesDish 54 = .ok (.goto 8, 3) := dk_167 0 8 (dk_at dksX2_givesDish_2 7 rfl rfl)
theorem dX2_givesDish_57 : decode cX2_givesDish 57 = .ok (.aload 6, 2) := dk_25 6 (dk_at dksX2_givesDish_2 10 rfl rfl)
theorem dX2_givesDish_59 : decode cX2_givesDish 59 = .ok (.invokevirtual 130, 3) := dk_182 0 130 (dk_at dksX2_givesDish_2 12 rfl rfl)
theorem dX2_givesDish_62 : decode cX2_givesDish 62 = .ok (.invokestatic 103, 3) := dk_184 0 103 (dk_at dksX2_givesDish_2 15 rfl rfl)
theorem dX2_givesDish_65 : decode cX2_givesDish 65 = .ok (.aload 5, 2) := dk_25 5 (dk_at dksX2_givesDish_2 18 rfl rfl)
theorem dX2_givesDish_67 : decode cX2_givesDish 67 = .ok (.invokevirtual 135, 3) := dk_182 0 135 (dk_at dksX2_givesDish_2 20 rfl rfl)
theorem dX2_givesDish_70 : decode cX2_givesDish 70 = .ok (.iload_n 2, 1) := dk_28 (dk_at dksX2_givesDish_2 23 rfl rfl)
theorem dX2_givesDish_71 : decode cX2_givesDish 71 = .ok (.invokestatic 139, 3) := dk_184 0 139 (dk_at dksX2_givesDish_3 0 rfl rfl)
theorem dX2_givesDish_74 : decode cX2_givesDish 74 = .ok (.new 131, 3) := dk_187 0 131 (dk_at dksX2_givesDish_3 3 rfl rfl)
theorem dX2_givesDish_77 : decode cX2_givesDish 77 = .ok (.dup, 1) := dk_89 (dk_at dksX2_givesDish_3 6 rfl rfl)
theorem dX2_givesDish_78 : decode cX2_givesDish 78 = .ok (.iload_n 3, 1) := dk_29 (dk_at dksX2_givesDish_3 7 rfl rfl)
theorem dX2_givesDish_79 : decode cX2_givesDish 79 = .ok (.iload 4, 2) := dk_21 4 (dk_at dksX2_givesDish_3 8 rfl rfl)
theorem dX2_givesDish_81 : decode cX2_givesDish 81 = .ok (.invokespecial 145, 3) := dk_183 0 145 (dk_at dksX2_givesDish_3 10 rfl rfl)
theorem dX2_givesDish_84 : decode cX2_givesDish 84 = .ok (.invokevirtual 147, 3) := dk_182 0 147 (dk_at dksX2_givesDish_3 13 rfl rfl)
theorem dX2_givesDish_87 : decode cX2_givesDish 87 = .ok (.pop, 1) := dk_87 (dk_at dksX2_givesDish_3 16 rfl rfl)
theorem dX2_givesDish_88 : decode cX2_givesDish 88 = .ok (.aload 5, 2) := dk_25 5 (dk_at dksX2_givesDish_3 17 rfl rfl)
theorem dX2_givesDish_90 : decode cX2_givesDish 90 = .ok (.invokevirtual 135, 3) := dk_182 0 135 (dk_at dksX2_givesDish_3 19 rfl rfl)
theorem dX2_givesDish_93 : decode cX2_givesDish 93 = .ok (.invokevirtual 153, 3) := dk_182 0 153 (dk_at dksX2_givesDish_4 0 rfl rfl)
theorem dX2_givesDish_96 : decode cX2_givesDish 96 = .ok (.ireturn, 1) := dk_172 (dk_at dksX2_givesDish_4 3 rfl rfl)
abbrev cX2_course : ByteArray := prog_14_method_6_code
def dkwX2_course_0 : List UInt8 := [42, 180, 0, 18, 27, 185, 0, 82, 2, 0, 192, 0, 62, 176]
abbrev dktX2_course_0 : List UInt8 := dkwX2_course_0 ++ []
theorem dksX2_course_0 : cX2_course.data.toList.drop 0 = dktX2_course_0 := by decide +kernel
theorem dX2_course_0 : decode cX2_course 0 = .ok (.aload_n 0, 1) := dk_42 (dk_at dksX2_course_0 0 rfl rfl)
theorem dX2_course_1 : decode cX2_course 1 = .ok (.getfield 18, 3) := dk_180 0 18 (dk_at dksX2_course_0 1 rfl rfl)
theorem dX2_course_4 : decode cX2_course 4 = .ok (.iload_n 1, 1) := dk_27 (dk_at dksX2_course_0 4 rfl rfl)
theorem dX2_course_5 : decode cX2_course 5 = .ok (.invokeinterface 82 2, 5) := by decide +kernel
theorem dX2_course_10 : decode cX2_course 10 = .ok (.checkcast 62, 3) := dk_192 0 62 (dk_at dksX2_course_0 10 rfl rfl)
theorem dX2_course_13 : decode cX2_course 13 = .ok (.areturn, 1) := dk_176 (dk_at dksX2_course_0 13 rfl rfl)
abbrev cX2_free : ByteArray := prog_14_method_16_code
def dkwX2_free_0 : List UInt8 := [42, 27, 182, 0, 86, 28, 182, 0, 110, 42, 27, 28, 182, 0, 160, 100, 172]
abbrev dktX2_free_0 : List UInt8 := dkwX2_free_0 ++ []
theorem dksX2_free_0 : cX2_free.data.toList.drop 0 = dktX2_free_0 := by decide +kernel
theorem dX2_free_0 : decode cX2_free 0 = .ok (.aload_n 0, 1) := dk_42 (dk_at dksX2_free_0 0 rfl rfl)
theorem dX2_free_1 : decode cX2_free 1 = .ok (.iload_n 1, 1) := dk_27 (dk_at dksX2_free_0 1 rfl rfl)
theorem dX2_free_2 : decode cX2_free 2 = .ok (.invokevirtual 86, 3) := dk_182 0 86 (dk_at dksX2_free_0 2 rfl rfl)
theorem dX2_free_5 : decode cX2_free 5 = .ok (.iload_n 2, 1) := dk_28 (dk_at dksX2_free_0 5 rfl rfl)
theorem dX2_free_6 : decode cX2_free 6 = .ok (.invokevirtual 110, 3) := dk_182 0 110 (dk_at dksX2_free_0 6 rfl rfl)
theorem dX2_free_9 : decode cX2_free 9 = .ok (.aload_n 0, 1) := dk_42 (dk_at dksX2_free_0 9 rfl rfl)
theorem dX2_free_10 : decode cX2_free 10 = .ok (.iload_n 1, 1) := dk_27 (dk_at dksX2_free_0 10 rfl rfl)
theorem dX2_free_11 : decode cX2_free 11 = .ok (.iload_n 2, 1) := dk_28 (dk_at dksX2_free_0 11 rfl rfl)
theorem dX2_free_12 : decode cX2_free 12 = .ok (.invokevirtual 160, 3) := dk_182 0 160 (dk_at dksX2_free_0 12 rfl rfl)
theorem dX2_free_15 : decode cX2_free 15 = .ok (.isub, 1) := dk_100 (dk_at dksX2_free_0 15 rfl rfl)
theorem dX2_free_16 : decode cX2_free 16 = .ok (.ireturn, 1) := dk_172 (dk_at dksX2_free_0 16 rfl rfl)
abbrev cX2_reserved : ByteArray := prog_14_method_15_code
def dkwX2_reserved_3 : List UInt8 := [182, 0, 157, 167, 0, 4, 3, 96, 62, 167, 255, 192, 29, 172]
abbrev dktX2_reserved_3 : List UInt8 := dkwX2_reserved_3 ++ []
def dkwX2_reserved_2 : List UInt8 := [198, 0, 28, 25, 6, 182, 0, 154, 153, 0, 20, 25, 6, 182, 0, 130, 28, 160, 0, 11, 25, 6]
abbrev dktX2_reserved_2 : List UInt8 := dkwX2_reserved_2 ++ dktX2_reserved_3
def dkwX2_reserved_1 : List UInt8 := [25, 4, 185, 0, 48, 1, 0, 192, 0, 62, 58, 5, 25, 5, 27, 182, 0, 126, 58, 6, 29, 25, 6]
abbrev dktX2_reserved_1 : List UInt8 := dkwX2_reserved_1 ++ dktX2_reserved_2
def dkwX2_reserved_0 : List UInt8 := [3, 62, 42, 180, 0, 18, 185, 0, 36, 1, 0, 58, 4, 25, 4, 185, 0, 42, 1, 0, 153, 0, 60]
abbrev dktX2_reserved_0 : List UInt8 := dkwX2_reserved_0 ++ dktX2_reserved_1
theorem dksX2_reserved_0 : cX2_reserved.data.toList.drop 0 = dktX2_reserved_0 := by decide +kernel
theorem dksX2_reserved_1 : cX2_reserved.data.toList.drop 23 = dktX2_reserved_1 := dk_seg dksX2_reserved_0 23 rfl rfl
theorem dksX2_reserved_2 : cX2_reserved.data.toList.drop 46 = dktX2_reserved_2 := dk_seg dksX2_reserved_1 23 rfl rfl
theorem dksX2_reserved_3 : cX2_reserved.data.toList.drop 68 = dktX2_reserved_3 := dk_seg dksX2_reserved_2 22 rfl rfl
theorem dX2_reserved_0 : decode cX2_reserved 0 = .ok (.iconst 0, 1) := dk_3 (dk_at dksX2_reserved_0 0 rfl rfl)
theorem dX2_reserved_1 : decode cX2_reserved 1 = .ok (.istore_n 3, 1) := dk_62 (dk_at dksX2_reserved_0 1 rfl rfl)
theorem dX2_reserved_2 : decode cX2_reserved 2 = .ok (.aload_n 0, 1) := dk_42 (dk_at dksX2_reserved_0 2 rfl rfl)
theorem dX2_reserved_3 : decode cX2_reserved 3 = .ok (.getfield 18, 3) := dk_180 0 18 (dk_at dksX2_reserved_0 3 rfl rfl)
theorem dX2_reserved_6 : decode cX2_reserved 6 = .ok (.invokeinterface 36 1, 5) := by decide +kernel
theorem dX2_reserved_11 : decode cX2_reserved 11 = .ok (.astore 4, 2) := dk_58 4 (dk_at dksX2_reserved_0 11 rfl rfl)
theorem dX2_reserved_13 : decode cX2_reserved 13 = .ok (.aload 4, 2) := dk_25 4 (dk_at dksX2_reserved_0 13 rfl rfl)
theorem dX2_reserved_15 : decode cX2_reserved 15 = .ok (.invokeinterface 42 1, 5) := by decide +kernel
theorem dX2_reserved_20 : decode cX2_reserved 20 = .ok (.ifCond .eq 60, 3) := dk_153 0 60 (dk_at dksX2_reserved_0 20 rfl rfl)
theorem dX2_reserved_23 : decode cX2_reserved 23 = .ok (.aload 4, 2) := dk_25 4 (dk_at dksX2_reserved_1 0 rfl rfl)
theorem dX2_reserved_25 : decode cX2_reserved 25 = .ok (.invokeinterface 48 1, 5) := by decide +kernel
theorem dX2_reserved_30 : decode cX2_reserved 30 = .ok (.checkcast 62, 3) := dk_192 0 62 (dk_at dksX2_reserved_1 7 rfl rfl)
theorem dX2_reserved_33 : decode cX2_reserved 33 = .ok (.astore 5, 2) := dk_58 5 (dk_at dksX2_reserved_1 10 rfl rfl)
theorem dX2_reserved_35 : decode cX2_reserved 35 = .ok (.aload 5, 2) := dk_25 5 (dk_at dksX2_reserved_1 12 rfl rfl)
theorem dX2_reserved_37 : decode cX2_reserved 37 = .ok (.iload_n 1, 1) := dk_27 (dk_at dksX2_reserved_1 14 rfl rfl)
theorem dX2_reserved_38 : decode cX2_reserved 38 = .ok (.invokevirtual 126, 3) := dk_182 0 126 (dk_at dksX2_reserved_1 15 rfl rfl)
theorem dX2_reserved_41 : decode cX2_reserved 41 = .ok (.astore 6, 2) := dk_58 6 (dk_at dksX2_reserved_1 18 rfl rfl)
theorem dX2_reserved_43 : decode cX2_reserved 43 = .ok (.iload_n 3, 1) := dk_29 (dk_at dksX2_reserved_1 20 rfl rfl)
theorem dX2_reserved_44 : decode cX2_reserved 44 = .ok (.aload 6, 2) := dk_25 6 (dk_at dksX2_reserved_1 21 rfl rfl)
theorem dX2_reserved_46 : decode cX2_reserved 46 = .ok (.ifnull 28, 3) := dk_198 0 28 (dk_at dksX2_reserved_2 0 rfl rfl)
theorem dX2_reserved_49 : decode cX2_reserved 49 = .ok (.aload 6, 2) := dk_25 6 (dk_at dksX2_reserved_2 3 rfl rfl)
theorem dX2_reserved_51 : decode cX2_reserved 51 = .ok (.invokevirtual 154, 3) := dk_182 0 154 (dk_at dksX2_reserved_2 5 rfl rfl)
theorem dX2_reserved_54 : decode cX2_reserved 54 = .ok (.ifCond .eq 20, 3) := dk_153 0 20 (dk_at dksX2_reserved_2 8 rfl rfl)
theorem dX2_reserved_57 : decode cX2_reserved 57 = .ok (.aload 6, 2) := dk_25 6 (dk_at dksX2_reserved_2 11 rfl rfl)
theorem dX2_reserved_59 : decode cX2_reserved 59 = .ok (.invokevirtual 130, 3) := dk_182 0 130 (dk_at dksX2_reserved_2 13 rfl rfl)
theorem dX2_reserved_62 : decode cX2_reserved 62 = .ok (.iload_n 2, 1) := dk_28 (dk_at dksX2_reserved_2 16 rfl rfl)
theorem dX2_reserved_63 : decode cX2_reserved 63 = .ok (.if_icmp .ne 11, 3) := dk_160 0 11 (dk_at dksX2_reserved_2 17 rfl rfl)
theorem dX2_reserved_66 : decode cX2_reserved 66 = .ok (.aload 6, 2) := dk_25 6 (dk_at dksX2_reserved_2 20 rfl rfl)
theorem dX2_reserved_68 : decode cX2_reserved 68 = .ok (.invokevirtual 157, 3) := dk_182 0 157 (dk_at dksX2_reserved_3 0 rfl rfl)
theorem dX2_reserved_71 : decode cX2_reserved 71 = .ok (.goto 4, 3) := dk_167 0 4 (dk_at dksX2_reserved_3 3 rfl rfl)
theorem dX2_reserved_74 : decode cX2_reserved 74 = .ok (.iconst 0, 1) := dk_3 (dk_at dksX2_reserved_3 6 rfl rfl)
theorem dX2_reserved_75 : decode cX2_reserved 75 = .ok (.iadd, 1) := dk_96 (dk_at dksX2_reserved_3 7 rfl rfl)
theorem dX2_reserved_76 : decode cX2_reserved 76 = .ok (.istore_n 3, 1) := dk_62 (dk_at dksX2_reserved_3 8 rfl rfl)
theorem dX2_reserved_77 : decode cX2_reserved 77 = .ok (.goto (-64), 3) := dk_167 255 192 (dk_at dksX2_reserved_3 9 rfl rfl)
theorem dX2_reserved_80 : decode cX2_reserved 80 = .ok (.iload_n 3, 1) := dk_29 (dk_at dksX2_reserved_3 12 rfl rfl)
theorem dX2_reserved_81 : decode cX2_reserved 81 = .ok (.ireturn, 1) := dk_172 (dk_at dksX2_reserved_3 13 rfl rfl)
abbrev cX2_freeAgain : ByteArray := prog_14_method_17_code
def dkwX2_freeAgain_0 : List UInt8 := [42, 27, 182, 0, 86, 28, 182, 0, 164, 42, 27, 28, 182, 0, 160, 100, 172]
abbrev dktX2_freeAgain_0 : List UInt8 := dkwX2_freeAgain_0 ++ []
theorem dksX2_freeAgain_0 : cX2_freeAgain.data.toList.drop 0 = dktX2_freeAgain_0 := by decide +kernel
theorem dX2_freeAgain_0 : decode cX2_freeAgain 0 = .ok (.aload_n 0, 1) := dk_42 (dk_at dksX2_freeAgain_0 0 rfl rfl)
theorem dX2_freeAgain_1 : decode cX2_freeAgain 1 = .ok (.iload_n 1, 1) := dk_27 (dk_at dksX2_freeAgain_0 1 rfl rfl)
theorem dX2_freeAgain_2 : decode cX2_freeAgain 2 = .ok (.invokevirtual 86, 3) := dk_182 0 86 (dk_at dksX2_freeAgain_0 2 rfl rfl)
theorem dX2_freeAgain_5 : decode cX2_freeAgain 5 = .ok (.iload_n 2, 1) := dk_28 (dk_at dksX2_freeAgain_0 5 rfl rfl)
theorem dX2_freeAgain_6 : decode cX2_freeAgain 6 = .ok (.invokevirtual 164, 3) := dk_182 0 164 (dk_at dksX2_freeAgain_0 6 rfl rfl)
theorem dX2_freeAgain_9 : decode cX2_freeAgain 9 = .ok (.aload_n 0, 1) := dk_42 (dk_at dksX2_freeAgain_0 9 rfl rfl)
theorem dX2_freeAgain_10 : decode cX2_freeAgain 10 = .ok (.iload_n 1, 1) := dk_27 (dk_at dksX2_freeAgain_0 10 rfl rfl)
theorem dX2_freeAgain_11 : decode cX2_freeAgain 11 = .ok (.iload_n 2, 1) := dk_28 (dk_at dksX2_freeAgain_0 11 rfl rfl)
theorem dX2_freeAgain_12 : decode cX2_freeAgain 12 = .ok (.invokevirtual 160, 3) := dk_182 0 160 (dk_at dksX2_freeAgain_0 12 rfl rfl)
theorem dX2_freeAgain_15 : decode cX2_freeAgain 15 = .ok (.isub, 1) := dk_100 (dk_at dksX2_freeAgain_0 15 rfl rfl)
theorem dX2_freeAgain_16 : decode cX2_freeAgain 16 = .ok (.ireturn, 1) := dk_172 (dk_at dksX2_freeAgain_0 16 rfl rfl)
abbrev cX2_asks : ByteArray := prog_14_method_19_code
def dkwX2_asks_6 : List UInt8 := [182, 0, 195, 183, 0, 198, 182, 0, 200, 87, 167, 255, 209, 44, 182, 0, 135, 182, 0, 153, 172]
abbrev dktX2_asks_6 : List UInt8 := dkwX2_asks_6 ++ []
def dkwX2_asks_5 : List UInt8 := [192, 0, 140, 182, 0, 190, 54, 4, 42, 180, 0, 31, 187, 0, 193, 89, 21, 4, 27, 42, 21, 4]
abbrev dktX2_asks_5 : List UInt8 := dkwX2_asks_5 ++ dktX2_asks_6
def dkwX2_asks_4 : List UInt8 := [182, 0, 183, 185, 0, 187, 1, 0, 78, 45, 185, 0, 42, 1, 0, 153, 0, 44, 45, 185, 0, 48, 1, 0]
abbrev dktX2_asks_4 : List UInt8 := dkwX2_asks_4 ++ dktX2_asks_5
def dkwX2_asks_3 : List UInt8 := [180, 0, 75, 182, 0, 176, 42, 180, 0, 24, 3, 27, 42, 180, 0, 75, 182, 0, 179, 44, 182, 0, 135]
abbrev dktX2_asks_3 : List UInt8 := dkwX2_asks_3 ++ dktX2_asks_4
def dkwX2_asks_2 : List UInt8 := [44, 182, 0, 135, 182, 0, 173, 154, 0, 7, 4, 167, 0, 4, 3, 8, 27, 184, 0, 103, 44, 42]
abbrev dktX2_asks_2 : List UInt8 := dkwX2_asks_2 ++ dktX2_asks_3
def dkwX2_asks_1 : List UInt8 := [182, 0, 119, 77, 44, 182, 0, 123, 154, 0, 7, 4, 167, 0, 4, 3, 6, 44, 182, 0, 123, 184, 0, 103]
abbrev dktX2_asks_1 : List UInt8 := dkwX2_asks_1 ++ dktX2_asks_2
def dkwX2_asks_0 : List UInt8 := [42, 180, 0, 24, 182, 0, 170, 154, 0, 7, 4, 167, 0, 4, 3, 16, 6, 2, 184, 0, 103, 42, 27]
abbrev dktX2_asks_0 : List UInt8 := dkwX2_asks_0 ++ dktX2_asks_1
theorem dksX2_asks_0 : cX2_asks.data.toList.drop 0 = dktX2_asks_0 := by decide +kernel
theorem dksX2_asks_1 : cX2_asks.data.toList.drop 23 = dktX2_asks_1 := dk_seg dksX2_asks_0 23 rfl rfl
theorem dksX2_asks_2 : cX2_asks.data.toList.drop 47 = dktX2_asks_2 := dk_seg dksX2_asks_1 24 rfl rfl
theorem dksX2_asks_3 : cX2_asks.data.toList.drop 69 = dktX2_asks_3 := dk_seg dksX2_asks_2 22 rfl rfl
theorem dksX2_asks_4 : cX2_asks.data.toList.drop 92 = dktX2_asks_4 := dk_seg dksX2_asks_3 23 rfl rfl
theorem dksX2_asks_5 : cX2_asks.data.toList.drop 116 = dktX2_asks_5 := dk_seg dksX2_asks_4 24 rfl rfl
theorem dksX2_asks_6 : cX2_asks.data.toList.drop 138 = dktX2_asks_6 := dk_seg dksX2_asks_5 22 rfl rfl
theorem dX2_asks_0 : decode cX2_asks 0 = .ok (.aload_n 0, 1) := dk_42 (dk_at dksX2_asks_0 0 rfl rfl)
theorem dX2_asks_1 : decode cX2_asks 1 = .ok (.getfield 24, 3) := dk_180 0 24 (dk_at dksX2_asks_0 1 rfl rfl)
theorem dX2_asks_4 : decode cX2_asks 4 = .ok (.invokevirtual 170, 3) := dk_182 0 170 (dk_at dksX2_asks_0 4 rfl rfl)
theorem dX2_asks_7 : decode cX2_asks 7 = .ok (.ifCond .ne 7, 3) := dk_154 0 7 (dk_at dksX2_asks_0 7 rfl rfl)
theorem dX2_asks_10 : decode cX2_asks 10 = .ok (.iconst 1, 1) := dk_4 (dk_at dksX2_asks_0 10 rfl rfl)
theorem dX2_asks_11 : decode cX2_asks 11 = .ok (.goto 4, 3) := dk_167 0 4 (dk_at dksX2_asks_0 11 rfl rfl)
theorem dX2_asks_14 : decode cX2_asks 14 = .ok (.iconst 0, 1) := dk_3 (dk_at dksX2_asks_0 14 rfl rfl)
theorem dX2_asks_15 : decode cX2_asks 15 = .ok (.bipush 6, 2) := dk_16 6 (dk_at dksX2_asks_0 15 rfl rfl)
theorem dX2_asks_17 : decode cX2_asks 17 = .ok (.iconst (-1), 1) := dk_2 (dk_at dksX2_asks_0 17 rfl rfl)
theorem dX2_asks_18 : decode cX2_asks 18 = .ok (.invokestatic 103, 3) := dk_184 0 103 (dk_at dksX2_asks_0 18 rfl rfl)
theorem dX2_asks_21 : decode cX2_asks 21 = .ok (.aload_n 0, 1) := dk_42 (dk_at dksX2_asks_0 21 rfl rfl)
theorem dX2_asks_22 : decode cX2_asks 22 = .ok (.iload_n 1, 1) := dk_27 (dk_at dksX2_asks_0 22 rfl rfl)
theorem dX2_asks_23 : decode cX2_asks 23 = .ok (.invokevirtual 119, 3) := dk_182 0 119 (dk_at dksX2_asks_1 0 rfl rfl)
theorem dX2_asks_26 : decode cX2_asks 26 = .ok (.astore_n 2, 1) := dk_77 (dk_at dksX2_asks_1 3 rfl rfl)
theorem dX2_asks_27 : decode cX2_asks 27 = .ok (.aload_n 2, 1) := dk_44 (dk_at dksX2_asks_1 4 rfl rfl)
theorem dX2_asks_28 : decode cX2_asks 28 = .ok (.invokevirtual 123, 3) := dk_182 0 123 (dk_at dksX2_asks_1 5 rfl rfl)
theorem dX2_asks_31 : decode cX2_asks 31 = .ok (.ifCond .ne 7, 3) := dk_154 0 7 (dk_at dksX2_asks_1 8 rfl rfl)
theorem dX2_asks_34 : decode cX2_asks 34 = .ok (.iconst 1, 1) := dk_4 (dk_at dksX2_asks_1 11 rfl rfl)
theorem dX2_asks_35 : decode cX2_asks 35 = .ok (.goto 4, 3) := dk_167 0 4 (dk_at dksX2_asks_1 12 rfl rfl)
theorem dX2_asks_38 : decode cX2_asks 38 = .ok (.iconst 0, 1) := dk_3 (dk_at dksX2_asks_1 15 rfl rfl)
theorem dX2_asks_39 : decode cX2_asks 39 = .ok (.iconst 3, 1) := dk_6 (dk_at dksX2_asks_1 16 rfl rfl)
theorem dX2_asks_40 : decode cX2_asks 40 = .ok (.aload_n 2, 1) := dk_44 (dk_at dksX2_asks_1 17 rfl rfl)
theorem dX2_asks_41 : decode cX2_asks 41 = .ok (.invokevirtual 123, 3) := dk_182 0 123 (dk_at dksX2_asks_1 18 rfl rfl)
theorem dX2_asks_44 : decode cX2_asks 44 = .ok (.invokestatic 103, 3) := dk_184 0 103 (dk_at dksX2_asks_1 21 rfl rfl)
theorem dX2_asks_47 : decode cX2_asks 47 = .ok (.aload_n 2, 1) := dk_44 (dk_at dksX2_asks_2 0 rfl rfl)
theorem dX2_asks_48 : decode cX2_asks 48 = .ok (.invokevirtual 135, 3) := dk_182 0 135 (dk_at dksX2_asks_2 1 rfl rfl)
theorem dX2_asks_51 : decode cX2_asks 51 = .ok (.invokevirtual 173, 3) := dk_182 0 173 (dk_at dksX2_asks_2 4 rfl rfl)
theorem dX2_asks_54 : decode cX2_asks 54 = .ok (.ifCond .ne 7, 3) := dk_154 0 7 (dk_at dksX2_asks_2 7 rfl rfl)
theorem dX2_asks_57 : decode cX2_asks 57 = .ok (.iconst 1, 1) := dk_4 (dk_at dksX2_asks_2 10 rfl rfl)
theorem dX2_asks_58 : decode cX2_asks 58 = .ok (.goto 4, 3) := dk_167 0 4 (dk_at dksX2_asks_2 11 rfl rfl)
theorem dX2_asks_61 : decode cX2_asks 61 = .ok (.iconst 0, 1) := dk_3 (dk_at dksX2_asks_2 14 rfl rfl)
theorem dX2_asks_62 : decode cX2_asks 62 = .ok (.iconst 5, 1) := dk_8 (dk_at dksX2_asks_2 15 rfl rfl)
theorem dX2_asks_63 : decode cX2_asks 63 = .ok (.iload_n 1, 1) := dk_27 (dk_at dksX2_asks_2 16 rfl rfl)
theorem dX2_asks_64 : decode cX2_asks 64 = .ok (.invokestatic 103, 3) := dk_184 0 103 (dk_at dksX2_asks_2 17 rfl rfl)
theorem dX2_asks_67 : decode cX2_asks 67 = .ok (.aload_n 2, 1) := dk_44 (dk_at dksX2_asks_2 20 rfl rfl)
theorem dX2_asks_68 : decode cX2_asks 68 = .ok (.aload_n 0, 1) := dk_42 (dk_at dksX2_asks_2 21 rfl rfl)
theorem dX2_asks_69 : decode cX2_asks 69 = .ok (.getfield 75, 3) := dk_180 0 75 (dk_at dksX2_asks_3 0 rfl rfl)
theorem dX2_asks_72 : decode cX2_asks 72 = .ok (.invokevirtual 176, 3) := dk_182 0 176 (dk_at dksX2_asks_3 3 rfl rfl)
theorem dX2_asks_75 : decode cX2_asks 75 = .ok (.aload_n 0, 1) := dk_42 (dk_at dksX2_asks_3 6 rfl rfl)
theorem dX2_asks_76 : decode cX2_asks 76 = .ok (.getfield 24, 3) := dk_180 0 24 (dk_at dksX2_asks_3 7 rfl rfl)
theorem dX2_asks_79 : decode cX2_asks 79 = .ok (.iconst 0, 1) := dk_3 (dk_at dksX2_asks_3 10 rfl rfl)
theorem dX2_asks_80 : decode cX2_asks 80 = .ok (.iload_n 1, 1) := dk_27 (dk_at dksX2_asks_3 11 rfl rfl)
theorem dX2_asks_81 : decode cX2_asks 81 = .ok (.aload_n 0, 1) := dk_42 (dk_at dksX2_asks_3 12 rfl rfl)
theorem dX2_asks_82 : decode cX2_asks 82 = .ok (.getfield 75, 3) := dk_180 0 75 (dk_at dksX2_asks_3 13 rfl rfl)
theorem dX2_asks_85 : decode cX2_asks 85 = .ok (.invokevirtual 179, 3) := dk_182 0 179 (dk_at dksX2_asks_3 16 rfl rfl)
theorem dX2_asks_88 : decode cX2_asks 88 = .ok (.aload_n 2, 1) := dk_44 (dk_at dksX2_asks_3 19 rfl rfl)
theorem dX2_asks_89 : decode cX2_asks 89 = .ok (.invokevirtual 135, 3) := dk_182 0 135 (dk_at dksX2_asks_3 20 rfl rfl)
theorem dX2_asks_92 : decode cX2_asks 92 = .ok (.invokevirtual 183, 3) := dk_182 0 183 (dk_at dksX2_asks_4 0 rfl rfl)
theorem dX2_asks_95 : decode cX2_asks 95 = .ok (.invokeinterface 187 1, 5) := by decide +kernel
theorem dX2_asks_100 : decode cX2_asks 100 = .ok (.astore_n 3, 1) := dk_78 (dk_at dksX2_asks_4 8 rfl rfl)
theorem dX2_asks_101 : decode cX2_asks 101 = .ok (.aload_n 3, 1) := dk_45 (dk_at dksX2_asks_4 9 rfl rfl)
theorem dX2_asks_102 : decode cX2_asks 102 = .ok (.invokeinterface 42 1, 5) := by decide +kernel
theorem dX2_asks_107 : decode cX2_asks 107 = .ok (.ifCond .eq 44, 3) := dk_153 0 44 (dk_at dksX2_asks_4 15 rfl rfl)
theorem dX2_asks_110 : decode cX2_asks 110 = .ok (.aload_n 3, 1) := dk_45 (dk_at dksX2_asks_4 18 rfl rfl)
theorem dX2_asks_111 : decode cX2_asks 111 = .ok (.invokeinterface 48 1, 5) := by decide +kernel
theorem dX2_asks_116 : decode cX2_asks 116 = .ok (.checkcast 140, 3) := dk_192 0 140 (dk_at dksX2_asks_5 0 rfl rfl)
theorem dX2_asks_119 : decode cX2_asks 119 = .ok (.invokevirtual 190, 3) := dk_182 0 190 (dk_at dksX2_asks_5 3 rfl rfl)
theorem dX2_asks_122 : decode cX2_asks 122 = .ok (.istore 4, 2) := dk_54 4 (dk_at dksX2_asks_5 6 rfl rfl)
theorem dX2_asks_124 : decode cX2_asks 124 = .ok (.aload_n 0, 1) := dk_42 (dk_at dksX2_asks_5 8 rfl rfl)
theorem dX2_asks_125 : decode cX2_asks 125 = .ok (.getfield 31, 3) := dk_180 0 31 (dk_at dksX2_asks_5 9 rfl rfl)
theorem dX2_asks_128 : decode cX2_asks 128 = .ok (.new 193, 3) := dk_187 0 193 (dk_at dksX2_asks_5 12 rfl rfl)
theorem dX2_asks_131 : decode cX2_asks 131 = .ok (.dup, 1) := dk_89 (dk_at dksX2_asks_5 15 rfl rfl)
theorem dX2_asks_132 : decode cX2_asks 132 = .ok (.iload 4, 2) := dk_21 4 (dk_at dksX2_asks_5 16 rfl rfl)
theorem dX2_asks_134 : decode cX2_asks 134 = .ok (.iload_n 1, 1) := dk_27 (dk_at dksX2_asks_5 18 rfl rfl)
theorem dX2_asks_135 : decode cX2_asks 135 = .ok (.aload_n 0, 1) := dk_42 (dk_at dksX2_asks_5 19 rfl rfl)
theorem dX2_asks_136 : decode cX2_asks 136 = .ok (.iload 4, 2) := dk_21 4 (dk_at dksX2_asks_5 20 rfl rfl)
theorem dX2_asks_138 : decode cX2_asks 138 = .ok (.invokevirtual 195, 3) := dk_182 0 195 (dk_at dksX2_asks_6 0 rfl rfl)
theorem dX2_asks_141 : decode cX2_asks 141 = .ok (.invokespecial 198, 3) := dk_183 0 198 (dk_at dksX2_asks_6 3 rfl rfl)
theorem dX2_asks_144 : decode cX2_asks 144 = .ok (.invokevirtual 200, 3) := dk_182 0 200 (dk_at dksX2_asks_6 6 rfl rfl)
theorem dX2_asks_147 : decode cX2_asks 147 = .ok (.pop, 1) := dk_87 (dk_at dksX2_asks_6 9 rfl rfl)
theorem dX2_asks_148 : decode cX2_asks 148 = .ok (.goto (-47), 3) := dk_167 255 209 (dk_at dksX2_asks_6 10 rfl rfl)
theorem dX2_asks_151 : decode cX2_asks 151 = .ok (.aload_n 2, 1) := dk_44 (dk_at dksX2_asks_6 13 rfl rfl)
theorem dX2_asks_152 : decode cX2_asks 152 = .ok (.invokevirtual 135, 3) := dk_182 0 135 (dk_at dksX2_asks_6 14 rfl rfl)
theorem dX2_asks_155 : decode cX2_asks 155 = .ok (.invokevirtual 153, 3) := dk_182 0 153 (dk_at dksX2_asks_6 17 rfl rfl)
theorem dX2_asks_158 : decode cX2_asks 158 = .ok (.ireturn, 1) := dk_172 (dk_at dksX2_asks_6 20 rfl rfl)
abbrev cX2_arrival : ByteArray := prog_14_method_18_code
def dkwX2_arrival_0 : List UInt8 := [42, 180, 0, 75, 42, 27, 182, 0, 86, 182, 0, 167, 96, 172]
abbrev dktX2_arrival_0 : List UInt8 := dkwX2_arrival_0 ++ []
theorem dksX2_arrival_0 : cX2_arrival.data.toList.drop 0 = dktX2_arrival_0 := by decide +kernel
theorem dX2_arrival_0 : decode cX2_arrival 0 = .ok (.aload_n 0, 1) := dk_42 (dk_at dksX2_arrival_0 0 rfl rfl)
theorem dX2_arrival_1 : decode cX2_arrival 1 = .ok (.getfield 75, 3) := dk_180 0 75 (dk_at dksX2_arrival_0 1 rfl rfl)
theorem dX2_arrival_4 : decode cX2_arrival 4 = .ok (.aload_n 0, 1) := dk_42 (dk_at dksX2_arrival_0 4 rfl rfl)
theorem dX2_arrival_5 : decode cX2_arrival 5 = .ok (.iload_n 1, 1) := dk_27 (dk_at dksX2_arrival_0 5 rfl rfl)
theorem dX2_arrival_6 : decode cX2_arrival 6 = .ok (.invokevirtual 86, 3) := dk_182 0 86 (dk_at dksX2_arrival_0 6 rfl rfl)
theorem dX2_arrival_9 : decode cX2_arrival 9 = .ok (.invokevirtual 167, 3) := dk_182 0 167 (dk_at dksX2_arrival_0 9 rfl rfl)
theorem dX2_arrival_12 : decode cX2_arrival 12 = .ok (.iadd, 1) := dk_96 (dk_at dksX2_arrival_0 12 rfl rfl)
theorem dX2_arrival_13 : decode cX2_arrival 13 = .ok (.ireturn, 1) := dk_172 (dk_at dksX2_arrival_0 13 rfl rfl)
abbrev cX2_cancels : ByteArray := prog_14_method_22_code
def dkwX2_cancels_2 : List UInt8 := [184, 0, 103, 42, 27, 6, 182, 0, 212, 42, 27, 182, 0, 215, 172]
abbrev dktX2_cancels_2 : List UInt8 := dkwX2_cancels_2 ++ []
def dkwX2_cancels_1 : List UInt8 := [182, 0, 119, 77, 44, 182, 0, 209, 154, 0, 7, 4, 167, 0, 4, 3, 16, 7, 44, 182, 0, 123]
abbrev dktX2_cancels_1 : List UInt8 := dkwX2_cancels_1 ++ dktX2_cancels_2
def dkwX2_cancels_0 : List UInt8 := [42, 180, 0, 24, 182, 0, 170, 154, 0, 7, 4, 167, 0, 4, 3, 16, 6, 2, 184, 0, 103, 42, 27]
abbrev dktX2_cancels_0 : List UInt8 := dkwX2_cancels_0 ++ dktX2_cancels_1
theorem dksX2_cancels_0 : cX2_cancels.data.toList.drop 0 = dktX2_cancels_0 := by decide +kernel
theorem dksX2_cancels_1 : cX2_cancels.data.toList.drop 23 = dktX2_cancels_1 := dk_seg dksX2_cancels_0 23 rfl rfl
theorem dksX2_cancels_2 : cX2_cancels.data.toList.drop 45 = dktX2_cancels_2 := dk_seg dksX2_cancels_1 22 rfl rfl
theorem dX2_cancels_0 : decode cX2_cancels 0 = .ok (.aload_n 0, 1) := dk_42 (dk_at dksX2_cancels_0 0 rfl rfl)
theorem dX2_cancels_1 : decode cX2_cancels 1 = .ok (.getfield 24, 3) := dk_180 0 24 (dk_at dksX2_cancels_0 1 rfl rfl)
theorem dX2_cancels_4 : decode cX2_cancels 4 = .ok (.invokevirtual 170, 3) := dk_182 0 170 (dk_at dksX2_cancels_0 4 rfl rfl)
theorem dX2_cancels_7 : decode cX2_cancels 7 = .ok (.ifCond .ne 7, 3) := dk_154 0 7 (dk_at dksX2_cancels_0 7 rfl rfl)
theorem dX2_cancels_10 : decode cX2_cancels 10 = .ok (.iconst 1, 1) := dk_4 (dk_at dksX2_cancels_0 10 rfl rfl)
theorem dX2_cancels_11 : decode cX2_cancels 11 = .ok (.goto 4, 3) := dk_167 0 4 (dk_at dksX2_cancels_0 11 rfl rfl)
theorem dX2_cancels_14 : decode cX2_cancels 14 = .ok (.iconst 0, 1) := dk_3 (dk_at dksX2_cancels_0 14 rfl rfl)
theorem dX2_cancels_15 : decode cX2_cancels 15 = .ok (.bipush 6, 2) := dk_16 6 (dk_at dksX2_cancels_0 15 rfl rfl)
theorem dX2_cancels_17 : decode cX2_cancels 17 = .ok (.iconst (-1), 1) := dk_2 (dk_at dksX2_cancels_0 17 rfl rfl)
theorem dX2_cancels_18 : decode cX2_cancels 18 = .ok (.invokestatic 103, 3) := dk_184 0 103 (dk_at dksX2_cancels_0 18 rfl rfl)
theorem dX2_cancels_21 : decode cX2_cancels 21 = .ok (.aload_n 0, 1) := dk_42 (dk_at dksX2_cancels_0 21 rfl rfl)
theorem dX2_cancels_22 : decode cX2_cancels 22 = .ok (.iload_n 1, 1) := dk_27 (dk_at dksX2_cancels_0 22 rfl rfl)
theorem dX2_cancels_23 : decode cX2_cancels 23 = .ok (.invokevirtual 119, 3) := dk_182 0 119 (dk_at dksX2_cancels_1 0 rfl rfl)
theorem dX2_cancels_26 : decode cX2_cancels 26 = .ok (.astore_n 2, 1) := dk_77 (dk_at dksX2_cancels_1 3 rfl rfl)
theorem dX2_cancels_27 : decode cX2_cancels 27 = .ok (.aload_n 2, 1) := dk_44 (dk_at dksX2_cancels_1 4 rfl rfl)
theorem dX2_cancels_28 : decode cX2_cancels 28 = .ok (.invokevirtual 209, 3) := dk_182 0 209 (dk_at dksX2_cancels_1 5 rfl rfl)
theorem dX2_cancels_31 : decode cX2_cancels 31 = .ok (.ifCond .ne 7, 3) := dk_154 0 7 (dk_at dksX2_cancels_1 8 rfl rfl)
theorem dX2_cancels_34 : decode cX2_cancels 34 = .ok (.iconst 1, 1) := dk_4 (dk_at dksX2_cancels_1 11 rfl rfl)
theorem dX2_cancels_35 : decode cX2_cancels 35 = .ok (.goto 4, 3) := dk_167 0 4 (dk_at dksX2_cancels_1 12 rfl rfl)
theorem dX2_cancels_38 : decode cX2_cancels 38 = .ok (.iconst 0, 1) := dk_3 (dk_at dksX2_cancels_1 15 rfl rfl)
theorem dX2_cancels_39 : decode cX2_cancels 39 = .ok (.bipush 7, 2) := dk_16 7 (dk_at dksX2_cancels_1 16 rfl rfl)
theorem dX2_cancels_41 : decode cX2_cancels 41 = .ok (.aload_n 2, 1) := dk_44 (dk_at dksX2_cancels_1 18 rfl rfl)
theorem dX2_cancels_42 : decode cX2_cancels 42 = .ok (.invokevirtual 123, 3) := dk_182 0 123 (dk_at dksX2_cancels_1 19 rfl rfl)
theorem dX2_cancels_45 : decode cX2_cancels 45 = .ok (.invokestatic 103, 3) := dk_184 0 103 (dk_at dksX2_cancels_2 0 rfl rfl)
theorem dX2_cancels_48 : decode cX2_cancels 48 = .ok (.aload_n 0, 1) := dk_42 (dk_at dksX2_cancels_2 3 rfl rfl)
theorem dX2_cancels_49 : decode cX2_cancels 49 = .ok (.iload_n 1, 1) := dk_27 (dk_at dksX2_cancels_2 4 rfl rfl)
theorem dX2_cancels_50 : decode cX2_cancels 50 = .ok (.iconst 3, 1) := dk_6 (dk_at dksX2_cancels_2 5 rfl rfl)
theorem dX2_cancels_51 : decode cX2_cancels 51 = .ok (.invokevirtual 212, 3) := dk_182 0 212 (dk_at dksX2_cancels_2 6 rfl rfl)
theorem dX2_cancels_54 : decode cX2_cancels 54 = .ok (.aload_n 0, 1) := dk_42 (dk_at dksX2_cancels_2 9 rfl rfl)
theorem dX2_cancels_55 : decode cX2_cancels 55 = .ok (.iload_n 1, 1) := dk_27 (dk_at dksX2_cancels_2 10 rfl rfl)
theorem dX2_cancels_56 : decode cX2_cancels 56 = .ok (.invokevirtual 215, 3) := dk_182 0 215 (dk_at dksX2_cancels_2 11 rfl rfl)
theorem dX2_cancels_59 : decode cX2_cancels 59 = .ok (.ireturn, 1) := dk_172 (dk_at dksX2_cancels_2 14 rfl rfl)
abbrev cX2_settles : ByteArray := prog_14_method_21_code
def dkwX2_settles_1 : List UInt8 := [167, 0, 4, 5, 27, 42, 180, 0, 75, 182, 0, 179, 177]
abbrev dktX2_settles_1 : List UInt8 := dkwX2_settles_1 ++ []
def dkwX2_settles_0 : List UInt8 := [42, 27, 182, 0, 119, 28, 42, 180, 0, 75, 182, 0, 206, 42, 180, 0, 24, 28, 5, 160, 0, 7, 4]
abbrev dktX2_settles_0 : List UInt8 := dkwX2_settles_0 ++ dktX2_settles_1
theorem dksX2_settles_0 : cX2_settles.data.toList.drop 0 = dktX2_settles_0 := by decide +kernel
theorem dksX2_settles_1 : cX2_settles.data.toList.drop 23 = dktX2_settles_1 := dk_seg dksX2_settles_0 23 rfl rfl
theorem dX2_settles_0 : decode cX2_settles 0 = .ok (.aload_n 0, 1) := dk_42 (dk_at dksX2_settles_0 0 rfl rfl)
theorem dX2_settles_1 : decode cX2_settles 1 = .ok (.iload_n 1, 1) := dk_27 (dk_at dksX2_settles_0 1 rfl rfl)
theorem dX2_settles_2 : decode cX2_settles 2 = .ok (.invokevirtual 119, 3) := dk_182 0 119 (dk_at dksX2_settles_0 2 rfl rfl)
theorem dX2_settles_5 : decode cX2_settles 5 = .ok (.iload_n 2, 1) := dk_28 (dk_at dksX2_settles_0 5 rfl rfl)
theorem dX2_settles_6 : decode cX2_settles 6 = .ok (.aload_n 0, 1) := dk_42 (dk_at dksX2_settles_0 6 rfl rfl)
theorem dX2_settles_7 : decode cX2_settles 7 = .ok (.getfield 75, 3) := dk_180 0 75 (dk_at dksX2_settles_0 7 rfl rfl)
theorem dX2_settles_10 : decode cX2_settles 10 = .ok (.invokevirtual 206, 3) := dk_182 0 206 (dk_at dksX2_settles_0 10 rfl rfl)
theorem dX2_settles_13 : decode cX2_settles 13 = .ok (.aload_n 0, 1) := dk_42 (dk_at dksX2_settles_0 13 rfl rfl)
theorem dX2_settles_14 : decode cX2_settles 14 = .ok (.getfield 24, 3) := dk_180 0 24 (dk_at dksX2_settles_0 14 rfl rfl)
theorem dX2_settles_17 : decode cX2_settles 17 = .ok (.iload_n 2, 1) := dk_28 (dk_at dksX2_settles_0 17 rfl rfl)
theorem dX2_settles_18 : decode cX2_settles 18 = .ok (.iconst 2, 1) := dk_5 (dk_at dksX2_settles_0 18 rfl rfl)
theorem dX2_settles_19 : decode cX2_settles 19 = .ok (.if_icmp .ne 7, 3) := dk_160 0 7 (dk_at dksX2_settles_0 19 rfl rfl)
theorem dX2_settles_22 : decode cX2_settles 22 = .ok (.iconst 1, 1) := dk_4 (dk_at dksX2_settles_0 22 rfl rfl)
theorem dX2_settles_23 : decode cX2_settles 23 = .ok (.goto 4, 3) := dk_167 0 4 (dk_at dksX2_settles_1 0 rfl rfl)
theorem dX2_settles_26 : decode cX2_settles 26 = .ok (.iconst 2, 1) := dk_5 (dk_at dksX2_settles_1 3 rfl rfl)
theorem dX2_settles_27 : decode cX2_settles 27 = .ok (.iload_n 1, 1) := dk_27 (dk_at dksX2_settles_1 4 rfl rfl)
theorem dX2_settles_28 : decode cX2_settles 28 = .ok (.aload_n 0, 1) := dk_42 (dk_at dksX2_settles_1 5 rfl rfl)
theorem dX2_settles_29 : decode cX2_settles 29 = .ok (.getfield 75, 3) := dk_180 0 75 (dk_at dksX2_settles_1 6 rfl rfl)
theorem dX2_settles_32 : decode cX2_settles 32 = .ok (.invokevirtual 179, 3) := dk_182 0 179 (dk_at dksX2_settles_1 9 rfl rfl)
theorem dX2_settles_35 : decode cX2_settles 35 = .ok (.return_, 1) := dk_177 (dk_at dksX2_settles_1 12 rfl rfl)
abbrev cX2_sendsAll : ByteArray := prog_14_method_20_code
def dkwX2_sendsAll_3 : List UInt8 := [4, 167, 0, 4, 3, 183, 0, 203, 182, 0, 200, 87, 167, 255, 196, 44, 182, 0, 135, 182, 0, 153, 172]
abbrev dktX2_sendsAll_3 : List UInt8 := dkwX2_sendsAll_3 ++ []
def dkwX2_sendsAll_2 : List UInt8 := [180, 0, 31, 187, 0, 201, 89, 21, 4, 27, 42, 21, 4, 182, 0, 195, 44, 182, 0, 123, 5, 160, 0, 7]
abbrev dktX2_sendsAll_2 : List UInt8 := dkwX2_sendsAll_2 ++ dktX2_sendsAll_3
def dkwX2_sendsAll_1 : List UInt8 := [185, 0, 42, 1, 0, 153, 0, 57, 45, 185, 0, 48, 1, 0, 192, 0, 140, 182, 0, 190, 54, 4, 42]
abbrev dktX2_sendsAll_1 : List UInt8 := dkwX2_sendsAll_1 ++ dktX2_sendsAll_2
def dkwX2_sendsAll_0 : List UInt8 := [42, 27, 182, 0, 119, 77, 44, 182, 0, 135, 182, 0, 183, 185, 0, 187, 1, 0, 78, 45]
abbrev dktX2_sendsAll_0 : List UInt8 := dkwX2_sendsAll_0 ++ dktX2_sendsAll_1
theorem dksX2_sendsAll_0 : cX2_sendsAll.data.toList.drop 0 = dktX2_sendsAll_0 := by decide +kernel
theorem dksX2_sendsAll_1 : cX2_sendsAll.data.toList.drop 20 = dktX2_sendsAll_1 := dk_seg dksX2_sendsAll_0 20 rfl rfl
theorem dksX2_sendsAll_2 : cX2_sendsAll.data.toList.drop 43 = dktX2_sendsAll_2 := dk_seg dksX2_sendsAll_1 23 rfl rfl
theorem dksX2_sendsAll_3 : cX2_sendsAll.data.toList.drop 67 = dktX2_sendsAll_3 := dk_seg dksX2_sendsAll_2 24 rfl rfl
theorem dX2_sendsAll_0 : decode cX2_sendsAll 0 = .ok (.aload_n 0, 1) := dk_42 (dk_at dksX2_sendsAll_0 0 rfl rfl)
theorem dX2_sendsAll_1 : decode cX2_sendsAll 1 = .ok (.iload_n 1, 1) := dk_27 (dk_at dksX2_sendsAll_0 1 rfl rfl)
theorem dX2_sendsAll_2 : decode cX2_sendsAll 2 = .ok (.invokevirtual 119, 3) := dk_182 0 119 (dk_at dksX2_sendsAll_0 2 rfl rfl)
theorem dX2_sendsAll_5 : decode cX2_sendsAll 5 = .ok (.astore_n 2, 1) := dk_77 (dk_at dksX2_sendsAll_0 5 rfl rfl)
theorem dX2_sendsAll_6 : decode cX2_sendsAll 6 = .ok (.aload_n 2, 1) := dk_44 (dk_at dksX2_sendsAll_0 6 rfl rfl)
theorem dX2_sendsAll_7 : decode cX2_sendsAll 7 = .ok (.invokevirtual 135, 3) := dk_182 0 135 (dk_at dksX2_sendsAll_0 7 rfl rfl)
theorem dX2_sendsAll_10 : decode cX2_sendsAll 10 = .ok (.invokevirtual 183, 3) := dk_182 0 183 (dk_at dksX2_sendsAll_0 10 rfl rfl)
theorem dX2_sendsAll_13 : decode cX2_sendsAll 13 = .ok (.invokeinterface 187 1, 5) := by decide +kernel
theorem dX2_sendsAll_18 : decode cX2_sendsAll 18 = .ok (.astore_n 3, 1) := dk_78 (dk_at dksX2_sendsAll_0 18 rfl rfl)
theorem dX2_sendsAll_19 : decode cX2_sendsAll 19 = .ok (.aload_n 3, 1) := dk_45 (dk_at dksX2_sendsAll_0 19 rfl rfl)
theorem dX2_sendsAll_20 : decode cX2_sendsAll 20 = .ok (.invokeinterface 42 1, 5) := by decide +kernel
theorem dX2_sendsAll_25 : decode cX2_sendsAll 25 = .ok (.ifCond .eq 57, 3) := dk_153 0 57 (dk_at dksX2_sendsAll_1 5 rfl rfl)
theorem dX2_sendsAll_28 : decode cX2_sendsAll 28 = .ok (.aload_n 3, 1) := dk_45 (dk_at dksX2_sendsAll_1 8 rfl rfl)
theorem dX2_sendsAll_29 : decode cX2_sendsAll 29 = .ok (.invokeinterface 48 1, 5) := by decide +kernel
theorem dX2_sendsAll_34 : decode cX2_sendsAll 34 = .ok (.checkcast 140, 3) := dk_192 0 140 (dk_at dksX2_sendsAll_1 14 rfl rfl)
theorem dX2_sendsAll_37 : decode cX2_sendsAll 37 = .ok (.invokevirtual 190, 3) := dk_182 0 190 (dk_at dksX2_sendsAll_1 17 rfl rfl)
theorem dX2_sendsAll_40 : decode cX2_sendsAll 40 = .ok (.istore 4, 2) := dk_54 4 (dk_at dksX2_sendsAll_1 20 rfl rfl)
theorem dX2_sendsAll_42 : decode cX2_sendsAll 42 = .ok (.aload_n 0, 1) := dk_42 (dk_at dksX2_sendsAll_1 22 rfl rfl)
theorem dX2_sendsAll_43 : decode cX2_sendsAll 43 = .ok (.getfield 31, 3) := dk_180 0 31 (dk_at dksX2_sendsAll_2 0 rfl rfl)
theorem dX2_sendsAll_46 : decode cX2_sendsAll 46 = .ok (.new 201, 3) := dk_187 0 201 (dk_at dksX2_sendsAll_2 3 rfl rfl)
theorem dX2_sendsAll_49 : decode cX2_sendsAll 49 = .ok (.dup, 1) := dk_89 (dk_at dksX2_sendsAll_2 6 rfl rfl)
theorem dX2_sendsAll_50 : decode cX2_sendsAll 50 = .ok (.iload 4, 2) := dk_21 4 (dk_at dksX2_sendsAll_2 7 rfl rfl)
theorem dX2_sendsAll_52 : decode cX2_sendsAll 52 = .ok (.iload_n 1, 1) := dk_27 (dk_at dksX2_sendsAll_2 9 rfl rfl)
theorem dX2_sendsAll_53 : decode cX2_sendsAll 53 = .ok (.aload_n 0, 1) := dk_42 (dk_at dksX2_sendsAll_2 10 rfl rfl)
theorem dX2_sendsAll_54 : decode cX2_sendsAll 54 = .ok (.iload 4, 2) := dk_21 4 (dk_at dksX2_sendsAll_2 11 rfl rfl)
theorem dX2_sendsAll_56 : decode cX2_sendsAll 56 = .ok (.invokevirtual 195, 3) := dk_182 0 195 (dk_at dksX2_sendsAll_2 13 rfl rfl)
theorem dX2_sendsAll_59 : decode cX2_sendsAll 59 = .ok (.aload_n 2, 1) := dk_44 (dk_at dksX2_sendsAll_2 16 rfl rfl)
theorem dX2_sendsAll_60 : decode cX2_sendsAll 60 = .ok (.invokevirtual 123, 3) := dk_182 0 123 (dk_at dksX2_sendsAll_2 17 rfl rfl)
theorem dX2_sendsAll_63 : decode cX2_sendsAll 63 = .ok (.iconst 2, 1) := dk_5 (dk_at dksX2_sendsAll_2 20 rfl rfl)
theorem dX2_sendsAll_64 : decode cX2_sendsAll 64 = .ok (.if_icmp .ne 7, 3) := dk_160 0 7 (dk_at dksX2_sendsAll_2 21 rfl rfl)
theorem dX2_sendsAll_67 : decode cX2_sendsAll 67 = .ok (.iconst 1, 1) := dk_4 (dk_at dksX2_sendsAll_3 0 rfl rfl)
theorem dX2_sendsAll_68 : decode cX2_sendsAll 68 = .ok (.goto 4, 3) := dk_167 0 4 (dk_at dksX2_sendsAll_3 1 rfl rfl)
theorem dX2_sendsAll_71 : decode cX2_sendsAll 71 = .ok (.iconst 0, 1) := dk_3 (dk_at dksX2_sendsAll_3 4 rfl rfl)
theorem dX2_sendsAll_72 : decode cX2_sendsAll 72 = .ok (.invokespecial 203, 3) := dk_183 0 203 (dk_at dksX2_sendsAll_3 5 rfl rfl)
theorem dX2_sendsAll_75 : decode cX2_sendsAll 75 = .ok (.invokevirtual 200, 3) := dk_182 0 200 (dk_at dksX2_sendsAll_3 8 rfl rfl)
theorem dX2_sendsAll_78 : decode cX2_sendsAll 78 = .ok (.pop, 1) := dk_87 (dk_at dksX2_sendsAll_3 11 rfl rfl)
theorem dX2_sendsAll_79 : decode cX2_sendsAll 79 = .ok (.goto (-60), 3) := dk_167 255 196 (dk_at dksX2_sendsAll_3 12 rfl rfl)
theorem dX2_sendsAll_82 : decode cX2_sendsAll 82 = .ok (.aload_n 2, 1) := dk_44 (dk_at dksX2_sendsAll_3 15 rfl rfl)
theorem dX2_sendsAll_83 : decode cX2_sendsAll 83 = .ok (.invokevirtual 135, 3) := dk_182 0 135 (dk_at dksX2_sendsAll_3 16 rfl rfl)
theorem dX2_sendsAll_86 : decode cX2_sendsAll 86 = .ok (.invokevirtual 153, 3) := dk_182 0 153 (dk_at dksX2_sendsAll_3 19 rfl rfl)
theorem dX2_sendsAll_89 : decode cX2_sendsAll 89 = .ok (.ireturn, 1) := dk_172 (dk_at dksX2_sendsAll_3 22 rfl rfl)
abbrev cX2_faints : ByteArray := prog_14_method_24_code
def dkwX2_faints_1 : List UInt8 := [182, 0, 219, 4, 182, 0, 226, 42, 182, 0, 230, 172]
abbrev dktX2_faints_1 : List UInt8 := dkwX2_faints_1 ++ []
def dkwX2_faints_0 : List UInt8 := [42, 27, 182, 0, 219, 182, 0, 223, 154, 0, 7, 4, 167, 0, 4, 3, 16, 8, 27, 184, 0, 103, 42, 27]
abbrev dktX2_faints_0 : List UInt8 := dkwX2_faints_0 ++ dktX2_faints_1
theorem dksX2_faints_0 : cX2_faints.data.toList.drop 0 = dktX2_faints_0 := by decide +kernel
theorem dksX2_faints_1 : cX2_faints.data.toList.drop 24 = dktX2_faints_1 := dk_seg dksX2_faints_0 24 rfl rfl
theorem dX2_faints_0 : decode cX2_faints 0 = .ok (.aload_n 0, 1) := dk_42 (dk_at dksX2_faints_0 0 rfl rfl)
theorem dX2_faints_1 : decode cX2_faints 1 = .ok (.iload_n 1, 1) := dk_27 (dk_at dksX2_faints_0 1 rfl rfl)
theorem dX2_faints_2 : decode cX2_faints 2 = .ok (.invokevirtual 219, 3) := dk_182 0 219 (dk_at dksX2_faints_0 2 rfl rfl)
theorem dX2_faints_5 : decode cX2_faints 5 = .ok (.invokevirtual 223, 3) := dk_182 0 223 (dk_at dksX2_faints_0 5 rfl rfl)
theorem dX2_faints_8 : decode cX2_faints 8 = .ok (.ifCond .ne 7, 3) := dk_154 0 7 (dk_at dksX2_faints_0 8 rfl rfl)
theorem dX2_faints_11 : decode cX2_faints 11 = .ok (.iconst 1, 1) := dk_4 (dk_at dksX2_faints_0 11 rfl rfl)
theorem dX2_faints_12 : decode cX2_faints 12 = .ok (.goto 4, 3) := dk_167 0 4 (dk_at dksX2_faints_0 12 rfl rfl)
theorem dX2_faints_15 : decode cX2_faints 15 = .ok (.iconst 0, 1) := dk_3 (dk_at dksX2_faints_0 15 rfl rfl)
theorem dX2_faints_16 : decode cX2_faints 16 = .ok (.bipush 8, 2) := dk_16 8 (dk_at dksX2_faints_0 16 rfl rfl)
theorem dX2_faints_18 : decode cX2_faints 18 = .ok (.iload_n 1, 1) := dk_27 (dk_at dksX2_faints_0 18 rfl rfl)
theorem dX2_faints_19 : decode cX2_faints 19 = .ok (.invokestatic 103, 3) := dk_184 0 103 (dk_at dksX2_faints_0 19 rfl rfl)
theorem dX2_faints_22 : decode cX2_faints 22 = .ok (.aload_n 0, 1) := dk_42 (dk_at dksX2_faints_0 22 rfl rfl)
theorem dX2_faints_23 : decode cX2_faints 23 = .ok (.iload_n 1, 1) := dk_27 (dk_at dksX2_faints_0 23 rfl rfl)
theorem dX2_faints_24 : decode cX2_faints 24 = .ok (.invokevirtual 219, 3) := dk_182 0 219 (dk_at dksX2_faints_1 0 rfl rfl)
theorem dX2_faints_27 : decode cX2_faints 27 = .ok (.iconst 1, 1) := dk_4 (dk_at dksX2_faints_1 3 rfl rfl)
theorem dX2_faints_28 : decode cX2_faints 28 = .ok (.invokevirtual 226, 3) := dk_182 0 226 (dk_at dksX2_faints_1 4 rfl rfl)
theorem dX2_faints_31 : decode cX2_faints 31 = .ok (.aload_n 0, 1) := dk_42 (dk_at dksX2_faints_1 7 rfl rfl)
theorem dX2_faints_32 : decode cX2_faints 32 = .ok (.invokevirtual 230, 3) := dk_182 0 230 (dk_at dksX2_faints_1 8 rfl rfl)
theorem dX2_faints_35 : decode cX2_faints 35 = .ok (.ireturn, 1) := dk_172 (dk_at dksX2_faints_1 11 rfl rfl)
abbrev cX2_who : ByteArray := prog_14_method_7_code
def dkwX2_who_0 : List UInt8 := [27, 2, 160, 0, 10, 42, 180, 0, 24, 167, 0, 8, 42, 27, 182, 0, 86, 176]
abbrev dktX2_who_0 : List UInt8 := dkwX2_who_0 ++ []
theorem dksX2_who_0 : cX2_who.data.toList.drop 0 = dktX2_who_0 := by decide +kernel
theorem dX2_who_0 : decode cX2_who 0 = .ok (.iload_n 1, 1) := dk_27 (dk_at dksX2_who_0 0 rfl rfl)
theorem dX2_who_1 : decode cX2_who 1 = .ok (.iconst (-1), 1) := dk_2 (dk_at dksX2_who_0 1 rfl rfl)
theorem dX2_who_2 : decode cX2_who 2 = .ok (.if_icmp .ne 10, 3) := dk_160 0 10 (dk_at dksX2_who_0 2 rfl rfl)
theorem dX2_who_5 : decode cX2_who 5 = .ok (.aload_n 0, 1) := dk_42 (dk_at dksX2_who_0 5 rfl rfl)
theorem dX2_who_6 : decode cX2_who 6 = .ok (.getfield 24, 3) := dk_180 0 24 (dk_at dksX2_who_0 6 rfl rfl)
theorem dX2_who_9 : decode cX2_who 9 = .ok (.goto 8, 3) := dk_167 0 8 (dk_at dksX2_who_0 9 rfl rfl)
theorem dX2_who_12 : decode cX2_who 12 = .ok (.aload_n 0, 1) := dk_42 (dk_at dksX2_who_0 12 rfl rfl)
theorem dX2_who_13 : decode cX2_who 13 = .ok (.iload_n 1, 1) := dk_27 (dk_at dksX2_who_0 13 rfl rfl)
theorem dX2_who_14 : decode cX2_who 14 = .ok (.invokevirtual 86, 3) := dk_182 0 86 (dk_at dksX2_who_0 14 rfl rfl)
theorem dX2_who_17 : decode cX2_who 17 = .ok (.areturn, 1) := dk_176 (dk_at dksX2_who_0 17 rfl rfl)
abbrev cX2_fainted : ByteArray := prog_14_method_23_code
def dkwX2_fainted_2 : List UInt8 := [78, 27, 45, 182, 0, 218, 153, 0, 7, 4, 167, 0, 4, 3, 96, 60, 167, 255, 222, 27, 172]
abbrev dktX2_fainted_2 : List UInt8 := dkwX2_fainted_2 ++ []
def dkwX2_fainted_1 : List UInt8 := [185, 0, 36, 1, 0, 77, 44, 185, 0, 42, 1, 0, 153, 0, 31, 44, 185, 0, 48, 1, 0, 192, 0, 52]
abbrev dktX2_fainted_1 : List UInt8 := dkwX2_fainted_1 ++ dktX2_fainted_2
def dkwX2_fainted_0 : List UInt8 := [42, 180, 0, 24, 182, 0, 170, 153, 0, 7, 4, 167, 0, 4, 3, 60, 42, 180, 0, 12]
abbrev dktX2_fainted_0 : List UInt8 := dkwX2_fainted_0 ++ dktX2_fainted_1
theorem dksX2_fainted_0 : cX2_fainted.data.toList.drop 0 = dktX2_fainted_0 := by decide +kernel
theorem dksX2_fainted_1 : cX2_fainted.data.toList.drop 20 = dktX2_fainted_1 := dk_seg dksX2_fainted_0 20 rfl rfl
theorem dksX2_fainted_2 : cX2_fainted.data.toList.drop 44 = dktX2_fainted_2 := dk_seg dksX2_fainted_1 24 rfl rfl
theorem dX2_fainted_0 : decode cX2_fainted 0 = .ok (.aload_n 0, 1) := dk_42 (dk_at dksX2_fainted_0 0 rfl rfl)
theorem dX2_fainted_1 : decode cX2_fainted 1 = .ok (.getfield 24, 3) := dk_180 0 24 (dk_at dksX2_fainted_0 1 rfl rfl)
theorem dX2_fainted_4 : decode cX2_fainted 4 = .ok (.invokevirtual 170, 3) := dk_182 0 170 (dk_at dksX2_fainted_0 4 rfl rfl)
theorem dX2_fainted_7 : decode cX2_fainted 7 = .ok (.ifCond .eq 7, 3) := dk_153 0 7 (dk_at dksX2_fainted_0 7 rfl rfl)
theorem dX2_fainted_10 : decode cX2_fainted 10 = .ok (.iconst 1, 1) := dk_4 (dk_at dksX2_fainted_0 10 rfl rfl)
theorem dX2_fainted_11 : decode cX2_fainted 11 = .ok (.goto 4, 3) := dk_167 0 4 (dk_at dksX2_fainted_0 11 rfl rfl)
theorem dX2_fainted_14 : decode cX2_fainted 14 = .ok (.iconst 0, 1) := dk_3 (dk_at dksX2_fainted_0 14 rfl rfl)
theorem dX2_fainted_15 : decode cX2_fainted 15 = .ok (.istore_n 1, 1) := dk_60 (dk_at dksX2_fainted_0 15 rfl rfl)
theorem dX2_fainted_16 : decode cX2_fainted 16 = .ok (.aload_n 0, 1) := dk_42 (dk_at dksX2_fainted_0 16 rfl rfl)
theorem dX2_fainted_17 : decode cX2_fainted 17 = .ok (.getfield 12, 3) := dk_180 0 12 (dk_at dksX2_fainted_0 17 rfl rfl)
theorem dX2_fainted_20 : decode cX2_fainted 20 = .ok (.invokeinterface 36 1, 5) := by decide +kernel
theorem dX2_fainted_25 : decode cX2_fainted 25 = .ok (.astore_n 2, 1) := dk_77 (dk_at dksX2_fainted_1 5 rfl rfl)
theorem dX2_fainted_26 : decode cX2_fainted 26 = .ok (.aload_n 2, 1) := dk_44 (dk_at dksX2_fainted_1 6 rfl rfl)
theorem dX2_fainted_27 : decode cX2_fainted 27 = .ok (.invokeinterface 42 1, 5) := by decide +kernel
theorem dX2_fainted_32 : decode cX2_fainted 32 = .ok (.ifCond .eq 31, 3) := dk_153 0 31 (dk_at dksX2_fainted_1 12 rfl rfl)
theorem dX2_fainted_35 : decode cX2_fainted 35 = .ok (.aload_n 2, 1) := dk_44 (dk_at dksX2_fainted_1 15 rfl rfl)
theorem dX2_fainted_36 : decode cX2_fainted 36 = .ok (.invokeinterface 48 1, 5) := by decide +kernel
theorem dX2_fainted_41 : decode cX2_fainted 41 = .ok (.checkcast 52, 3) := dk_192 0 52 (dk_at dksX2_fainted_1 21 rfl rfl)
theorem dX2_fainted_44 : decode cX2_fainted 44 = .ok (.astore_n 3, 1) := dk_78 (dk_at dksX2_fainted_2 0 rfl rfl)
theorem dX2_fainted_45 : decode cX2_fainted 45 = .ok (.iload_n 1, 1) := dk_27 (dk_at dksX2_fainted_2 1 rfl rfl)
theorem dX2_fainted_46 : decode cX2_fainted 46 = .ok (.aload_n 3, 1) := dk_45 (dk_at dksX2_fainted_2 2 rfl rfl)
theorem dX2_fainted_47 : decode cX2_fainted 47 = .ok (.invokevirtual 218, 3) := dk_182 0 218 (dk_at dksX2_fainted_2 3 rfl rfl)
theorem dX2_fainted_50 : decode cX2_fainted 50 = .ok (.ifCond .eq 7, 3) := dk_153 0 7 (dk_at dksX2_fainted_2 6 rfl rfl)
theorem dX2_fainted_53 : decode cX2_fainted 53 = .ok (.iconst 1, 1) := dk_4 (dk_at dksX2_fainted_2 9 rfl rfl)
theorem dX2_fainted_54 : decode cX2_fainted 54 = .ok (.goto 4, 3) := dk_167 0 4 (dk_at dksX2_fainted_2 10 rfl rfl)
theorem dX2_fainted_57 : decode cX2_fainted 57 = .ok (.iconst 0, 1) := dk_3 (dk_at dksX2_fainted_2 13 rfl rfl)
theorem dX2_fainted_58 : decode cX2_fainted 58 = .ok (.iadd, 1) := dk_96 (dk_at dksX2_fainted_2 14 rfl rfl)
theorem dX2_fainted_59 : decode cX2_fainted 59 = .ok (.istore_n 1, 1) := dk_60 (dk_at dksX2_fainted_2 15 rfl rfl)
theorem dX2_fainted_60 : decode cX2_fainted 60 = .ok (.goto (-34), 3) := dk_167 255 222 (dk_at dksX2_fainted_2 16 rfl rfl)
theorem dX2_fainted_63 : decode cX2_fainted 63 = .ok (.iload_n 1, 1) := dk_27 (dk_at dksX2_fainted_2 19 rfl rfl)
theorem dX2_fainted_64 : decode cX2_fainted 64 = .ok (.ireturn, 1) := dk_172 (dk_at dksX2_fainted_2 20 rfl rfl)
abbrev cX2_wakes : ByteArray := prog_14_method_28_code
def dkwX2_wakes_1 : List UInt8 := [2, 160, 0, 10, 42, 182, 0, 239, 167, 0, 8, 42, 27, 182, 0, 242, 172]
abbrev dktX2_wakes_1 : List UInt8 := dkwX2_wakes_1 ++ []
def dkwX2_wakes_0 : List UInt8 := [42, 27, 182, 0, 219, 182, 0, 223, 16, 8, 27, 184, 0, 103, 42, 27, 182, 0, 219, 3, 182, 0, 226, 27]
abbrev dktX2_wakes_0 : List UInt8 := dkwX2_wakes_0 ++ dktX2_wakes_1
theorem dksX2_wakes_0 : cX2_wakes.data.toList.drop 0 = dktX2_wakes_0 := by decide +kernel
theorem dksX2_wakes_1 : cX2_wakes.data.toList.drop 24 = dktX2_wakes_1 := dk_seg dksX2_wakes_0 24 rfl rfl
theorem dX2_wakes_0 : decode cX2_wakes 0 = .ok (.aload_n 0, 1) := dk_42 (dk_at dksX2_wakes_0 0 rfl rfl)
theorem dX2_wakes_1 : decode cX2_wakes 1 = .ok (.iload_n 1, 1) := dk_27 (dk_at dksX2_wakes_0 1 rfl rfl)
theorem dX2_wakes_2 : decode cX2_wakes 2 = .ok (.invokevirtual 219, 3) := dk_182 0 219 (dk_at dksX2_wakes_0 2 rfl rfl)
theorem dX2_wakes_5 : decode cX2_wakes 5 = .ok (.invokevirtual 223, 3) := dk_182 0 223 (dk_at dksX2_wakes_0 5 rfl rfl)
theorem dX2_wakes_8 : decode cX2_wakes 8 = .ok (.bipush 8, 2) := dk_16 8 (dk_at dksX2_wakes_0 8 rfl rfl)
theorem dX2_wakes_10 : decode cX2_wakes 10 = .ok (.iload_n 1, 1) := dk_27 (dk_at dksX2_wakes_0 10 rfl rfl)
theorem dX2_wakes_11 : decode cX2_wakes 11 = .ok (.invokestatic 103, 3) := dk_184 0 103 (dk_at dksX2_wakes_0 11 rfl rfl)
theorem dX2_wakes_14 : decode cX2_wakes 14 = .ok (.aload_n 0, 1) := dk_42 (dk_at dksX2_wakes_0 14 rfl rfl)
theorem dX2_wakes_15 : decode cX2_wakes 15 = .ok (.iload_n 1, 1) := dk_27 (dk_at dksX2_wakes_0 15 rfl rfl)
theorem dX2_wakes_16 : decode cX2_wakes 16 = .ok (.invokevirtual 219, 3) := dk_182 0 219 (dk_at dksX2_wakes_0 16 rfl rfl)
theorem dX2_wakes_19 : decode cX2_wakes 19 = .ok (.iconst 0, 1) := dk_3 (dk_at dksX2_wakes_0 19 rfl rfl)
theorem dX2_wakes_20 : decode cX2_wakes 20 = .ok (.invokevirtual 226, 3) := dk_182 0 226 (dk_at dksX2_wakes_0 20 rfl rfl)
theorem dX2_wakes_23 : decode cX2_wakes 23 = .ok (.iload_n 1, 1) := dk_27 (dk_at dksX2_wakes_0 23 rfl rfl)
theorem dX2_wakes_24 : decode cX2_wakes 24 = .ok (.iconst (-1), 1) := dk_2 (dk_at dksX2_wakes_1 0 rfl rfl)
theorem dX2_wakes_25 : decode cX2_wakes 25 = .ok (.if_icmp .ne 10, 3) := dk_160 0 10 (dk_at dksX2_wakes_1 1 rfl rfl)
theorem dX2_wakes_28 : decode cX2_wakes 28 = .ok (.aload_n 0, 1) := dk_42 (dk_at dksX2_wakes_1 4 rfl rfl)
theorem dX2_wakes_29 : decode cX2_wakes 29 = .ok (.invokevirtual 239, 3) := dk_182 0 239 (dk_at dksX2_wakes_1 5 rfl rfl)
theorem dX2_wakes_32 : decode cX2_wakes 32 = .ok (.goto 8, 3) := dk_167 0 8 (dk_at dksX2_wakes_1 8 rfl rfl)
theorem dX2_wakes_35 : decode cX2_wakes 35 = .ok (.aload_n 0, 1) := dk_42 (dk_at dksX2_wakes_1 11 rfl rfl)
theorem dX2_wakes_36 : decode cX2_wakes 36 = .ok (.iload_n 1, 1) := dk_27 (dk_at dksX2_wakes_1 12 rfl rfl)
theorem dX2_wakes_37 : decode cX2_wakes 37 = .ok (.invokevirtual 242, 3) := dk_182 0 242 (dk_at dksX2_wakes_1 13 rfl rfl)
theorem dX2_wakes_40 : decode cX2_wakes 40 = .ok (.ireturn, 1) := dk_172 (dk_at dksX2_wakes_1 16 rfl rfl)
abbrev cX2_hostWakes : ByteArray := prog_14_method_25_code
def dkwX2_hostWakes_3 : List UInt8 := [182, 0, 215, 167, 0, 4, 3, 96, 60, 132, 2, 1, 167, 255, 217, 27, 172]
abbrev dktX2_hostWakes_3 : List UInt8 := dkwX2_hostWakes_3 ++ []
def dkwX2_hostWakes_2 : List UInt8 := [185, 0, 100, 1, 0, 162, 0, 32, 27, 42, 28, 182, 0, 119, 182, 0, 209, 153, 0, 11, 42, 28]
abbrev dktX2_hostWakes_2 : List UInt8 := dkwX2_hostWakes_2 ++ dktX2_hostWakes_3
def dkwX2_hostWakes_1 : List UInt8 := [160, 0, 9, 42, 27, 6, 182, 0, 212, 132, 1, 1, 167, 255, 222, 3, 60, 3, 61, 28, 42, 180, 0, 18]
abbrev dktX2_hostWakes_1 : List UInt8 := dkwX2_hostWakes_1 ++ dktX2_hostWakes_2
def dkwX2_hostWakes_0 : List UInt8 := [3, 60, 27, 42, 180, 0, 18, 185, 0, 100, 1, 0, 162, 0, 27, 42, 27, 182, 0, 119, 182, 0, 123, 4]
abbrev dktX2_hostWakes_0 : List UInt8 := dkwX2_hostWakes_0 ++ dktX2_hostWakes_1
theorem dksX2_hostWakes_0 : cX2_hostWakes.data.toList.drop 0 = dktX2_hostWakes_0 := by decide +kernel
theorem dksX2_hostWakes_1 : cX2_hostWakes.data.toList.drop 24 = dktX2_hostWakes_1 := dk_seg dksX2_hostWakes_0 24 rfl rfl
theorem dksX2_hostWakes_2 : cX2_hostWakes.data.toList.drop 48 = dktX2_hostWakes_2 := dk_seg dksX2_hostWakes_1 24 rfl rfl
theorem dksX2_hostWakes_3 : cX2_hostWakes.data.toList.drop 70 = dktX2_hostWakes_3 := dk_seg dksX2_hostWakes_2 22 rfl rfl
theorem dX2_hostWakes_0 : decode cX2_hostWakes 0 = .ok (.iconst 0, 1) := dk_3 (dk_at dksX2_hostWakes_0 0 rfl rfl)
theorem dX2_hostWakes_1 : decode cX2_hostWakes 1 = .ok (.istore_n 1, 1) := dk_60 (dk_at dksX2_hostWakes_0 1 rfl rfl)
theorem dX2_hostWakes_2 : decode cX2_hostWakes 2 = .ok (.iload_n 1, 1) := dk_27 (dk_at dksX2_hostWakes_0 2 rfl rfl)
theorem dX2_hostWakes_3 : decode cX2_hostWakes 3 = .ok (.aload_n 0, 1) := dk_42 (dk_at dksX2_hostWakes_0 3 rfl rfl)
theorem dX2_hostWakes_4 : decode cX2_hostWakes 4 = .ok (.getfield 18, 3) := dk_180 0 18 (dk_at dksX2_hostWakes_0 4 rfl rfl)
theorem dX2_hostWakes_7 : decode cX2_hostWakes 7 = .ok (.invokeinterface 100 1, 5) := by decide +kernel
theorem dX2_hostWakes_12 : decode cX2_hostWakes 12 = .ok (.if_icmp .ge 27, 3) := dk_162 0 27 (dk_at dksX2_hostWakes_0 12 rfl rfl)
theorem dX2_hostWakes_15 : decode cX2_hostWakes 15 = .ok (.aload_n 0, 1) := dk_42 (dk_at dksX2_hostWakes_0 15 rfl rfl)
theorem dX2_hostWakes_16 : decode cX2_hostWakes 16 = .ok (.iload_n 1, 1) := dk_27 (dk_at dksX2_hostWakes_0 16 rfl rfl)
theorem dX2_hostWakes_17 : decode cX2_hostWakes 17 = .ok (.invokevirtual 119, 3) := dk_182 0 119 (dk_at dksX2_hostWakes_0 17 rfl rfl)
theorem dX2_hostWakes_20 : decode cX2_hostWakes 20 = .ok (.invokevirtual 123, 3) := dk_182 0 123 (dk_at dksX2_hostWakes_0 20 rfl rfl)
theorem dX2_hostWakes_23 : decode cX2_hostWakes 23 = .ok (.iconst 1, 1) := dk_4 (dk_at dksX2_hostWakes_0 23 rfl rfl)
theorem dX2_hostWakes_24 : decode cX2_hostWakes 24 = .ok (.if_icmp .ne 9, 3) := dk_160 0 9 (dk_at dksX2_hostWakes_1 0 rfl rfl)
theorem dX2_hostWakes_27 : decode cX2_hostWakes 27 = .ok (.aload_n 0, 1) := dk_42 (dk_at dksX2_hostWakes_1 3 rfl rfl)
theorem dX2_hostWakes_28 : decode cX2_hostWakes 28 = .ok (.iload_n 1, 1) := dk_27 (dk_at dksX2_hostWakes_1 4 rfl rfl)
theorem dX2_hostWakes_29 : decode cX2_hostWakes 29 = .ok (.iconst 3, 1) := dk_6 (dk_at dksX2_hostWakes_1 5 rfl rfl)
theorem dX2_hostWakes_30 : decode cX2_hostWakes 30 = .ok (.invokevirtual 212, 3) := dk_182 0 212 (dk_at dksX2_hostWakes_1 6 rfl rfl)
theorem dX2_hostWakes_33 : decode cX2_hostWakes 33 = .ok (.iinc 1 1, 3) := dk_132 1 1 (dk_at dksX2_hostWakes_1 9 rfl rfl)
theorem dX2_hostWakes_36 : decode cX2_hostWakes 36 = .ok (.goto (-34), 3) := dk_167 255 222 (dk_at dksX2_hostWakes_1 12 rfl rfl)
theorem dX2_hostWakes_39 : decode cX2_hostWakes 39 = .ok (.iconst 0, 1) := dk_3 (dk_at dksX2_hostWakes_1 15 rfl rfl)
theorem dX2_hostWakes_40 : decode cX2_hostWakes 40 = .ok (.istore_n 1, 1) := dk_60 (dk_at dksX2_hostWakes_1 16 rfl rfl)
theorem dX2_hostWakes_41 : decode cX2_hostWakes 41 = .ok (.iconst 0, 1) := dk_3 (dk_at dksX2_hostWakes_1 17 rfl rfl)
theorem dX2_hostWakes_42 : decode cX2_hostWakes 42 = .ok (.istore_n 2, 1) := dk_61 (dk_at dksX2_hostWakes_1 18 rfl rfl)
theorem dX2_hostWakes_43 : decode cX2_hostWakes 43 = .ok (.iload_n 2, 1) := dk_28 (dk_at dksX2_hostWakes_1 19 rfl rfl)
theorem dX2_hostWakes_44 : decode cX2_hostWakes 44 = .ok (.aload_n 0, 1) := dk_42 (dk_at dksX2_hostWakes_1 20 rfl rfl)
theorem dX2_hostWakes_45 : decode cX2_hostWakes 45 = .ok (.getfield 18, 3) := dk_180 0 18 (dk_at dksX2_hostWakes_1 21 rfl rfl)
theorem dX2_hostWakes_48 : decode cX2_hostWakes 48 = .ok (.invokeinterface 100 1, 5) := by decide +kernel
theorem dX2_hostWakes_53 : decode cX2_hostWakes 53 = .ok (.if_icmp .ge 32, 3) := dk_162 0 32 (dk_at dksX2_hostWakes_2 5 rfl rfl)
theorem dX2_hostWakes_56 : decode cX2_hostWakes 56 = .ok (.iload_n 1, 1) := dk_27 (dk_at dksX2_hostWakes_2 8 rfl rfl)
theorem dX2_hostWakes_57 : decode cX2_hostWakes 57 = .ok (.aload_n 0, 1) := dk_42 (dk_at dksX2_hostWakes_2 9 rfl rfl)
theorem dX2_hostWakes_58 : decode cX2_hostWakes 58 = .ok (.iload_n 2, 1) := dk_28 (dk_at dksX2_hostWakes_2 10 rfl rfl)
theorem dX2_hostWakes_59 : decode cX2_hostWakes 59 = .ok (.invokevirtual 119, 3) := dk_182 0 119 (dk_at dksX2_hostWakes_2 11 rfl rfl)
theorem dX2_hostWakes_62 : decode cX2_hostWakes 62 = .ok (.invokevirtual 209, 3) := dk_182 0 209 (dk_at dksX2_hostWakes_2 14 rfl rfl)
theorem dX2_hostWakes_65 : decode cX2_hostWakes 65 = .ok (.ifCond .eq 11, 3) := dk_153 0 11 (dk_at dksX2_hostWakes_2 17 rfl rfl)
theorem dX2_hostWakes_68 : decode cX2_hostWakes 68 = .ok (.aload_n 0, 1) := dk_42 (dk_at dksX2_hostWakes_2 20 rfl rfl)
theorem dX2_hostWakes_69 : decode cX2_hostWakes 69 = .ok (.iload_n 2, 1) := dk_28 (dk_at dksX2_hostWakes_2 21 rfl rfl)
theorem dX2_hostWakes_70 : decode cX2_hostWakes 70 = .ok (.invokevirtual 215, 3) := dk_182 0 215 (dk_at dksX2_hostWakes_3 0 rfl rfl)
theorem dX2_hostWakes_73 : decode cX2_hostWakes 73 = .ok (.goto 4, 3) := dk_167 0 4 (dk_at dksX2_hostWakes_3 3 rfl rfl)
theorem dX2_hostWakes_76 : decode cX2_hostWakes 76 = .ok (.iconst 0, 1) := dk_3 (dk_at dksX2_hostWakes_3 6 rfl rfl)
theorem dX2_hostWakes_77 : decode cX2_hostWakes 77 = .ok (.iadd, 1) := dk_96 (dk_at dksX2_hostWakes_3 7 rfl rfl)
theorem dX2_hostWakes_78 : decode cX2_hostWakes 78 = .ok (.istore_n 1, 1) := dk_60 (dk_at dksX2_hostWakes_3 8 rfl rfl)
theorem dX2_hostWakes_79 : decode cX2_hostWakes 79 = .ok (.iinc 2 1, 3) := dk_132 2 1 (dk_at dksX2_hostWakes_3 9 rfl rfl)
theorem dX2_hostWakes_82 : decode cX2_hostWakes 82 = .ok (.goto (-39), 3) := dk_167 255 217 (dk_at dksX2_hostWakes_3 12 rfl rfl)
theorem dX2_hostWakes_85 : decode cX2_hostWakes 85 = .ok (.iload_n 1, 1) := dk_27 (dk_at dksX2_hostWakes_3 15 rfl rfl)
theorem dX2_hostWakes_86 : decode cX2_hostWakes 86 = .ok (.ireturn, 1) := dk_172 (dk_at dksX2_hostWakes_3 16 rfl rfl)
abbrev cX2_cookWakes : ByteArray := prog_14_method_27_code
def dkwX2_cookWakes_2 : List UInt8 := [132, 2, 1, 132, 3, 1, 167, 255, 207, 28, 172]
abbrev dktX2_cookWakes_2 : List UInt8 := dkwX2_cookWakes_2 ++ []
def dkwX2_cookWakes_1 : List UInt8 := [182, 0, 126, 58, 4, 25, 4, 198, 0, 20, 25, 4, 182, 0, 154, 153, 0, 12, 42, 27, 29, 182, 0, 236]
abbrev dktX2_cookWakes_1 : List UInt8 := dkwX2_cookWakes_1 ++ dktX2_cookWakes_2
def dkwX2_cookWakes_0 : List UInt8 := [3, 61, 3, 62, 29, 42, 180, 0, 18, 185, 0, 100, 1, 0, 162, 0, 42, 42, 29, 182, 0, 119, 27]
abbrev dktX2_cookWakes_0 : List UInt8 := dkwX2_cookWakes_0 ++ dktX2_cookWakes_1
theorem dksX2_cookWakes_0 : cX2_cookWakes.data.toList.drop 0 = dktX2_cookWakes_0 := by decide +kernel
theorem dksX2_cookWakes_1 : cX2_cookWakes.data.toList.drop 23 = dktX2_cookWakes_1 := dk_seg dksX2_cookWakes_0 23 rfl rfl
theorem dksX2_cookWakes_2 : cX2_cookWakes.data.toList.drop 47 = dktX2_cookWakes_2 := dk_seg dksX2_cookWakes_1 24 rfl rfl
theorem dX2_cookWakes_0 : decode cX2_cookWakes 0 = .ok (.iconst 0, 1) := dk_3 (dk_at dksX2_cookWakes_0 0 rfl rfl)
theorem dX2_cookWakes_1 : decode cX2_cookWakes 1 = .ok (.istore_n 2, 1) := dk_61 (dk_at dksX2_cookWakes_0 1 rfl rfl)
theorem dX2_cookWakes_2 : decode cX2_cookWakes 2 = .ok (.iconst 0, 1) := dk_3 (dk_at dksX2_cookWakes_0 2 rfl rfl)
theorem dX2_cookWakes_3 : decode cX2_cookWakes 3 = .ok (.istore_n 3, 1) := dk_62 (dk_at dksX2_cookWakes_0 3 rfl rfl)
theorem dX2_cookWakes_4 : decode cX2_cookWakes 4 = .ok (.iload_n 3, 1) := dk_29 (dk_at dksX2_cookWakes_0 4 rfl rfl)
theorem dX2_cookWakes_5 : decode cX2_cookWakes 5 = .ok (.aload_n 0, 1) := dk_42 (dk_at dksX2_cookWakes_0 5 rfl rfl)
theorem dX2_cookWakes_6 : decode cX2_cookWakes 6 = .ok (.getfield 18, 3) := dk_180 0 18 (dk_at dksX2_cookWakes_0 6 rfl rfl)
theorem dX2_cookWakes_9 : decode cX2_cookWakes 9 = .ok (.invokeinterface 100 1, 5) := by decide +kernel
theorem dX2_cookWakes_14 : decode cX2_cookWakes 14 = .ok (.if_icmp .ge 42, 3) := dk_162 0 42 (dk_at dksX2_cookWakes_0 14 rfl rfl)
theorem dX2_cookWakes_17 : decode cX2_cookWakes 17 = .ok (.aload_n 0, 1) := dk_42 (dk_at dksX2_cookWakes_0 17 rfl rfl)
theorem dX2_cookWakes_18 : decode cX2_cookWakes 18 = .ok (.iload_n 3, 1) := dk_29 (dk_at dksX2_cookWakes_0 18 rfl rfl)
theorem dX2_cookWakes_19 : decode cX2_cookWakes 19 = .ok (.invokevirtual 119, 3) := dk_182 0 119 (dk_at dksX2_cookWakes_0 19 rfl rfl)
theorem dX2_cookWakes_22 : decode cX2_cookWakes 22 = .ok (.iload_n 1, 1) := dk_27 (dk_at dksX2_cookWakes_0 22 rfl rfl)
theorem dX2_cookWakes_23 : decode cX2_cookWakes 23 = .ok (.invokevirtual 126, 3) := dk_182 0 126 (dk_at dksX2_cookWakes_1 0 rfl rfl)
theorem dX2_cookWakes_26 : decode cX2_cookWakes 26 = .ok (.astore 4, 2) := dk_58 4 (dk_at dksX2_cookWakes_1 3 rfl rfl)
theorem dX2_cookWakes_28 : decode cX2_cookWakes 28 = .ok (.aload 4, 2) := dk_25 4 (dk_at dksX2_cookWakes_1 5 rfl rfl)
theorem dX2_cookWakes_30 : decode cX2_cookWakes 30 = .ok (.ifnull 20, 3) := dk_198 0 20 (dk_at dksX2_cookWakes_1 7 rfl rfl)
theorem dX2_cookWakes_33 : decode cX2_cookWakes 33 = .ok (.aload 4, 2) := dk_25 4 (dk_at dksX2_cookWakes_1 10 rfl rfl)
theorem dX2_cookWakes_35 : decode cX2_cookWakes 35 = .ok (.invokevirtual 154, 3) := dk_182 0 154 (dk_at dksX2_cookWakes_1 12 rfl rfl)
theorem dX2_cookWakes_38 : decode cX2_cookWakes 38 = .ok (.ifCond .eq 12, 3) := dk_153 0 12 (dk_at dksX2_cookWakes_1 15 rfl rfl)
theorem dX2_cookWakes_41 : decode cX2_cookWakes 41 = .ok (.aload_n 0, 1) := dk_42 (dk_at dksX2_cookWakes_1 18 rfl rfl)
theorem dX2_cookWakes_42 : decode cX2_cookWakes 42 = .ok (.iload_n 1, 1) := dk_27 (dk_at dksX2_cookWakes_1 19 rfl rfl)
theorem dX2_cookWakes_43 : decode cX2_cookWakes 43 = .ok (.iload_n 3, 1) := dk_29 (dk_at dksX2_cookWakes_1 20 rfl rfl)
theorem dX2_cookWakes_44 : decode cX2_cookWakes 44 = .ok (.invokevirtual 236, 3) := dk_182 0 236 (dk_at dksX2_cookWakes_1 21 rfl rfl)
theorem dX2_cookWakes_47 : decode cX2_cookWakes 47 = .ok (.iinc 2 1, 3) := dk_132 2 1 (dk_at dksX2_cookWakes_2 0 rfl rfl)
theorem dX2_cookWakes_50 : decode cX2_cookWakes 50 = .ok (.iinc 3 1, 3) := dk_132 3 1 (dk_at dksX2_cookWakes_2 3 rfl rfl)
theorem dX2_cookWakes_53 : decode cX2_cookWakes 53 = .ok (.goto (-49), 3) := dk_167 255 207 (dk_at dksX2_cookWakes_2 6 rfl rfl)
theorem dX2_cookWakes_56 : decode cX2_cookWakes 56 = .ok (.iload_n 2, 1) := dk_28 (dk_at dksX2_cookWakes_2 9 rfl rfl)
theorem dX2_cookWakes_57 : decode cX2_cookWakes 57 = .ok (.ireturn, 1) := dk_172 (dk_at dksX2_cookWakes_2 10 rfl rfl)
abbrev cX2_asksHost : ByteArray := prog_14_method_26_code
def dkwX2_asksHost_0 : List UInt8 := [42, 180, 0, 31, 187, 0, 233, 89, 27, 28, 42, 27, 182, 0, 195, 183, 0, 235, 182, 0, 200, 87, 177]
abbrev dktX2_asksHost_0 : List UInt8 := dkwX2_asksHost_0 ++ []
theorem dksX2_asksHost_0 : cX2_asksHost.data.toList.drop 0 = dktX2_asksHost_0 := by decide +kernel
theorem dX2_asksHost_0 : decode cX2_asksHost 0 = .ok (.aload_n 0, 1) := dk_42 (dk_at dksX2_asksHost_0 0 rfl rfl)
theorem dX2_asksHost_1 : decode cX2_asksHost 1 = .ok (.getfield 31, 3) := dk_180 0 31 (dk_at dksX2_asksHost_0 1 rfl rfl)
theorem dX2_asksHost_4 : decode cX2_asksHost 4 = .ok (.new 233, 3) := dk_187 0 233 (dk_at dksX2_asksHost_0 4 rfl rfl)
theorem dX2_asksHost_7 : decode cX2_asksHost 7 = .ok (.dup, 1) := dk_89 (dk_at dksX2_asksHost_0 7 rfl rfl)
theorem dX2_asksHost_8 : decode cX2_asksHost 8 = .ok (.iload_n 1, 1) := dk_27 (dk_at dksX2_asksHost_0 8 rfl rfl)
theorem dX2_asksHost_9 : decode cX2_asksHost 9 = .ok (.iload_n 2, 1) := dk_28 (dk_at dksX2_asksHost_0 9 rfl rfl)
theorem dX2_asksHost_10 : decode cX2_asksHost 10 = .ok (.aload_n 0, 1) := dk_42 (dk_at dksX2_asksHost_0 10 rfl rfl)
theorem dX2_asksHost_11 : decode cX2_asksHost 11 = .ok (.iload_n 1, 1) := dk_27 (dk_at dksX2_asksHost_0 11 rfl rfl)
theorem dX2_asksHost_12 : decode cX2_asksHost 12 = .ok (.invokevirtual 195, 3) := dk_182 0 195 (dk_at dksX2_asksHost_0 12 rfl rfl)
theorem dX2_asksHost_15 : decode cX2_asksHost 15 = .ok (.invokespecial 235, 3) := dk_183 0 235 (dk_at dksX2_asksHost_0 15 rfl rfl)
theorem dX2_asksHost_18 : decode cX2_asksHost 18 = .ok (.invokevirtual 200, 3) := dk_182 0 200 (dk_at dksX2_asksHost_0 18 rfl rfl)
theorem dX2_asksHost_21 : decode cX2_asksHost 21 = .ok (.pop, 1) := dk_87 (dk_at dksX2_asksHost_0 21 rfl rfl)
theorem dX2_asksHost_22 : decode cX2_asksHost 22 = .ok (.return_, 1) := dk_177 (dk_at dksX2_asksHost_0 22 rfl rfl)
abbrev cX2_checkDish : ByteArray := prog_14_method_32_code
def dkwX2_checkDish_0 : List UInt8 := [42, 28, 182, 0, 119, 27, 182, 0, 126, 198, 0, 7, 4, 167, 0, 4, 3, 16, 9, 27, 184, 0, 103, 177]
abbrev dktX2_checkDish_0 : List UInt8 := dkwX2_checkDish_0 ++ []
theorem dksX2_checkDish_0 : cX2_checkDish.data.toList.drop 0 = dktX2_checkDish_0 := by decide +kernel
theorem dX2_checkDish_0 : decode cX2_checkDish 0 = .ok (.aload_n 0, 1) := dk_42 (dk_at dksX2_checkDish_0 0 rfl rfl)
theorem dX2_checkDish_1 : decode cX2_checkDish 1 = .ok (.iload_n 2, 1) := dk_28 (dk_at dksX2_checkDish_0 1 rfl rfl)
theorem dX2_checkDish_2 : decode cX2_checkDish 2 = .ok (.invokevirtual 119, 3) := dk_182 0 119 (dk_at dksX2_checkDish_0 2 rfl rfl)
theorem dX2_checkDish_5 : decode cX2_checkDish 5 = .ok (.iload_n 1, 1) := dk_27 (dk_at dksX2_checkDish_0 5 rfl rfl)
theorem dX2_checkDish_6 : decode cX2_checkDish 6 = .ok (.invokevirtual 126, 3) := dk_182 0 126 (dk_at dksX2_checkDish_0 6 rfl rfl)
theorem dX2_checkDish_9 : decode cX2_checkDish 9 = .ok (.ifnull 7, 3) := dk_198 0 7 (dk_at dksX2_checkDish_0 9 rfl rfl)
theorem dX2_checkDish_12 : decode cX2_checkDish 12 = .ok (.iconst 1, 1) := dk_4 (dk_at dksX2_checkDish_0 12 rfl rfl)
theorem dX2_checkDish_13 : decode cX2_checkDish 13 = .ok (.goto 4, 3) := dk_167 0 4 (dk_at dksX2_checkDish_0 13 rfl rfl)
theorem dX2_checkDish_16 : decode cX2_checkDish 16 = .ok (.iconst 0, 1) := dk_3 (dk_at dksX2_checkDish_0 16 rfl rfl)
theorem dX2_checkDish_17 : decode cX2_checkDish 17 = .ok (.bipush 9, 2) := dk_16 9 (dk_at dksX2_checkDish_0 17 rfl rfl)
theorem dX2_checkDish_19 : decode cX2_checkDish 19 = .ok (.iload_n 1, 1) := dk_27 (dk_at dksX2_checkDish_0 19 rfl rfl)
theorem dX2_checkDish_20 : decode cX2_checkDish 20 = .ok (.invokestatic 103, 3) := dk_184 0 103 (dk_at dksX2_checkDish_0 20 rfl rfl)
theorem dX2_checkDish_23 : decode cX2_checkDish 23 = .ok (.return_, 1) := dk_177 (dk_at dksX2_checkDish_0 23 rfl rfl)
abbrev cX6_copy : ByteArray := prog_3_method_2_code
def dkwX6_copy_2 : List UInt8 := [180, 0, 18, 3, 43, 180, 0, 18, 3, 7, 184, 0, 32, 43, 176]
abbrev dktX6_copy_2 : List UInt8 := dkwX6_copy_2 ++ []
def dkwX6_copy_1 : List UInt8 := [180, 0, 9, 3, 7, 184, 0, 32, 42, 180, 0, 15, 3, 43, 180, 0, 15, 3, 7, 184, 0, 32, 42]
abbrev dktX6_copy_1 : List UInt8 := dkwX6_copy_1 ++ dktX6_copy_2
def dkwX6_copy_0 : List UInt8 := [187, 0, 10, 89, 42, 180, 0, 21, 183, 0, 25, 76, 43, 42, 182, 0, 28, 42, 180, 0, 9, 3, 43]
abbrev dktX6_copy_0 : List UInt8 := dkwX6_copy_0 ++ dktX6_copy_1
theorem dksX6_copy_0 : cX6_copy.data.toList.drop 0 = dktX6_copy_0 := by decide +kernel
theorem dksX6_copy_1 : cX6_copy.data.toList.drop 23 = dktX6_copy_1 := dk_seg dksX6_copy_0 23 rfl rfl
theorem dksX6_copy_2 : cX6_copy.data.toList.drop 46 = dktX6_copy_2 := dk_seg dksX6_copy_1 23 rfl rfl
theorem dX6_copy_0 : decode cX6_copy 0 = .ok (.new 10, 3) := dk_187 0 10 (dk_at dksX6_copy_0 0 rfl rfl)
theorem dX6_copy_3 : decode cX6_copy 3 = .ok (.dup, 1) := dk_89 (dk_at dksX6_copy_0 3 rfl rfl)
theorem dX6_copy_4 : decode cX6_copy 4 = .ok (.aload_n 0, 1) := dk_42 (dk_at dksX6_copy_0 4 rfl rfl)
theorem dX6_copy_5 : decode cX6_copy 5 = .ok (.getfield 21, 3) := dk_180 0 21 (dk_at dksX6_copy_0 5 rfl rfl)
theorem dX6_copy_8 : decode cX6_copy 8 = .ok (.invokespecial 25, 3) := dk_183 0 25 (dk_at dksX6_copy_0 8 rfl rfl)
theorem dX6_copy_11 : decode cX6_copy 11 = .ok (.astore_n 1, 1) := dk_76 (dk_at dksX6_copy_0 11 rfl rfl)
theorem dX6_copy_12 : decode cX6_copy 12 = .ok (.aload_n 1, 1) := dk_43 (dk_at dksX6_copy_0 12 rfl rfl)
theorem dX6_copy_13 : decode cX6_copy 13 = .ok (.aload_n 0, 1) := dk_42 (dk_at dksX6_copy_0 13 rfl rfl)
theorem dX6_copy_14 : decode cX6_copy 14 = .ok (.invokevirtual 28, 3) := dk_182 0 28 (dk_at dksX6_copy_0 14 rfl rfl)
theorem dX6_copy_17 : decode cX6_copy 17 = .ok (.aload_n 0, 1) := dk_42 (dk_at dksX6_copy_0 17 rfl rfl)
theorem dX6_copy_18 : decode cX6_copy 18 = .ok (.getfield 9, 3) := dk_180 0 9 (dk_at dksX6_copy_0 18 rfl rfl)
theorem dX6_copy_21 : decode cX6_copy 21 = .ok (.iconst 0, 1) := dk_3 (dk_at dksX6_copy_0 21 rfl rfl)
theorem dX6_copy_22 : decode cX6_copy 22 = .ok (.aload_n 1, 1) := dk_43 (dk_at dksX6_copy_0 22 rfl rfl)
theorem dX6_copy_23 : decode cX6_copy 23 = .ok (.getfield 9, 3) := dk_180 0 9 (dk_at dksX6_copy_1 0 rfl rfl)
theorem dX6_copy_26 : decode cX6_copy 26 = .ok (.iconst 0, 1) := dk_3 (dk_at dksX6_copy_1 3 rfl rfl)
theorem dX6_copy_27 : decode cX6_copy 27 = .ok (.iconst 4, 1) := dk_7 (dk_at dksX6_copy_1 4 rfl rfl)
theorem dX6_copy_28 : decode cX6_copy 28 = .ok (.invokestatic 32, 3) := dk_184 0 32 (dk_at dksX6_copy_1 5 rfl rfl)
theorem dX6_copy_31 : decode cX6_copy 31 = .ok (.aload_n 0, 1) := dk_42 (dk_at dksX6_copy_1 8 rfl rfl)
theorem dX6_copy_32 : decode cX6_copy 32 = .ok (.getfield 15, 3) := dk_180 0 15 (dk_at dksX6_copy_1 9 rfl rfl)
theorem dX6_copy_35 : decode cX6_copy 35 = .ok (.iconst 0, 1) := dk_3 (dk_at dksX6_copy_1 12 rfl rfl)
theorem dX6_copy_36 : decode cX6_copy 36 = .ok (.aload_n 1, 1) := dk_43 (dk_at dksX6_copy_1 13 rfl rfl)
theorem dX6_copy_37 : decode cX6_copy 37 = .ok (.getfield 15, 3) := dk_180 0 15 (dk_at dksX6_copy_1 14 rfl rfl)
theorem dX6_copy_40 : decode cX6_copy 40 = .ok (.iconst 0, 1) := dk_3 (dk_at dksX6_copy_1 17 rfl rfl)
theorem dX6_copy_41 : decode cX6_copy 41 = .ok (.iconst 4, 1) := dk_7 (dk_at dksX6_copy_1 18 rfl rfl)
theorem dX6_copy_42 : decode cX6_copy 42 = .ok (.invokestatic 32, 3) := dk_184 0 32 (dk_at dksX6_copy_1 19 rfl rfl)
theorem dX6_copy_45 : decode cX6_copy 45 = .ok (.aload_n 0, 1) := dk_42 (dk_at dksX6_copy_1 22 rfl rfl)
theorem dX6_copy_46 : decode cX6_copy 46 = .ok (.getfield 18, 3) := dk_180 0 18 (dk_at dksX6_copy_2 0 rfl rfl)
theorem dX6_copy_49 : decode cX6_copy 49 = .ok (.iconst 0, 1) := dk_3 (dk_at dksX6_copy_2 3 rfl rfl)
theorem dX6_copy_50 : decode cX6_copy 50 = .ok (.aload_n 1, 1) := dk_43 (dk_at dksX6_copy_2 4 rfl rfl)
theorem dX6_copy_51 : decode cX6_copy 51 = .ok (.getfield 18, 3) := dk_180 0 18 (dk_at dksX6_copy_2 5 rfl rfl)
theorem dX6_copy_54 : decode cX6_copy 54 = .ok (.iconst 0, 1) := dk_3 (dk_at dksX6_copy_2 8 rfl rfl)
theorem dX6_copy_55 : decode cX6_copy 55 = .ok (.iconst 4, 1) := dk_7 (dk_at dksX6_copy_2 9 rfl rfl)
theorem dX6_copy_56 : decode cX6_copy 56 = .ok (.invokestatic 32, 3) := dk_184 0 32 (dk_at dksX6_copy_2 10 rfl rfl)
theorem dX6_copy_59 : decode cX6_copy 59 = .ok (.aload_n 1, 1) := dk_43 (dk_at dksX6_copy_2 13 rfl rfl)
theorem dX6_copy_60 : decode cX6_copy 60 = .ok (.areturn, 1) := dk_176 (dk_at dksX6_copy_2 14 rfl rfl)
abbrev cX6_init : ByteArray := prog_3_method_1_code
def dkwX6_init_1 : List UInt8 := [181, 0, 18, 42, 27, 181, 0, 21, 177]
abbrev dktX6_init_1 : List UInt8 := dkwX6_init_1 ++ []
def dkwX6_init_0 : List UInt8 := [42, 183, 0, 3, 42, 7, 188, 10, 181, 0, 9, 42, 7, 188, 10, 181, 0, 15, 42, 7, 188, 10]
abbrev dktX6_init_0 : List UInt8 := dkwX6_init_0 ++ dktX6_init_1
theorem dksX6_init_0 : cX6_init.data.toList.drop 0 = dktX6_init_0 := by decide +kernel
theorem dksX6_init_1 : cX6_init.data.toList.drop 22 = dktX6_init_1 := dk_seg dksX6_init_0 22 rfl rfl
theorem dX6_init_0 : decode cX6_init 0 = .ok (.aload_n 0, 1) := dk_42 (dk_at dksX6_init_0 0 rfl rfl)
theorem dX6_init_1 : decode cX6_init 1 = .ok (.invokespecial 3, 3) := dk_183 0 3 (dk_at dksX6_init_0 1 rfl rfl)
theorem dX6_init_4 : decode cX6_init 4 = .ok (.aload_n 0, 1) := dk_42 (dk_at dksX6_init_0 4 rfl rfl)
theorem dX6_init_5 : decode cX6_init 5 = .ok (.iconst 4, 1) := dk_7 (dk_at dksX6_init_0 5 rfl rfl)
theorem dX6_init_6 : decode cX6_init 6 = .ok (.newarray .int, 2) := dk_188_10 (dk_at dksX6_init_0 6 rfl rfl)
theorem dX6_init_8 : decode cX6_init 8 = .ok (.putfield 9, 3) := dk_181 0 9 (dk_at dksX6_init_0 8 rfl rfl)
theorem dX6_init_11 : decode cX6_init 11 = .ok (.aload_n 0, 1) := dk_42 (dk_at dksX6_init_0 11 rfl rfl)
theorem dX6_init_12 : decode cX6_init 12 = .ok (.iconst 4, 1) := dk_7 (dk_at dksX6_init_0 12 rfl rfl)
theorem dX6_init_13 : decode cX6_init 13 = .ok (.newarray .int, 2) := dk_188_10 (dk_at dksX6_init_0 13 rfl rfl)
theorem dX6_init_15 : decode cX6_init 15 = .ok (.putfield 15, 3) := dk_181 0 15 (dk_at dksX6_init_0 15 rfl rfl)
theorem dX6_init_18 : decode cX6_init 18 = .ok (.aload_n 0, 1) := dk_42 (dk_at dksX6_init_0 18 rfl rfl)
theorem dX6_init_19 : decode cX6_init 19 = .ok (.iconst 4, 1) := dk_7 (dk_at dksX6_init_0 19 rfl rfl)
theorem dX6_init_20 : decode cX6_init 20 = .ok (.newarray .int, 2) := dk_188_10 (dk_at dksX6_init_0 20 rfl rfl)
theorem dX6_init_22 : decode cX6_init 22 = .ok (.putfield 18, 3) := dk_181 0 18 (dk_at dksX6_init_1 0 rfl rfl)
theorem dX6_init_25 : decode cX6_init 25 = .ok (.aload_n 0, 1) := dk_42 (dk_at dksX6_init_1 3 rfl rfl)
theorem dX6_init_26 : decode cX6_init 26 = .ok (.iload_n 1, 1) := dk_27 (dk_at dksX6_init_1 4 rfl rfl)
theorem dX6_init_27 : decode cX6_init 27 = .ok (.putfield 21, 3) := dk_181 0 21 (dk_at dksX6_init_1 5 rfl rfl)
theorem dX6_init_30 : decode cX6_init 30 = .ok (.return_, 1) := dk_177 (dk_at dksX6_init_1 8 rfl rfl)
abbrev cX6_stock : ByteArray := prog_3_method_4_code
def dkwX6_stock_0 : List UInt8 := [42, 180, 0, 9, 27, 46, 172]
abbrev dktX6_stock_0 : List UInt8 := dkwX6_stock_0 ++ []
theorem dksX6_stock_0 : cX6_stock.data.toList.drop 0 = dktX6_stock_0 := by decide +kernel
theorem dX6_stock_0 : decode cX6_stock 0 = .ok (.aload_n 0, 1) := dk_42 (dk_at dksX6_stock_0 0 rfl rfl)
theorem dX6_stock_1 : decode cX6_stock 1 = .ok (.getfield 9, 3) := dk_180 0 9 (dk_at dksX6_stock_0 1 rfl rfl)
theorem dX6_stock_4 : decode cX6_stock 4 = .ok (.iload_n 1, 1) := dk_27 (dk_at dksX6_stock_0 4 rfl rfl)
theorem dX6_stock_5 : decode cX6_stock 5 = .ok (.iaload, 1) := dk_46 (dk_at dksX6_stock_0 5 rfl rfl)
theorem dX6_stock_6 : decode cX6_stock 6 = .ok (.ireturn, 1) := dk_172 (dk_at dksX6_stock_0 6 rfl rfl)
abbrev cX6_gets : ByteArray := prog_3_method_6_code
def dkwX6_gets_0 : List UInt8 := [42, 180, 0, 9, 27, 92, 46, 28, 96, 79, 42, 180, 0, 15, 27, 92, 46, 28, 96, 79, 177]
abbrev dktX6_gets_0 : List UInt8 := dkwX6_gets_0 ++ []
theorem dksX6_gets_0 : cX6_gets.data.toList.drop 0 = dktX6_gets_0 := by decide +kernel
theorem dX6_gets_0 : decode cX6_gets 0 = .ok (.aload_n 0, 1) := dk_42 (dk_at dksX6_gets_0 0 rfl rfl)
theorem dX6_gets_1 : decode cX6_gets 1 = .ok (.getfield 9, 3) := dk_180 0 9 (dk_at dksX6_gets_0 1 rfl rfl)
theorem dX6_gets_4 : decode cX6_gets 4 = .ok (.iload_n 1, 1) := dk_27 (dk_at dksX6_gets_0 4 rfl rfl)
theorem dX6_gets_5 : decode cX6_gets 5 = .ok (.dup2, 1) := dk_92 (dk_at dksX6_gets_0 5 rfl rfl)
theorem dX6_gets_6 : decode cX6_gets 6 = .ok (.iaload, 1) := dk_46 (dk_at dksX6_gets_0 6 rfl rfl)
theorem dX6_gets_7 : decode cX6_gets 7 = .ok (.iload_n 2, 1) := dk_28 (dk_at dksX6_gets_0 7 rfl rfl)
theorem dX6_gets_8 : decode cX6_gets 8 = .ok (.iadd, 1) := dk_96 (dk_at dksX6_gets_0 8 rfl rfl)
theorem dX6_gets_9 : decode cX6_gets 9 = .ok (.iastore, 1) := dk_79 (dk_at dksX6_gets_0 9 rfl rfl)
theorem dX6_gets_10 : decode cX6_gets 10 = .ok (.aload_n 0, 1) := dk_42 (dk_at dksX6_gets_0 10 rfl rfl)
theorem dX6_gets_11 : decode cX6_gets 11 = .ok (.getfield 15, 3) := dk_180 0 15 (dk_at dksX6_gets_0 11 rfl rfl)
theorem dX6_gets_14 : decode cX6_gets 14 = .ok (.iload_n 1, 1) := dk_27 (dk_at dksX6_gets_0 14 rfl rfl)
theorem dX6_gets_15 : decode cX6_gets 15 = .ok (.dup2, 1) := dk_92 (dk_at dksX6_gets_0 15 rfl rfl)
theorem dX6_gets_16 : decode cX6_gets 16 = .ok (.iaload, 1) := dk_46 (dk_at dksX6_gets_0 16 rfl rfl)
theorem dX6_gets_17 : decode cX6_gets 17 = .ok (.iload_n 2, 1) := dk_28 (dk_at dksX6_gets_0 17 rfl rfl)
theorem dX6_gets_18 : decode cX6_gets 18 = .ok (.iadd, 1) := dk_96 (dk_at dksX6_gets_0 18 rfl rfl)
theorem dX6_gets_19 : decode cX6_gets 19 = .ok (.iastore, 1) := dk_79 (dk_at dksX6_gets_0 19 rfl rfl)
theorem dX6_gets_20 : decode cX6_gets 20 = .ok (.return_, 1) := dk_177 (dk_at dksX6_gets_0 20 rfl rfl)
abbrev cX6_distance : ByteArray := prog_3_method_3_code
theorem dX6_distance_0 : decode cX6_distance 0 = .ok (.aload_n 0, 1) := by decide +kernel
theorem dX6_distance_1 : decode cX6_distance 1 = .ok (.getfield 21, 3) := by decide +kernel
theorem dX6_distance_4 : decode cX6_distance 4 = .ok (.ireturn, 1) := by decide +kernel
abbrev cX6_served : ByteArray := prog_3_method_8_code
def dkwX6_served_1 : List UInt8 := [54, 5, 27, 21, 5, 96, 60, 132, 4, 1, 167, 255, 236, 27, 172]
abbrev dktX6_served_1 : List UInt8 := dkwX6_served_1 ++ []
def dkwX6_served_0 : List UInt8 := [3, 60, 42, 180, 0, 18, 77, 44, 190, 62, 3, 54, 4, 21, 4, 29, 162, 0, 20, 44, 21, 4, 46]
abbrev dktX6_served_0 : List UInt8 := dkwX6_served_0 ++ dktX6_served_1
theorem dksX6_served_0 : cX6_served.data.toList.drop 0 = dktX6_served_0 := by decide +kernel
theorem dksX6_served_1 : cX6_served.data.toList.drop 23 = dktX6_served_1 := dk_seg dksX6_served_0 23 rfl rfl
theorem dX6_served_0 : decode cX6_served 0 = .ok (.iconst 0, 1) := dk_3 (dk_at dksX6_served_0 0 rfl rfl)
theorem dX6_served_1 : decode cX6_served 1 = .ok (.istore_n 1, 1) := dk_60 (dk_at dksX6_served_0 1 rfl rfl)
theorem dX6_served_2 : decode cX6_served 2 = .ok (.aload_n 0, 1) := dk_42 (dk_at dksX6_served_0 2 rfl rfl)
theorem dX6_served_3 : decode cX6_served 3 = .ok (.getfield 18, 3) := dk_180 0 18 (dk_at dksX6_served_0 3 rfl rfl)
theorem dX6_served_6 : decode cX6_served 6 = .ok (.astore_n 2, 1) := dk_77 (dk_at dksX6_served_0 6 rfl rfl)
theorem dX6_served_7 : decode cX6_served 7 = .ok (.aload_n 2, 1) := dk_44 (dk_at dksX6_served_0 7 rfl rfl)
theorem dX6_served_8 : decode cX6_served 8 = .ok (.arraylength, 1) := dk_190 (dk_at dksX6_served_0 8 rfl rfl)
theorem dX6_served_9 : decode cX6_served 9 = .ok (.istore_n 3, 1) := dk_62 (dk_at dksX6_served_0 9 rfl rfl)
theorem dX6_served_10 : decode cX6_served 10 = .ok (.iconst 0, 1) := dk_3 (dk_at dksX6_served_0 10 rfl rfl)
theorem dX6_served_11 : decode cX6_served 11 = .ok (.istore 4, 2) := dk_54 4 (dk_at dksX6_served_0 11 rfl rfl)
theorem dX6_served_13 : decode cX6_served 13 = .ok (.iload 4, 2) := dk_21 4 (dk_at dksX6_served_0 13 rfl rfl)
theorem dX6_served_15 : decode cX6_served 15 = .ok (.iload_n 3, 1) := dk_29 (dk_at dksX6_served_0 15 rfl rfl)
theorem dX6_served_16 : decode cX6_served 16 = .ok (.if_icmp .ge 20, 3) := dk_162 0 20 (dk_at dksX6_served_0 16 rfl rfl)
theorem dX6_served_19 : decode cX6_served 19 = .ok (.aload_n 2, 1) := dk_44 (dk_at dksX6_served_0 19 rfl rfl)
theorem dX6_served_20 : decode cX6_served 20 = .ok (.iload 4, 2) := dk_21 4 (dk_at dksX6_served_0 20 rfl rfl)
theorem dX6_served_22 : decode cX6_served 22 = .ok (.iaload, 1) := dk_46 (dk_at dksX6_served_0 22 rfl rfl)
theorem dX6_served_23 : decode cX6_served 23 = .ok (.istore 5, 2) := dk_54 5 (dk_at dksX6_served_1 0 rfl rfl)
theorem dX6_served_25 : decode cX6_served 25 = .ok (.iload_n 1, 1) := dk_27 (dk_at dksX6_served_1 2 rfl rfl)
theorem dX6_served_26 : decode cX6_served 26 = .ok (.iload 5, 2) := dk_21 5 (dk_at dksX6_served_1 3 rfl rfl)
theorem dX6_served_28 : decode cX6_served 28 = .ok (.iadd, 1) := dk_96 (dk_at dksX6_served_1 5 rfl rfl)
theorem dX6_served_29 : decode cX6_served 29 = .ok (.istore_n 1, 1) := dk_60 (dk_at dksX6_served_1 6 rfl rfl)
theorem dX6_served_30 : decode cX6_served 30 = .ok (.iinc 4 1, 3) := dk_132 4 1 (dk_at dksX6_served_1 7 rfl rfl)
theorem dX6_served_33 : decode cX6_served 33 = .ok (.goto (-20), 3) := dk_167 255 236 (dk_at dksX6_served_1 10 rfl rfl)
theorem dX6_served_36 : decode cX6_served 36 = .ok (.iload_n 1, 1) := dk_27 (dk_at dksX6_served_1 13 rfl rfl)
theorem dX6_served_37 : decode cX6_served 37 = .ok (.ireturn, 1) := dk_172 (dk_at dksX6_served_1 14 rfl rfl)
abbrev cX6_left : ByteArray := prog_3_method_5_code
def dkwX6_left_0 : List UInt8 := [42, 180, 0, 15, 27, 46, 42, 180, 0, 18, 27, 46, 100, 172]
abbrev dktX6_left_0 : List UInt8 := dkwX6_left_0 ++ []
theorem dksX6_left_0 : cX6_left.data.toList.drop 0 = dktX6_left_0 := by decide +kernel
theorem dX6_left_0 : decode cX6_left 0 = .ok (.aload_n 0, 1) := dk_42 (dk_at dksX6_left_0 0 rfl rfl)
theorem dX6_left_1 : decode cX6_left 1 = .ok (.getfield 15, 3) := dk_180 0 15 (dk_at dksX6_left_0 1 rfl rfl)
theorem dX6_left_4 : decode cX6_left 4 = .ok (.iload_n 1, 1) := dk_27 (dk_at dksX6_left_0 4 rfl rfl)
theorem dX6_left_5 : decode cX6_left 5 = .ok (.iaload, 1) := dk_46 (dk_at dksX6_left_0 5 rfl rfl)
theorem dX6_left_6 : decode cX6_left 6 = .ok (.aload_n 0, 1) := dk_42 (dk_at dksX6_left_0 6 rfl rfl)
theorem dX6_left_7 : decode cX6_left 7 = .ok (.getfield 18, 3) := dk_180 0 18 (dk_at dksX6_left_0 7 rfl rfl)
theorem dX6_left_10 : decode cX6_left 10 = .ok (.iload_n 1, 1) := dk_27 (dk_at dksX6_left_0 10 rfl rfl)
theorem dX6_left_11 : decode cX6_left 11 = .ok (.iaload, 1) := dk_46 (dk_at dksX6_left_0 11 rfl rfl)
theorem dX6_left_12 : decode cX6_left 12 = .ok (.isub, 1) := dk_100 (dk_at dksX6_left_0 12 rfl rfl)
theorem dX6_left_13 : decode cX6_left 13 = .ok (.ireturn, 1) := dk_172 (dk_at dksX6_left_0 13 rfl rfl)
abbrev cX7_those : ByteArray := prog_4_method_13_code
def dkwX7_those_2 : List UInt8 := [167, 0, 4, 3, 96, 61, 167, 255, 219, 28, 172]
abbrev dktX7_those_2 : List UInt8 := dkwX7_those_2 ++ []
def dkwX7_those_1 : List UInt8 := [45, 185, 0, 42, 1, 0, 192, 0, 60, 58, 4, 28, 25, 4, 182, 0, 83, 43, 166, 0, 7, 4]
abbrev dktX7_those_1 : List UInt8 := dkwX7_those_1 ++ dktX7_those_2
def dkwX7_those_0 : List UInt8 := [3, 61, 42, 180, 0, 12, 182, 0, 76, 185, 0, 80, 1, 0, 78, 45, 185, 0, 36, 1, 0, 153, 0, 34]
abbrev dktX7_those_0 : List UInt8 := dkwX7_those_0 ++ dktX7_those_1
theorem dksX7_those_0 : cX7_those.data.toList.drop 0 = dktX7_those_0 := by decide +kernel
theorem dksX7_those_1 : cX7_those.data.toList.drop 24 = dktX7_those_1 := dk_seg dksX7_those_0 24 rfl rfl
theorem dksX7_those_2 : cX7_those.data.toList.drop 46 = dktX7_those_2 := dk_seg dksX7_those_1 22 rfl rfl
theorem dX7_those_0 : decode cX7_those 0 = .ok (.iconst 0, 1) := dk_3 (dk_at dksX7_those_0 0 rfl rfl)
theorem dX7_those_1 : decode cX7_those 1 = .ok (.istore_n 2, 1) := dk_61 (dk_at dksX7_those_0 1 rfl rfl)
theorem dX7_those_2 : decode cX7_those 2 = .ok (.aload_n 0, 1) := dk_42 (dk_at dksX7_those_0 2 rfl rfl)
theorem dX7_those_3 : decode cX7_those 3 = .ok (.getfield 12, 3) := dk_180 0 12 (dk_at dksX7_those_0 3 rfl rfl)
theorem dX7_those_6 : decode cX7_those 6 = .ok (.invokevirtual 76, 3) := dk_182 0 76 (dk_at dksX7_those_0 6 rfl rfl)
theorem dX7_those_9 : decode cX7_those 9 = .ok (.invokeinterface 80 1, 5) := by decide +kernel
theorem dX7_those_14 : decode cX7_those 14 = .ok (.astore_n 3, 1) := dk_78 (dk_at dksX7_those_0 14 rfl rfl)
theorem dX7_those_15 : decode cX7_those 15 = .ok (.aload_n 3, 1) := dk_45 (dk_at dksX7_those_0 15 rfl rfl)
theorem dX7_those_16 : decode cX7_those 16 = .ok (.invokeinterface 36 1, 5) := by decide +kernel
theorem dX7_those_21 : decode cX7_those 21 = .ok (.ifCond .eq 34, 3) := dk_153 0 34 (dk_at dksX7_those_0 21 rfl rfl)
theorem dX7_those_24 : decode cX7_those 24 = .ok (.aload_n 3, 1) := dk_45 (dk_at dksX7_those_1 0 rfl rfl)
theorem dX7_those_25 : decode cX7_those 25 = .ok (.invokeinterface 42 1, 5) := by decide +kernel
theorem dX7_those_30 : decode cX7_those 30 = .ok (.checkcast 60, 3) := dk_192 0 60 (dk_at dksX7_those_1 6 rfl rfl)
theorem dX7_those_33 : decode cX7_those 33 = .ok (.astore 4, 2) := dk_58 4 (dk_at dksX7_those_1 9 rfl rfl)
theorem dX7_those_35 : decode cX7_those 35 = .ok (.iload_n 2, 1) := dk_28 (dk_at dksX7_those_1 11 rfl rfl)
theorem dX7_those_36 : decode cX7_those 36 = .ok (.aload 4, 2) := dk_25 4 (dk_at dksX7_those_1 12 rfl rfl)
theorem dX7_those_38 : decode cX7_those 38 = .ok (.invokevirtual 83, 3) := dk_182 0 83 (dk_at dksX7_those_1 14 rfl rfl)
theorem dX7_those_41 : decode cX7_those 41 = .ok (.aload_n 1, 1) := dk_43 (dk_at dksX7_those_1 17 rfl rfl)
theorem dX7_those_42 : decode cX7_those 42 = .ok (.if_acmp .ne 7, 3) := dk_166 0 7 (dk_at dksX7_those_1 18 rfl rfl)
theorem dX7_those_45 : decode cX7_those 45 = .ok (.iconst 1, 1) := dk_4 (dk_at dksX7_those_1 21 rfl rfl)
theorem dX7_those_46 : decode cX7_those 46 = .ok (.goto 4, 3) := dk_167 0 4 (dk_at dksX7_those_2 0 rfl rfl)
theorem dX7_those_49 : decode cX7_those 49 = .ok (.iconst 0, 1) := dk_3 (dk_at dksX7_those_2 3 rfl rfl)
theorem dX7_those_50 : decode cX7_those 50 = .ok (.iadd, 1) := dk_96 (dk_at dksX7_those_2 4 rfl rfl)
theorem dX7_those_51 : decode cX7_those 51 = .ok (.istore_n 2, 1) := dk_61 (dk_at dksX7_those_2 5 rfl rfl)
theorem dX7_those_52 : decode cX7_those 52 = .ok (.goto (-37), 3) := dk_167 255 219 (dk_at dksX7_those_2 6 rfl rfl)
theorem dX7_those_55 : decode cX7_those 55 = .ok (.iload_n 2, 1) := dk_28 (dk_at dksX7_those_2 9 rfl rfl)
theorem dX7_those_56 : decode cX7_those 56 = .ok (.ireturn, 1) := dk_172 (dk_at dksX7_those_2 10 rfl rfl)
abbrev cX7_off : ByteArray := prog_4_method_14_code
def dkwX7_off_0 : List UInt8 := [42, 178, 0, 87, 182, 0, 93, 42, 178, 0, 97, 182, 0, 93, 96, 172]
abbrev dktX7_off_0 : List UInt8 := dkwX7_off_0 ++ []
theorem dksX7_off_0 : cX7_off.data.toList.drop 0 = dktX7_off_0 := by decide +kernel
theorem dX7_off_0 : decode cX7_off 0 = .ok (.aload_n 0, 1) := dk_42 (dk_at dksX7_off_0 0 rfl rfl)
theorem dX7_off_1 : decode cX7_off 1 = .ok (.getstatic 87, 3) := dk_178 0 87 (dk_at dksX7_off_0 1 rfl rfl)
theorem dX7_off_4 : decode cX7_off 4 = .ok (.invokevirtual 93, 3) := dk_182 0 93 (dk_at dksX7_off_0 4 rfl rfl)
theorem dX7_off_7 : decode cX7_off 7 = .ok (.aload_n 0, 1) := dk_42 (dk_at dksX7_off_0 7 rfl rfl)
theorem dX7_off_8 : decode cX7_off 8 = .ok (.getstatic 97, 3) := dk_178 0 97 (dk_at dksX7_off_0 8 rfl rfl)
theorem dX7_off_11 : decode cX7_off 11 = .ok (.invokevirtual 93, 3) := dk_182 0 93 (dk_at dksX7_off_0 11 rfl rfl)
theorem dX7_off_14 : decode cX7_off 14 = .ok (.iadd, 1) := dk_96 (dk_at dksX7_off_0 14 rfl rfl)
theorem dX7_off_15 : decode cX7_off 15 = .ok (.ireturn, 1) := dk_172 (dk_at dksX7_off_0 15 rfl rfl)
abbrev cX7_copy : ByteArray := prog_4_method_2_code
def dkwX7_copy_4 : List UInt8 := [42, 180, 0, 22, 181, 0, 22, 43, 42, 180, 0, 73, 181, 0, 73, 43, 176]
abbrev dktX7_copy_4 : List UInt8 := dkwX7_copy_4 ++ []
def dkwX7_copy_3 : List UInt8 := [182, 0, 66, 87, 167, 255, 205, 43, 42, 180, 0, 70, 181, 0, 70, 43, 42, 180, 0, 18, 181, 0, 18, 43]
abbrev dktX7_copy_3 : List UInt8 := dkwX7_copy_3 ++ dktX7_copy_4
def dkwX7_copy_2 : List UInt8 := [180, 0, 12, 29, 184, 0, 52, 42, 180, 0, 12, 29, 184, 0, 52, 182, 0, 56, 192, 0, 60, 182, 0, 62]
abbrev dktX7_copy_2 : List UInt8 := dkwX7_copy_2 ++ dktX7_copy_3
def dkwX7_copy_1 : List UInt8 := [185, 0, 36, 1, 0, 153, 0, 48, 44, 185, 0, 42, 1, 0, 192, 0, 46, 182, 0, 48, 62, 43]
abbrev dktX7_copy_1 : List UInt8 := dkwX7_copy_1 ++ dktX7_copy_2
def dkwX7_copy_0 : List UInt8 := [187, 0, 13, 89, 183, 0, 25, 76, 42, 180, 0, 12, 182, 0, 26, 185, 0, 30, 1, 0, 77, 44]
abbrev dktX7_copy_0 : List UInt8 := dkwX7_copy_0 ++ dktX7_copy_1
theorem dksX7_copy_0 : cX7_copy.data.toList.drop 0 = dktX7_copy_0 := by decide +kernel
theorem dksX7_copy_1 : cX7_copy.data.toList.drop 22 = dktX7_copy_1 := dk_seg dksX7_copy_0 22 rfl rfl
theorem dksX7_copy_2 : cX7_copy.data.toList.drop 44 = dktX7_copy_2 := dk_seg dksX7_copy_1 22 rfl rfl
theorem dksX7_copy_3 : cX7_copy.data.toList.drop 68 = dktX7_copy_3 := dk_seg dksX7_copy_2 24 rfl rfl
theorem dksX7_copy_4 : cX7_copy.data.toList.drop 92 = dktX7_copy_4 := dk_seg dksX7_copy_3 24 rfl rfl
theorem dX7_copy_0 : decode cX7_copy 0 = .ok (.new 13, 3) := dk_187 0 13 (dk_at dksX7_copy_0 0 rfl rfl)
theorem dX7_copy_3 : decode cX7_copy 3 = .ok (.dup, 1) := dk_89 (dk_at dksX7_copy_0 3 rfl rfl)
theorem dX7_copy_4 : decode cX7_copy 4 = .ok (.invokespecial 25, 3) := dk_183 0 25 (dk_at dksX7_copy_0 4 rfl rfl)
theorem dX7_copy_7 : decode cX7_copy 7 = .ok (.astore_n 1, 1) := dk_76 (dk_at dksX7_copy_0 7 rfl rfl)
theorem dX7_copy_8 : decode cX7_copy 8 = .ok (.aload_n 0, 1) := dk_42 (dk_at dksX7_copy_0 8 rfl rfl)
theorem dX7_copy_9 : decode cX7_copy 9 = .ok (.getfield 12, 3) := dk_180 0 12 (dk_at dksX7_copy_0 9 rfl rfl)
theorem dX7_copy_12 : decode cX7_copy 12 = .ok (.invokevirtual 26, 3) := dk_182 0 26 (dk_at dksX7_copy_0 12 rfl rfl)
theorem dX7_copy_15 : decode cX7_copy 15 = .ok (.invokeinterface 30 1, 5) := by decide +kernel
theorem dX7_copy_20 : decode cX7_copy 20 = .ok (.astore_n 2, 1) := dk_77 (dk_at dksX7_copy_0 20 rfl rfl)
theorem dX7_copy_21 : decode cX7_copy 21 = .ok (.aload_n 2, 1) := dk_44 (dk_at dksX7_copy_0 21 rfl rfl)
theorem dX7_copy_22 : decode cX7_copy 22 = .ok (.invokeinterface 36 1, 5) := by decide +kernel
theorem dX7_copy_27 : decode cX7_copy 27 = .ok (.ifCond .eq 48, 3) := dk_153 0 48 (dk_at dksX7_copy_1 5 rfl rfl)
theorem dX7_copy_30 : decode cX7_copy 30 = .ok (.aload_n 2, 1) := dk_44 (dk_at dksX7_copy_1 8 rfl rfl)
theorem dX7_copy_31 : decode cX7_copy 31 = .ok (.invokeinterface 42 1, 5) := by decide +kernel
theorem dX7_copy_36 : decode cX7_copy 36 = .ok (.checkcast 46, 3) := dk_192 0 46 (dk_at dksX7_copy_1 14 rfl rfl)
theorem dX7_copy_39 : decode cX7_copy 39 = .ok (.invokevirtual 48, 3) := dk_182 0 48 (dk_at dksX7_copy_1 17 rfl rfl)
theorem dX7_copy_42 : decode cX7_copy 42 = .ok (.istore_n 3, 1) := dk_62 (dk_at dksX7_copy_1 20 rfl rfl)
theorem dX7_copy_43 : decode cX7_copy 43 = .ok (.aload_n 1, 1) := dk_43 (dk_at dksX7_copy_1 21 rfl rfl)
theorem dX7_copy_44 : decode cX7_copy 44 = .ok (.getfield 12, 3) := dk_180 0 12 (dk_at dksX7_copy_2 0 rfl rfl)
theorem dX7_copy_47 : decode cX7_copy 47 = .ok (.iload_n 3, 1) := dk_29 (dk_at dksX7_copy_2 3 rfl rfl)
theorem dX7_copy_48 : decode cX7_copy 48 = .ok (.invokestatic 52, 3) := dk_184 0 52 (dk_at dksX7_copy_2 4 rfl rfl)
theorem dX7_copy_51 : decode cX7_copy 51 = .ok (.aload_n 0, 1) := dk_42 (dk_at dksX7_copy_2 7 rfl rfl)
theorem dX7_copy_52 : decode cX7_copy 52 = .ok (.getfield 12, 3) := dk_180 0 12 (dk_at dksX7_copy_2 8 rfl rfl)
theorem dX7_copy_55 : decode cX7_copy 55 = .ok (.iload_n 3, 1) := dk_29 (dk_at dksX7_copy_2 11 rfl rfl)
theorem dX7_copy_56 : decode cX7_copy 56 = .ok (.invokestatic 52, 3) := dk_184 0 52 (dk_at dksX7_copy_2 12 rfl rfl)
theorem dX7_copy_59 : decode cX7_copy 59 = .ok (.invokevirtual 56, 3) := dk_182 0 56 (dk_at dksX7_copy_2 15 rfl rfl)
theorem dX7_copy_62 : decode cX7_copy 62 = .ok (.checkcast 60, 3) := dk_192 0 60 (dk_at dksX7_copy_2 18 rfl rfl)
theorem dX7_copy_65 : decode cX7_copy 65 = .ok (.invokevirtual 62, 3) := dk_182 0 62 (dk_at dksX7_copy_2 21 rfl rfl)
theorem dX7_copy_68 : decode cX7_copy 68 = .ok (.invokevirtual 66, 3) := dk_182 0 66 (dk_at dksX7_copy_3 0 rfl rfl)
theorem dX7_copy_71 : decode cX7_copy 71 = .ok (.pop, 1) := dk_87 (dk_at dksX7_copy_3 3 rfl rfl)
theorem dX7_copy_72 : decode cX7_copy 72 = .ok (.goto (-51), 3) := dk_167 255 205 (dk_at dksX7_copy_3 4 rfl rfl)
theorem dX7_copy_75 : decode cX7_copy 75 = .ok (.aload_n 1, 1) := dk_43 (dk_at dksX7_copy_3 7 rfl rfl)
theorem dX7_copy_76 : decode cX7_copy 76 = .ok (.aload_n 0, 1) := dk_42 (dk_at dksX7_copy_3 8 rfl rfl)
theorem dX7_copy_77 : decode cX7_copy 77 = .ok (.getfield 70, 3) := dk_180 0 70 (dk_at dksX7_copy_3 9 rfl rfl)
theorem dX7_copy_80 : decode cX7_copy 80 = .ok (.putfield 70, 3) := dk_181 0 70 (dk_at dksX7_copy_3 12 rfl rfl)
theorem dX7_copy_83 : decode cX7_copy 83 = .ok (.aload_n 1, 1) := dk_43 (dk_at dksX7_copy_3 15 rfl rfl)
theorem dX7_copy_84 : decode cX7_copy 84 = .ok (.aload_n 0, 1) := dk_42 (dk_at dksX7_copy_3 16 rfl rfl)
theorem dX7_copy_85 : decode cX7_copy 85 = .ok (.getfield 18, 3) := dk_180 0 18 (dk_at dksX7_copy_3 17 rfl rfl)
theorem dX7_copy_88 : decode cX7_copy 88 = .ok (.putfield 18, 3) := dk_181 0 18 (dk_at dksX7_copy_3 20 rfl rfl)
theorem dX7_copy_91 : decode cX7_copy 91 = .ok (.aload_n 1, 1) := dk_43 (dk_at dksX7_copy_3 23 rfl rfl)
theorem dX7_copy_92 : decode cX7_copy 92 = .ok (.aload_n 0, 1) := dk_42 (dk_at dksX7_copy_4 0 rfl rfl)
theorem dX7_copy_93 : decode cX7_copy 93 = .ok (.getfield 22, 3) := dk_180 0 22 (dk_at dksX7_copy_4 1 rfl rfl)
theorem dX7_copy_96 : decode cX7_copy 96 = .ok (.putfield 22, 3) := dk_181 0 22 (dk_at dksX7_copy_4 4 rfl rfl)
theorem dX7_copy_99 : decode cX7_copy 99 = .ok (.aload_n 1, 1) := dk_43 (dk_at dksX7_copy_4 7 rfl rfl)
theorem dX7_copy_100 : decode cX7_copy 100 = .ok (.aload_n 0, 1) := dk_42 (dk_at dksX7_copy_4 8 rfl rfl)
theorem dX7_copy_101 : decode cX7_copy 101 = .ok (.getfield 73, 3) := dk_180 0 73 (dk_at dksX7_copy_4 9 rfl rfl)
theorem dX7_copy_104 : decode cX7_copy 104 = .ok (.putfield 73, 3) := dk_181 0 73 (dk_at dksX7_copy_4 12 rfl rfl)
theorem dX7_copy_107 : decode cX7_copy 107 = .ok (.aload_n 1, 1) := dk_43 (dk_at dksX7_copy_4 15 rfl rfl)
theorem dX7_copy_108 : decode cX7_copy 108 = .ok (.areturn, 1) := dk_176 (dk_at dksX7_copy_4 16 rfl rfl)
abbrev cX7_init : ByteArray := prog_4_method_1_code
def dkwX7_init_1 : List UInt8 := [181, 0, 22, 177]
abbrev dktX7_init_1 : List UInt8 := dkwX7_init_1 ++ []
def dkwX7_init_0 : List UInt8 := [42, 183, 0, 3, 42, 187, 0, 9, 89, 183, 0, 11, 181, 0, 12, 42, 2, 181, 0, 18, 42, 2]
abbrev dktX7_init_0 : List UInt8 := dkwX7_init_0 ++ dktX7_init_1
theorem dksX7_init_0 : cX7_init.data.toList.drop 0 = dktX7_init_0 := by decide +kernel
theorem dksX7_init_1 : cX7_init.data.toList.drop 22 = dktX7_init_1 := dk_seg dksX7_init_0 22 rfl rfl
theorem dX7_init_0 : decode cX7_init 0 = .ok (.aload_n 0, 1) := dk_42 (dk_at dksX7_init_0 0 rfl rfl)
theorem dX7_init_1 : decode cX7_init 1 = .ok (.invokespecial 3, 3) := dk_183 0 3 (dk_at dksX7_init_0 1 rfl rfl)
theorem dX7_init_4 : decode cX7_init 4 = .ok (.aload_n 0, 1) := dk_42 (dk_at dksX7_init_0 4 rfl rfl)
theorem dX7_init_5 : decode cX7_init 5 = .ok (.new 9, 3) := dk_187 0 9 (dk_at dksX7_init_0 5 rfl rfl)
theorem dX7_init_8 : decode cX7_init 8 = .ok (.dup, 1) := dk_89 (dk_at dksX7_init_0 8 rfl rfl)
theorem dX7_init_9 : decode cX7_init 9 = .ok (.invokespecial 11, 3) := dk_183 0 11 (dk_at dksX7_init_0 9 rfl rfl)
theorem dX7_init_12 : decode cX7_init 12 = .ok (.putfield 12, 3) := dk_181 0 12 (dk_at dksX7_init_0 12 rfl rfl)
theorem dX7_init_15 : decode cX7_init 15 = .ok (.aload_n 0, 1) := dk_42 (dk_at dksX7_init_0 15 rfl rfl)
theorem dX7_init_16 : decode cX7_init 16 = .ok (.iconst (-1), 1) := dk_2 (dk_at dksX7_init_0 16 rfl rfl)
theorem dX7_init_17 : decode cX7_init 17 = .ok (.putfield 18, 3) := dk_181 0 18 (dk_at dksX7_init_0 17 rfl rfl)
theorem dX7_init_20 : decode cX7_init 20 = .ok (.aload_n 0, 1) := dk_42 (dk_at dksX7_init_0 20 rfl rfl)
theorem dX7_init_21 : decode cX7_init 21 = .ok (.iconst (-1), 1) := dk_2 (dk_at dksX7_init_0 21 rfl rfl)
theorem dX7_init_22 : decode cX7_init 22 = .ok (.putfield 22, 3) := dk_181 0 22 (dk_at dksX7_init_1 0 rfl rfl)
theorem dX7_init_25 : decode cX7_init 25 = .ok (.return_, 1) := dk_177 (dk_at dksX7_init_1 3 rfl rfl)
abbrev cX7_of : ByteArray := prog_4_method_4_code
def dkwX7_of_0 : List UInt8 := [42, 180, 0, 12, 27, 184, 0, 52, 182, 0, 56, 192, 0, 60, 176]
abbrev dktX7_of_0 : List UInt8 := dkwX7_of_0 ++ []
theorem dksX7_of_0 : cX7_of.data.toList.drop 0 = dktX7_of_0 := by decide +kernel
theorem dX7_of_0 : decode cX7_of 0 = .ok (.aload_n 0, 1) := dk_42 (dk_at dksX7_of_0 0 rfl rfl)
theorem dX7_of_1 : decode cX7_of 1 = .ok (.getfield 12, 3) := dk_180 0 12 (dk_at dksX7_of_0 1 rfl rfl)
theorem dX7_of_4 : decode cX7_of 4 = .ok (.iload_n 1, 1) := dk_27 (dk_at dksX7_of_0 4 rfl rfl)
theorem dX7_of_5 : decode cX7_of 5 = .ok (.invokestatic 52, 3) := dk_184 0 52 (dk_at dksX7_of_0 5 rfl rfl)
theorem dX7_of_8 : decode cX7_of 8 = .ok (.invokevirtual 56, 3) := dk_182 0 56 (dk_at dksX7_of_0 8 rfl rfl)
theorem dX7_of_11 : decode cX7_of 11 = .ok (.checkcast 60, 3) := dk_192 0 60 (dk_at dksX7_of_0 11 rfl rfl)
theorem dX7_of_14 : decode cX7_of 14 = .ok (.areturn, 1) := dk_176 (dk_at dksX7_of_0 14 rfl rfl)
abbrev cX7_phase : ByteArray := prog_4_method_5_code
theorem dX7_phase_0 : decode cX7_phase 0 = .ok (.aload_n 0, 1) := by decide +kernel
theorem dX7_phase_1 : decode cX7_phase 1 = .ok (.getfield 70, 3) := by decide +kernel
theorem dX7_phase_4 : decode cX7_phase 4 = .ok (.ireturn, 1) := by decide +kernel
abbrev cX7_dishes : ByteArray := prog_4_method_3_code
theorem dX7_dishes_0 : decode cX7_dishes 0 = .ok (.aload_n 0, 1) := by decide +kernel
theorem dX7_dishes_1 : decode cX7_dishes 1 = .ok (.getfield 12, 3) := by decide +kernel
theorem dX7_dishes_4 : decode cX7_dishes 4 = .ok (.areturn, 1) := by decide +kernel
abbrev cX7_asked : ByteArray := prog_4_method_7_code
theorem dX7_asked_0 : decode cX7_asked 0 = .ok (.aload_n 0, 1) := by decide +kernel
theorem dX7_asked_1 : decode cX7_asked 1 = .ok (.getfield 18, 3) := by decide +kernel
theorem dX7_asked_4 : decode cX7_asked 4 = .ok (.ireturn, 1) := by decide +kernel
abbrev cX7_decided : ByteArray := prog_4_method_8_code
theorem dX7_decided_0 : decode cX7_decided 0 = .ok (.aload_n 0, 1) := by decide +kernel
theorem dX7_decided_1 : decode cX7_decided 1 = .ok (.getfield 22, 3) := by decide +kernel
theorem dX7_decided_4 : decode cX7_decided 4 = .ok (.ireturn, 1) := by decide +kernel
abbrev cX7_votes : ByteArray := prog_4_method_12_code
def dkwX7_votes_1 : List UInt8 := [172]
abbrev dktX7_votes_1 : List UInt8 := dkwX7_votes_1 ++ []
def dkwX7_votes_0 : List UInt8 := [3, 60, 42, 180, 0, 73, 61, 28, 153, 0, 15, 132, 1, 1, 28, 28, 4, 100, 126, 61, 167, 255, 243, 27]
abbrev dktX7_votes_0 : List UInt8 := dkwX7_votes_0 ++ dktX7_votes_1
theorem dksX7_votes_0 : cX7_votes.data.toList.drop 0 = dktX7_votes_0 := by decide +kernel
theorem dksX7_votes_1 : cX7_votes.data.toList.drop 24 = dktX7_votes_1 := dk_seg dksX7_votes_0 24 rfl rfl
theorem dX7_votes_0 : decode cX7_votes 0 = .ok (.iconst 0, 1) := dk_3 (dk_at dksX7_votes_0 0 rfl rfl)
theorem dX7_votes_1 : decode cX7_votes 1 = .ok (.istore_n 1, 1) := dk_60 (dk_at dksX7_votes_0 1 rfl rfl)
theorem dX7_votes_2 : decode cX7_votes 2 = .ok (.aload_n 0, 1) := dk_42 (dk_at dksX7_votes_0 2 rfl rfl)
theorem dX7_votes_3 : decode cX7_votes 3 = .ok (.getfield 73, 3) := dk_180 0 73 (dk_at dksX7_votes_0 3 rfl rfl)
theorem dX7_votes_6 : decode cX7_votes 6 = .ok (.istore_n 2, 1) := dk_61 (dk_at dksX7_votes_0 6 rfl rfl)
theorem dX7_votes_7 : decode cX7_votes 7 = .ok (.iload_n 2, 1) := dk_28 (dk_at dksX7_votes_0 7 rfl rfl)
theorem dX7_votes_8 : decode cX7_votes 8 = .ok (.ifCond .eq 15, 3) := dk_153 0 15 (dk_at dksX7_votes_0 8 rfl rfl)
theorem dX7_votes_11 : decode cX7_votes 11 = .ok (.iinc 1 1, 3) := dk_132 1 1 (dk_at dksX7_votes_0 11 rfl rfl)
theorem dX7_votes_14 : decode cX7_votes 14 = .ok (.iload_n 2, 1) := dk_28 (dk_at dksX7_votes_0 14 rfl rfl)
theorem dX7_votes_15 : decode cX7_votes 15 = .ok (.iload_n 2, 1) := dk_28 (dk_at dksX7_votes_0 15 rfl rfl)
theorem dX7_votes_16 : decode cX7_votes 16 = .ok (.iconst 1, 1) := dk_4 (dk_at dksX7_votes_0 16 rfl rfl)
theorem dX7_votes_17 : decode cX7_votes 17 = .ok (.isub, 1) := dk_100 (dk_at dksX7_votes_0 17 rfl rfl)
theorem dX7_votes_18 : decode cX7_votes 18 = .ok (.iand, 1) := dk_126 (dk_at dksX7_votes_0 18 rfl rfl)
theorem dX7_votes_19 : decode cX7_votes 19 = .ok (.istore_n 2, 1) := dk_61 (dk_at dksX7_votes_0 19 rfl rfl)
theorem dX7_votes_20 : decode cX7_votes 20 = .ok (.goto (-13), 3) := dk_167 255 243 (dk_at dksX7_votes_0 20 rfl rfl)
theorem dX7_votes_23 : decode cX7_votes 23 = .ok (.iload_n 1, 1) := dk_27 (dk_at dksX7_votes_0 23 rfl rfl)
theorem dX7_votes_24 : decode cX7_votes 24 = .ok (.ireturn, 1) := dk_172 (dk_at dksX7_votes_1 0 rfl rfl)
abbrev cX7_isAskedIn : ByteArray := prog_4_method_9_code
def dkwX7_isAskedIn_0 : List UInt8 := [42, 4, 181, 0, 70, 42, 27, 181, 0, 18, 177]
abbrev dktX7_isAskedIn_0 : List UInt8 := dkwX7_isAskedIn_0 ++ []
theorem dksX7_isAskedIn_0 : cX7_isAskedIn.data.toList.drop 0 = dktX7_isAskedIn_0 := by decide +kernel
theorem dX7_isAskedIn_0 : decode cX7_isAskedIn 0 = .ok (.aload_n 0, 1) := dk_42 (dk_at dksX7_isAskedIn_0 0 rfl rfl)
theorem dX7_isAskedIn_1 : decode cX7_isAskedIn 1 = .ok (.iconst 1, 1) := dk_4 (dk_at dksX7_isAskedIn_0 1 rfl rfl)
theorem dX7_isAskedIn_2 : decode cX7_isAskedIn 2 = .ok (.putfield 70, 3) := dk_181 0 70 (dk_at dksX7_isAskedIn_0 2 rfl rfl)
theorem dX7_isAskedIn_5 : decode cX7_isAskedIn 5 = .ok (.aload_n 0, 1) := dk_42 (dk_at dksX7_isAskedIn_0 5 rfl rfl)
theorem dX7_isAskedIn_6 : decode cX7_isAskedIn 6 = .ok (.iload_n 1, 1) := dk_27 (dk_at dksX7_isAskedIn_0 6 rfl rfl)
theorem dX7_isAskedIn_7 : decode cX7_isAskedIn 7 = .ok (.putfield 18, 3) := dk_181 0 18 (dk_at dksX7_isAskedIn_0 7 rfl rfl)
theorem dX7_isAskedIn_10 : decode cX7_isAskedIn 10 = .ok (.return_, 1) := dk_177 (dk_at dksX7_isAskedIn_0 10 rfl rfl)
abbrev cX7_isDecided : ByteArray := prog_4_method_6_code
def dkwX7_isDecided_0 : List UInt8 := [42, 180, 0, 70, 5, 161, 0, 7, 4, 167, 0, 4, 3, 172]
abbrev dktX7_isDecided_0 : List UInt8 := dkwX7_isDecided_0 ++ []
theorem dksX7_isDecided_0 : cX7_isDecided.data.toList.drop 0 = dktX7_isDecided_0 := by decide +kernel
theorem dX7_isDecided_0 : decode cX7_isDecided 0 = .ok (.aload_n 0, 1) := dk_42 (dk_at dksX7_isDecided_0 0 rfl rfl)
theorem dX7_isDecided_1 : decode cX7_isDecided 1 = .ok (.getfield 70, 3) := dk_180 0 70 (dk_at dksX7_isDecided_0 1 rfl rfl)
theorem dX7_isDecided_4 : decode cX7_isDecided 4 = .ok (.iconst 2, 1) := dk_5 (dk_at dksX7_isDecided_0 4 rfl rfl)
theorem dX7_isDecided_5 : decode cX7_isDecided 5 = .ok (.if_icmp .lt 7, 3) := dk_161 0 7 (dk_at dksX7_isDecided_0 5 rfl rfl)
theorem dX7_isDecided_8 : decode cX7_isDecided 8 = .ok (.iconst 1, 1) := dk_4 (dk_at dksX7_isDecided_0 8 rfl rfl)
theorem dX7_isDecided_9 : decode cX7_isDecided 9 = .ok (.goto 4, 3) := dk_167 0 4 (dk_at dksX7_isDecided_0 9 rfl rfl)
theorem dX7_isDecided_12 : decode cX7_isDecided 12 = .ok (.iconst 0, 1) := dk_3 (dk_at dksX7_isDecided_0 12 rfl rfl)
theorem dX7_isDecided_13 : decode cX7_isDecided 13 = .ok (.ireturn, 1) := dk_172 (dk_at dksX7_isDecided_0 13 rfl rfl)
abbrev cX7_isDecidedAs : ByteArray := prog_4_method_10_code
def dkwX7_isDecidedAs_0 : List UInt8 := [42, 27, 181, 0, 70, 42, 28, 181, 0, 22, 177]
abbrev dktX7_isDecidedAs_0 : List UInt8 := dkwX7_isDecidedAs_0 ++ []
theorem dksX7_isDecidedAs_0 : cX7_isDecidedAs.data.toList.drop 0 = dktX7_isDecidedAs_0 := by decide +kernel
theorem dX7_isDecidedAs_0 : decode cX7_isDecidedAs 0 = .ok (.aload_n 0, 1) := dk_42 (dk_at dksX7_isDecidedAs_0 0 rfl rfl)
theorem dX7_isDecidedAs_1 : decode cX7_isDecidedAs 1 = .ok (.iload_n 1, 1) := dk_27 (dk_at dksX7_isDecidedAs_0 1 rfl rfl)
theorem dX7_isDecidedAs_2 : decode cX7_isDecidedAs 2 = .ok (.putfield 70, 3) := dk_181 0 70 (dk_at dksX7_isDecidedAs_0 2 rfl rfl)
theorem dX7_isDecidedAs_5 : decode cX7_isDecidedAs 5 = .ok (.aload_n 0, 1) := dk_42 (dk_at dksX7_isDecidedAs_0 5 rfl rfl)
theorem dX7_isDecidedAs_6 : decode cX7_isDecidedAs 6 = .ok (.iload_n 2, 1) := dk_28 (dk_at dksX7_isDecidedAs_0 6 rfl rfl)
theorem dX7_isDecidedAs_7 : decode cX7_isDecidedAs 7 = .ok (.putfield 22, 3) := dk_181 0 22 (dk_at dksX7_isDecidedAs_0 7 rfl rfl)
theorem dX7_isDecidedAs_10 : decode cX7_isDecidedAs 10 = .ok (.return_, 1) := dk_177 (dk_at dksX7_isDecidedAs_0 10 rfl rfl)
abbrev cX8_how : ByteArray := prog_5_method_5_code
theorem dX8_how_0 : decode cX8_how 0 = .ok (.aload_n 0, 1) := by decide +kernel
theorem dX8_how_1 : decode cX8_how 1 = .ok (.getfield 15, 3) := by decide +kernel
theorem dX8_how_4 : decode cX8_how 4 = .ok (.areturn, 1) := by decide +kernel
abbrev cX8_copy : ByteArray := prog_5_method_2_code
def dkwX8_copy_1 : List UInt8 := [43, 42, 180, 0, 20, 181, 0, 20, 43, 176]
abbrev dktX8_copy_1 : List UInt8 := dkwX8_copy_1 ++ []
def dkwX8_copy_0 : List UInt8 := [187, 0, 16, 89, 42, 180, 0, 24, 42, 180, 0, 27, 183, 0, 30, 76, 43, 42, 180, 0, 15, 181, 0, 15]
abbrev dktX8_copy_0 : List UInt8 := dkwX8_copy_0 ++ dktX8_copy_1
theorem dksX8_copy_0 : cX8_copy.data.toList.drop 0 = dktX8_copy_0 := by decide +kernel
theorem dksX8_copy_1 : cX8_copy.data.toList.drop 24 = dktX8_copy_1 := dk_seg dksX8_copy_0 24 rfl rfl
theorem dX8_copy_0 : decode cX8_copy 0 = .ok (.new 16, 3) := dk_187 0 16 (dk_at dksX8_copy_0 0 rfl rfl)
theorem dX8_copy_3 : decode cX8_copy 3 = .ok (.dup, 1) := dk_89 (dk_at dksX8_copy_0 3 rfl rfl)
theorem dX8_copy_4 : decode cX8_copy 4 = .ok (.aload_n 0, 1) := dk_42 (dk_at dksX8_copy_0 4 rfl rfl)
theorem dX8_copy_5 : decode cX8_copy 5 = .ok (.getfield 24, 3) := dk_180 0 24 (dk_at dksX8_copy_0 5 rfl rfl)
theorem dX8_copy_8 : decode cX8_copy 8 = .ok (.aload_n 0, 1) := dk_42 (dk_at dksX8_copy_0 8 rfl rfl)
theorem dX8_copy_9 : decode cX8_copy 9 = .ok (.getfield 27, 3) := dk_180 0 27 (dk_at dksX8_copy_0 9 rfl rfl)
theorem dX8_copy_12 : decode cX8_copy 12 = .ok (.invokespecial 30, 3) := dk_183 0 30 (dk_at dksX8_copy_0 12 rfl rfl)
theorem dX8_copy_15 : decode cX8_copy 15 = .ok (.astore_n 1, 1) := dk_76 (dk_at dksX8_copy_0 15 rfl rfl)
theorem dX8_copy_16 : decode cX8_copy 16 = .ok (.aload_n 1, 1) := dk_43 (dk_at dksX8_copy_0 16 rfl rfl)
theorem dX8_copy_17 : decode cX8_copy 17 = .ok (.aload_n 0, 1) := dk_42 (dk_at dksX8_copy_0 17 rfl rfl)
theorem dX8_copy_18 : decode cX8_copy 18 = .ok (.getfield 15, 3) := dk_180 0 15 (dk_at dksX8_copy_0 18 rfl rfl)
theorem dX8_copy_21 : decode cX8_copy 21 = .ok (.putfield 15, 3) := dk_181 0 15 (dk_at dksX8_copy_0 21 rfl rfl)
theorem dX8_copy_24 : decode cX8_copy 24 = .ok (.aload_n 1, 1) := dk_43 (dk_at dksX8_copy_1 0 rfl rfl)
theorem dX8_copy_25 : decode cX8_copy 25 = .ok (.aload_n 0, 1) := dk_42 (dk_at dksX8_copy_1 1 rfl rfl)
theorem dX8_copy_26 : decode cX8_copy 26 = .ok (.getfield 20, 3) := dk_180 0 20 (dk_at dksX8_copy_1 2 rfl rfl)
theorem dX8_copy_29 : decode cX8_copy 29 = .ok (.putfield 20, 3) := dk_181 0 20 (dk_at dksX8_copy_1 5 rfl rfl)
theorem dX8_copy_32 : decode cX8_copy 32 = .ok (.aload_n 1, 1) := dk_43 (dk_at dksX8_copy_1 8 rfl rfl)
theorem dX8_copy_33 : decode cX8_copy 33 = .ok (.areturn, 1) := dk_176 (dk_at dksX8_copy_1 9 rfl rfl)
abbrev cX8_init : ByteArray := prog_5_method_1_code
def dkwX8_init_1 : List UInt8 := [181, 0, 27, 177]
abbrev dktX8_init_1 : List UInt8 := dkwX8_init_1 ++ []
def dkwX8_init_0 : List UInt8 := [42, 183, 0, 3, 42, 178, 0, 9, 181, 0, 15, 42, 2, 181, 0, 20, 42, 27, 181, 0, 24, 42, 28]
abbrev dktX8_init_0 : List UInt8 := dkwX8_init_0 ++ dktX8_init_1
theorem dksX8_init_0 : cX8_init.data.toList.drop 0 = dktX8_init_0 := by decide +kernel
theorem dksX8_init_1 : cX8_init.data.toList.drop 23 = dktX8_init_1 := dk_seg dksX8_init_0 23 rfl rfl
theorem dX8_init_0 : decode cX8_init 0 = .ok (.aload_n 0, 1) := dk_42 (dk_at dksX8_init_0 0 rfl rfl)
theorem dX8_init_1 : decode cX8_init 1 = .ok (.invokespecial 3, 3) := dk_183 0 3 (dk_at dksX8_init_0 1 rfl rfl)
theorem dX8_init_4 : decode cX8_init 4 = .ok (.aload_n 0, 1) := dk_42 (dk_at dksX8_init_0 4 rfl rfl)
theorem dX8_init_5 : decode cX8_init 5 = .ok (.getstatic 9, 3) := dk_178 0 9 (dk_at dksX8_init_0 5 rfl rfl)
theorem dX8_init_8 : decode cX8_init 8 = .ok (.putfield 15, 3) := dk_181 0 15 (dk_at dksX8_init_0 8 rfl rfl)
theorem dX8_init_11 : decode cX8_init 11 = .ok (.aload_n 0, 1) := dk_42 (dk_at dksX8_init_0 11 rfl rfl)
theorem dX8_init_12 : decode cX8_init 12 = .ok (.iconst (-1), 1) := dk_2 (dk_at dksX8_init_0 12 rfl rfl)
theorem dX8_init_13 : decode cX8_init 13 = .ok (.putfield 20, 3) := dk_181 0 20 (dk_at dksX8_init_0 13 rfl rfl)
theorem dX8_init_16 : decode cX8_init 16 = .ok (.aload_n 0, 1) := dk_42 (dk_at dksX8_init_0 16 rfl rfl)
theorem dX8_init_17 : decode cX8_init 17 = .ok (.iload_n 1, 1) := dk_27 (dk_at dksX8_init_0 17 rfl rfl)
theorem dX8_init_18 : decode cX8_init 18 = .ok (.putfield 24, 3) := dk_181 0 24 (dk_at dksX8_init_0 18 rfl rfl)
theorem dX8_init_21 : decode cX8_init 21 = .ok (.aload_n 0, 1) := dk_42 (dk_at dksX8_init_0 21 rfl rfl)
theorem dX8_init_22 : decode cX8_init 22 = .ok (.iload_n 2, 1) := dk_28 (dk_at dksX8_init_0 22 rfl rfl)
theorem dX8_init_23 : decode cX8_init 23 = .ok (.putfield 27, 3) := dk_181 0 27 (dk_at dksX8_init_1 0 rfl rfl)
theorem dX8_init_26 : decode cX8_init 26 = .ok (.return_, 1) := dk_177 (dk_at dksX8_init_1 3 rfl rfl)
abbrev cX8_ingredient : ByteArray := prog_5_method_3_code
theorem dX8_ingredient_0 : decode cX8_ingredient 0 = .ok (.aload_n 0, 1) := by decide +kernel
theorem dX8_ingredient_1 : decode cX8_ingredient 1 = .ok (.getfield 24, 3) := by decide +kernel
theorem dX8_ingredient_4 : decode cX8_ingredient 4 = .ok (.ireturn, 1) := by decide +kernel
abbrev cX8_amount : ByteArray := prog_5_method_4_code
theorem dX8_amount_0 : decode cX8_amount 0 = .ok (.aload_n 0, 1) := by decide +kernel
theorem dX8_amount_1 : decode cX8_amount 1 = .ok (.getfield 27, 3) := by decide +kernel
theorem dX8_amount_4 : decode cX8_amount 4 = .ok (.ireturn, 1) := by decide +kernel
abbrev cX8_number : ByteArray := prog_5_method_6_code
def dkwX8_number_0 : List UInt8 := [42, 180, 0, 15, 182, 0, 33, 172]
abbrev dktX8_number_0 : List UInt8 := dkwX8_number_0 ++ []
theorem dksX8_number_0 : cX8_number.data.toList.drop 0 = dktX8_number_0 := by decide +kernel
theorem dX8_number_0 : decode cX8_number 0 = .ok (.aload_n 0, 1) := dk_42 (dk_at dksX8_number_0 0 rfl rfl)
theorem dX8_number_1 : decode cX8_number 1 = .ok (.getfield 15, 3) := dk_180 0 15 (dk_at dksX8_number_0 1 rfl rfl)
theorem dX8_number_4 : decode cX8_number 4 = .ok (.invokevirtual 33, 3) := dk_182 0 33 (dk_at dksX8_number_0 4 rfl rfl)
theorem dX8_number_7 : decode cX8_number 7 = .ok (.ireturn, 1) := dk_172 (dk_at dksX8_number_0 7 rfl rfl)
abbrev cX8_since : ByteArray := prog_5_method_8_code
theorem dX8_since_0 : decode cX8_since 0 = .ok (.aload_n 0, 1) := by decide +kernel
theorem dX8_since_1 : decode cX8_since 1 = .ok (.getfield 20, 3) := by decide +kernel
theorem dX8_since_4 : decode cX8_since 4 = .ok (.ireturn, 1) := by decide +kernel
abbrev cX8_isReady : ByteArray := prog_5_method_7_code
def dkwX8_isReady_0 : List UInt8 := [42, 180, 0, 15, 178, 0, 37, 166, 0, 7, 4, 167, 0, 4, 3, 172]
abbrev dktX8_isReady_0 : List UInt8 := dkwX8_isReady_0 ++ []
theorem dksX8_isReady_0 : cX8_isReady.data.toList.drop 0 = dktX8_isReady_0 := by decide +kernel
theorem dX8_isReady_0 : decode cX8_isReady 0 = .ok (.aload_n 0, 1) := dk_42 (dk_at dksX8_isReady_0 0 rfl rfl)
theorem dX8_isReady_1 : decode cX8_isReady 1 = .ok (.getfield 15, 3) := dk_180 0 15 (dk_at dksX8_isReady_0 1 rfl rfl)
theorem dX8_isReady_4 : decode cX8_isReady 4 = .ok (.getstatic 37, 3) := dk_178 0 37 (dk_at dksX8_isReady_0 4 rfl rfl)
theorem dX8_isReady_7 : decode cX8_isReady 7 = .ok (.if_acmp .ne 7, 3) := dk_166 0 7 (dk_at dksX8_isReady_0 7 rfl rfl)
theorem dX8_isReady_10 : decode cX8_isReady 10 = .ok (.iconst 1, 1) := dk_4 (dk_at dksX8_isReady_0 10 rfl rfl)
theorem dX8_isReady_11 : decode cX8_isReady 11 = .ok (.goto 4, 3) := dk_167 0 4 (dk_at dksX8_isReady_0 11 rfl rfl)
theorem dX8_isReady_14 : decode cX8_isReady 14 = .ok (.iconst 0, 1) := dk_3 (dk_at dksX8_isReady_0 14 rfl rfl)
theorem dX8_isReady_15 : decode cX8_isReady 15 = .ok (.ireturn, 1) := dk_172 (dk_at dksX8_isReady_0 15 rfl rfl)
abbrev cX8_becomes : ByteArray := prog_5_method_9_code
def dkwX8_becomes_0 : List UInt8 := [42, 43, 181, 0, 15, 42, 28, 181, 0, 20, 177]
abbrev dktX8_becomes_0 : List UInt8 := dkwX8_becomes_0 ++ []
theorem dksX8_becomes_0 : cX8_becomes.data.toList.drop 0 = dktX8_becomes_0 := by decide +kernel
theorem dX8_becomes_0 : decode cX8_becomes 0 = .ok (.aload_n 0, 1) := dk_42 (dk_at dksX8_becomes_0 0 rfl rfl)
theorem dX8_becomes_1 : decode cX8_becomes 1 = .ok (.aload_n 1, 1) := dk_43 (dk_at dksX8_becomes_0 1 rfl rfl)
theorem dX8_becomes_2 : decode cX8_becomes 2 = .ok (.putfield 15, 3) := dk_181 0 15 (dk_at dksX8_becomes_0 2 rfl rfl)
theorem dX8_becomes_5 : decode cX8_becomes 5 = .ok (.aload_n 0, 1) := dk_42 (dk_at dksX8_becomes_0 5 rfl rfl)
theorem dX8_becomes_6 : decode cX8_becomes 6 = .ok (.iload_n 2, 1) := dk_28 (dk_at dksX8_becomes_0 6 rfl rfl)
theorem dX8_becomes_7 : decode cX8_becomes 7 = .ok (.putfield 20, 3) := dk_181 0 20 (dk_at dksX8_becomes_0 7 rfl rfl)
theorem dX8_becomes_10 : decode cX8_becomes 10 = .ok (.return_, 1) := dk_177 (dk_at dksX8_becomes_0 10 rfl rfl)
abbrev cX10_init : ByteArray := prog_19_method_1_code
def dkwX10_init_0 : List UInt8 := [42, 1, 1, 183, 0, 1, 42, 27, 181, 0, 7, 42, 28, 181, 0, 13, 177]
abbrev dktX10_init_0 : List UInt8 := dkwX10_init_0 ++ []
theorem dksX10_init_0 : cX10_init.data.toList.drop 0 = dktX10_init_0 := by decide +kernel
theorem dX10_init_0 : decode cX10_init 0 = .ok (.aload_n 0, 1) := dk_42 (dk_at dksX10_init_0 0 rfl rfl)
theorem dX10_init_1 : decode cX10_init 1 = .ok (.aconst_null, 1) := dk_1 (dk_at dksX10_init_0 1 rfl rfl)
theorem dX10_init_2 : decode cX10_init 2 = .ok (.aconst_null, 1) := dk_1 (dk_at dksX10_init_0 2 rfl rfl)
theorem dX10_init_3 : decode cX10_init 3 = .ok (.invokespecial 1, 3) := dk_183 0 1 (dk_at dksX10_init_0 3 rfl rfl)
theorem dX10_init_6 : decode cX10_init 6 = .ok (.aload_n 0, 1) := dk_42 (dk_at dksX10_init_0 6 rfl rfl)
theorem dX10_init_7 : decode cX10_init 7 = .ok (.iload_n 1, 1) := dk_27 (dk_at dksX10_init_0 7 rfl rfl)
theorem dX10_init_8 : decode cX10_init 8 = .ok (.putfield 7, 3) := dk_181 0 7 (dk_at dksX10_init_0 8 rfl rfl)
theorem dX10_init_11 : decode cX10_init 11 = .ok (.aload_n 0, 1) := dk_42 (dk_at dksX10_init_0 11 rfl rfl)
theorem dX10_init_12 : decode cX10_init 12 = .ok (.iload_n 2, 1) := dk_28 (dk_at dksX10_init_0 12 rfl rfl)
theorem dX10_init_13 : decode cX10_init 13 = .ok (.putfield 13, 3) := dk_181 0 13 (dk_at dksX10_init_0 13 rfl rfl)
theorem dX10_init_16 : decode cX10_init 16 = .ok (.return_, 1) := dk_177 (dk_at dksX10_init_0 16 rfl rfl)
abbrev cX10_reason : ByteArray := prog_19_method_2_code
theorem dX10_reason_0 : decode cX10_reason 0 = .ok (.aload_n 0, 1) := by decide +kernel
theorem dX10_reason_1 : decode cX10_reason 1 = .ok (.getfield 7, 3) := by decide +kernel
theorem dX10_reason_4 : decode cX10_reason 4 = .ok (.ireturn, 1) := by decide +kernel
abbrev cX10_detail : ByteArray := prog_19_method_3_code
theorem dX10_detail_0 : decode cX10_detail 0 = .ok (.aload_n 0, 1) := by decide +kernel
theorem dX10_detail_1 : decode cX10_detail 1 = .ok (.getfield 13, 3) := by decide +kernel
theorem dX10_detail_4 : decode cX10_detail 4 = .ok (.ireturn, 1) := by decide +kernel
abbrev cX9_isOff : ByteArray := prog_7_method_6_code
theorem dX9_isOff_0 : decode cX9_isOff 0 = .ok (.iconst 0, 1) := by decide +kernel
theorem dX9_isOff_1 : decode cX9_isOff 1 = .ok (.ireturn, 1) := by decide +kernel
abbrev cX11_init : ByteArray := prog_2_method_1_code
def dkwX11_init_1 : List UInt8 := [181, 0, 22, 177]
abbrev dktX11_init_1 : List UInt8 := dkwX11_init_1 ++ []
def dkwX11_init_0 : List UInt8 := [42, 183, 0, 3, 42, 43, 181, 0, 9, 42, 28, 181, 0, 15, 42, 29, 181, 0, 19, 42, 21, 4]
abbrev dktX11_init_0 : List UInt8 := dkwX11_init_0 ++ dktX11_init_1
theorem dksX11_init_0 : cX11_init.data.toList.drop 0 = dktX11_init_0 := by decide +kernel
theorem dksX11_init_1 : cX11_init.data.toList.drop 22 = dktX11_init_1 := dk_seg dksX11_init_0 22 rfl rfl
theorem dX11_init_0 : decode cX11_init 0 = .ok (.aload_n 0, 1) := dk_42 (dk_at dksX11_init_0 0 rfl rfl)
theorem dX11_init_1 : decode cX11_init 1 = .ok (.invokespecial 3, 3) := dk_183 0 3 (dk_at dksX11_init_0 1 rfl rfl)
theorem dX11_init_4 : decode cX11_init 4 = .ok (.aload_n 0, 1) := dk_42 (dk_at dksX11_init_0 4 rfl rfl)
theorem dX11_init_5 : decode cX11_init 5 = .ok (.aload_n 1, 1) := dk_43 (dk_at dksX11_init_0 5 rfl rfl)
theorem dX11_init_6 : decode cX11_init 6 = .ok (.putfield 9, 3) := dk_181 0 9 (dk_at dksX11_init_0 6 rfl rfl)
theorem dX11_init_9 : decode cX11_init 9 = .ok (.aload_n 0, 1) := dk_42 (dk_at dksX11_init_0 9 rfl rfl)
theorem dX11_init_10 : decode cX11_init 10 = .ok (.iload_n 2, 1) := dk_28 (dk_at dksX11_init_0 10 rfl rfl)
theorem dX11_init_11 : decode cX11_init 11 = .ok (.putfield 15, 3) := dk_181 0 15 (dk_at dksX11_init_0 11 rfl rfl)
theorem dX11_init_14 : decode cX11_init 14 = .ok (.aload_n 0, 1) := dk_42 (dk_at dksX11_init_0 14 rfl rfl)
theorem dX11_init_15 : decode cX11_init 15 = .ok (.iload_n 3, 1) := dk_29 (dk_at dksX11_init_0 15 rfl rfl)
theorem dX11_init_16 : decode cX11_init 16 = .ok (.putfield 19, 3) := dk_181 0 19 (dk_at dksX11_init_0 16 rfl rfl)
theorem dX11_init_19 : decode cX11_init 19 = .ok (.aload_n 0, 1) := dk_42 (dk_at dksX11_init_0 19 rfl rfl)
theorem dX11_init_20 : decode cX11_init 20 = .ok (.iload 4, 2) := dk_21 4 (dk_at dksX11_init_0 20 rfl rfl)
theorem dX11_init_22 : decode cX11_init 22 = .ok (.putfield 22, 3) := dk_181 0 22 (dk_at dksX11_init_1 0 rfl rfl)
theorem dX11_init_25 : decode cX11_init 25 = .ok (.return_, 1) := dk_177 (dk_at dksX11_init_1 3 rfl rfl)
abbrev cX12_init : ByteArray := prog_15_method_1_code
def dkwX12_init_0 : List UInt8 := [42, 183, 0, 1, 42, 27, 181, 0, 7, 42, 28, 181, 0, 13, 42, 29, 181, 0, 16, 177]
abbrev dktX12_init_0 : List UInt8 := dkwX12_init_0 ++ []
theorem dksX12_init_0 : cX12_init.data.toList.drop 0 = dktX12_init_0 := by decide +kernel
theorem dX12_init_0 : decode cX12_init 0 = .ok (.aload_n 0, 1) := dk_42 (dk_at dksX12_init_0 0 rfl rfl)
theorem dX12_init_1 : decode cX12_init 1 = .ok (.invokespecial 1, 3) := dk_183 0 1 (dk_at dksX12_init_0 1 rfl rfl)
theorem dX12_init_4 : decode cX12_init 4 = .ok (.aload_n 0, 1) := dk_42 (dk_at dksX12_init_0 4 rfl rfl)
theorem dX12_init_5 : decode cX12_init 5 = .ok (.iload_n 1, 1) := dk_27 (dk_at dksX12_init_0 5 rfl rfl)
theorem dX12_init_6 : decode cX12_init 6 = .ok (.putfield 7, 3) := dk_181 0 7 (dk_at dksX12_init_0 6 rfl rfl)
theorem dX12_init_9 : decode cX12_init 9 = .ok (.aload_n 0, 1) := dk_42 (dk_at dksX12_init_0 9 rfl rfl)
theorem dX12_init_10 : decode cX12_init 10 = .ok (.iload_n 2, 1) := dk_28 (dk_at dksX12_init_0 10 rfl rfl)
theorem dX12_init_11 : decode cX12_init 11 = .ok (.putfield 13, 3) := dk_181 0 13 (dk_at dksX12_init_0 11 rfl rfl)
theorem dX12_init_14 : decode cX12_init 14 = .ok (.aload_n 0, 1) := dk_42 (dk_at dksX12_init_0 14 rfl rfl)
theorem dX12_init_15 : decode cX12_init 15 = .ok (.iload_n 3, 1) := dk_29 (dk_at dksX12_init_0 15 rfl rfl)
theorem dX12_init_16 : decode cX12_init 16 = .ok (.putfield 16, 3) := dk_181 0 16 (dk_at dksX12_init_0 16 rfl rfl)
theorem dX12_init_19 : decode cX12_init 19 = .ok (.return_, 1) := dk_177 (dk_at dksX12_init_0 19 rfl rfl)
abbrev cX13_init : ByteArray := prog_13_method_1_code
def dkwX13_init_0 : List UInt8 := [42, 183, 0, 1, 42, 27, 181, 0, 7, 42, 28, 181, 0, 13, 42, 29, 181, 0, 16, 177]
abbrev dktX13_init_0 : List UInt8 := dkwX13_init_0 ++ []
theorem dksX13_init_0 : cX13_init.data.toList.drop 0 = dktX13_init_0 := by decide +kernel
theorem dX13_init_0 : decode cX13_init 0 = .ok (.aload_n 0, 1) := dk_42 (dk_at dksX13_init_0 0 rfl rfl)
theorem dX13_init_1 : decode cX13_init 1 = .ok (.invokespecial 1, 3) := dk_183 0 1 (dk_at dksX13_init_0 1 rfl rfl)
theorem dX13_init_4 : decode cX13_init 4 = .ok (.aload_n 0, 1) := dk_42 (dk_at dksX13_init_0 4 rfl rfl)
theorem dX13_init_5 : decode cX13_init 5 = .ok (.iload_n 1, 1) := dk_27 (dk_at dksX13_init_0 5 rfl rfl)
theorem dX13_init_6 : decode cX13_init 6 = .ok (.putfield 7, 3) := dk_181 0 7 (dk_at dksX13_init_0 6 rfl rfl)
theorem dX13_init_9 : decode cX13_init 9 = .ok (.aload_n 0, 1) := dk_42 (dk_at dksX13_init_0 9 rfl rfl)
theorem dX13_init_10 : decode cX13_init 10 = .ok (.iload_n 2, 1) := dk_28 (dk_at dksX13_init_0 10 rfl rfl)
theorem dX13_init_11 : decode cX13_init 11 = .ok (.putfield 13, 3) := dk_181 0 13 (dk_at dksX13_init_0 11 rfl rfl)
theorem dX13_init_14 : decode cX13_init 14 = .ok (.aload_n 0, 1) := dk_42 (dk_at dksX13_init_0 14 rfl rfl)
theorem dX13_init_15 : decode cX13_init 15 = .ok (.iload_n 3, 1) := dk_29 (dk_at dksX13_init_0 15 rfl rfl)
theorem dX13_init_16 : decode cX13_init 16 = .ok (.putfield 16, 3) := dk_181 0 16 (dk_at dksX13_init_0 16 rfl rfl)
theorem dX13_init_19 : decode cX13_init 19 = .ok (.return_, 1) := dk_177 (dk_at dksX13_init_0 19 rfl rfl)
abbrev cX14_init : ByteArray := prog_22_method_1_code
def dkwX14_init_1 : List UInt8 := [181, 0, 19, 177]
abbrev dktX14_init_1 : List UInt8 := dkwX14_init_1 ++ []
def dkwX14_init_0 : List UInt8 := [42, 183, 0, 1, 42, 27, 181, 0, 7, 42, 28, 181, 0, 13, 42, 29, 181, 0, 16, 42, 21, 4]
abbrev dktX14_init_0 : List UInt8 := dkwX14_init_0 ++ dktX14_init_1
theorem dksX14_init_0 : cX14_init.data.toList.drop 0 = dktX14_init_0 := by decide +kernel
theorem dksX14_init_1 : cX14_init.data.toList.drop 22 = dktX14_init_1 := dk_seg dksX14_init_0 22 rfl rfl
theorem dX14_init_0 : decode cX14_init 0 = .ok (.aload_n 0, 1) := dk_42 (dk_at dksX14_init_0 0 rfl rfl)
theorem dX14_init_1 : decode cX14_init 1 = .ok (.invokespecial 1, 3) := dk_183 0 1 (dk_at dksX14_init_0 1 rfl rfl)
theorem dX14_init_4 : decode cX14_init 4 = .ok (.aload_n 0, 1) := dk_42 (dk_at dksX14_init_0 4 rfl rfl)
theorem dX14_init_5 : decode cX14_init 5 = .ok (.iload_n 1, 1) := dk_27 (dk_at dksX14_init_0 5 rfl rfl)
theorem dX14_init_6 : decode cX14_init 6 = .ok (.putfield 7, 3) := dk_181 0 7 (dk_at dksX14_init_0 6 rfl rfl)
theorem dX14_init_9 : decode cX14_init 9 = .ok (.aload_n 0, 1) := dk_42 (dk_at dksX14_init_0 9 rfl rfl)
theorem dX14_init_10 : decode cX14_init 10 = .ok (.iload_n 2, 1) := dk_28 (dk_at dksX14_init_0 10 rfl rfl)
theorem dX14_init_11 : decode cX14_init 11 = .ok (.putfield 13, 3) := dk_181 0 13 (dk_at dksX14_init_0 11 rfl rfl)
theorem dX14_init_14 : decode cX14_init 14 = .ok (.aload_n 0, 1) := dk_42 (dk_at dksX14_init_0 14 rfl rfl)
theorem dX14_init_15 : decode cX14_init 15 = .ok (.iload_n 3, 1) := dk_29 (dk_at dksX14_init_0 15 rfl rfl)
theorem dX14_init_16 : decode cX14_init 16 = .ok (.putfield 16, 3) := dk_181 0 16 (dk_at dksX14_init_0 16 rfl rfl)
theorem dX14_init_19 : decode cX14_init 19 = .ok (.aload_n 0, 1) := dk_42 (dk_at dksX14_init_0 19 rfl rfl)
theorem dX14_init_20 : decode cX14_init 20 = .ok (.iload 4, 2) := dk_21 4 (dk_at dksX14_init_0 20 rfl rfl)
theorem dX14_init_22 : decode cX14_init 22 = .ok (.putfield 19, 3) := dk_181 0 19 (dk_at dksX14_init_1 0 rfl rfl)
theorem dX14_init_25 : decode cX14_init 25 = .ok (.return_, 1) := dk_177 (dk_at dksX14_init_1 3 rfl rfl)
abbrev cX15_init : ByteArray := prog_17_method_1_code
def dkwX15_init_0 : List UInt8 := [42, 183, 0, 1, 42, 27, 181, 0, 7, 42, 28, 181, 0, 13, 42, 29, 181, 0, 16, 177]
abbrev dktX15_init_0 : List UInt8 := dkwX15_init_0 ++ []
theorem dksX15_init_0 : cX15_init.data.toList.drop 0 = dktX15_init_0 := by decide +kernel
theorem dX15_init_0 : decode cX15_init 0 = .ok (.aload_n 0, 1) := dk_42 (dk_at dksX15_init_0 0 rfl rfl)
theorem dX15_init_1 : decode cX15_init 1 = .ok (.invokespecial 1, 3) := dk_183 0 1 (dk_at dksX15_init_0 1 rfl rfl)
theorem dX15_init_4 : decode cX15_init 4 = .ok (.aload_n 0, 1) := dk_42 (dk_at dksX15_init_0 4 rfl rfl)
theorem dX15_init_5 : decode cX15_init 5 = .ok (.iload_n 1, 1) := dk_27 (dk_at dksX15_init_0 5 rfl rfl)
theorem dX15_init_6 : decode cX15_init 6 = .ok (.putfield 7, 3) := dk_181 0 7 (dk_at dksX15_init_0 6 rfl rfl)
theorem dX15_init_9 : decode cX15_init 9 = .ok (.aload_n 0, 1) := dk_42 (dk_at dksX15_init_0 9 rfl rfl)
theorem dX15_init_10 : decode cX15_init 10 = .ok (.iload_n 2, 1) := dk_28 (dk_at dksX15_init_0 10 rfl rfl)
theorem dX15_init_11 : decode cX15_init 11 = .ok (.putfield 13, 3) := dk_181 0 13 (dk_at dksX15_init_0 11 rfl rfl)
theorem dX15_init_14 : decode cX15_init 14 = .ok (.aload_n 0, 1) := dk_42 (dk_at dksX15_init_0 14 rfl rfl)
theorem dX15_init_15 : decode cX15_init 15 = .ok (.iload_n 3, 1) := dk_29 (dk_at dksX15_init_0 15 rfl rfl)
theorem dX15_init_16 : decode cX15_init 16 = .ok (.putfield 16, 3) := dk_181 0 16 (dk_at dksX15_init_0 16 rfl rfl)
theorem dX15_init_19 : decode cX15_init 19 = .ok (.return_, 1) := dk_177 (dk_at dksX15_init_0 19 rfl rfl)
abbrev cX21_isOff : ByteArray := prog_10_method_3_code
theorem dX21_isOff_0 : decode cX21_isOff 0 = .ok (.iconst 1, 1) := by decide +kernel
theorem dX21_isOff_1 : decode cX21_isOff 1 = .ok (.ireturn, 1) := by decide +kernel
abbrev cX23_isOff : ByteArray := prog_12_method_3_code
theorem dX23_isOff_0 : decode cX23_isOff 0 = .ok (.iconst 1, 1) := by decide +kernel
theorem dX23_isOff_1 : decode cX23_isOff 1 = .ok (.ireturn, 1) := by decide +kernel
theorem q108 : (Jvm.Cond.initialized "BanquetVotes") ∈ lw_all := lw_g (lw_at lw_m1 1 rfl) rfl
theorem q109 : (Jvm.Cond.initialized "BanquetVotes$Kitchen") ∈ lw_all := lw_g (lw_at lw_m1 2 rfl) rfl
theorem q113 : (Jvm.Cond.initialized "BanquetVotes$Somebody") ∈ lw_all := lw_g (lw_at lw_m1 6 rfl) rfl
theorem q114 : (Jvm.Cond.initialized "BanquetVotes$Host") ∈ lw_all := lw_g (lw_at lw_m1 7 rfl) rfl
theorem q125 : (Jvm.Cond.initialized "java/lang/IllegalArgumentException") ∈ lw_all := lw_g (lw_at lw_m1 18 rfl) rfl
theorem q127 : (Jvm.Cond.initialized "java/lang/IndexOutOfBoundsException") ∈ lw_all := lw_g (lw_at lw_m1 20 rfl) rfl
theorem q141 : (Jvm.Cond.initialized "java/util/NoSuchElementException") ∈ lw_all := lw_g (lw_at lw_m1 34 rfl) rfl
theorem q144 : (Jvm.Cond.initialized "BanquetVotes$Cook") ∈ lw_all := lw_g (lw_at lw_m1 37 rfl) rfl
theorem q150 : (Jvm.Cond.initialized "BanquetVotes$Course") ∈ lw_all := lw_g (lw_at lw_m1 43 rfl) rfl
theorem q157 : (Jvm.Cond.initialized "BanquetVotes$Dish") ∈ lw_all := lw_g (lw_at lw_m1 50 rfl) rfl
theorem q158 : (Jvm.Cond.initialized "java/lang/Enum") ∈ lw_all := lw_g (lw_at lw_m1 51 rfl) rfl
theorem q159 : (Jvm.Cond.initialized "BanquetVotes$How") ∈ lw_all := lw_g (lw_at lw_m1 52 rfl) rfl
theorem q161 : (Jvm.Cond.initialized "BanquetVotes$Refusal") ∈ lw_all := lw_g (lw_at lw_m1 54 rfl) rfl
theorem q162 : (Jvm.Cond.initialized "java/lang/UnsupportedOperationException") ∈ lw_all := lw_g (lw_at lw_m1 55 rfl) rfl
theorem q167 : (Jvm.Cond.initialized "BanquetVotes$Line") ∈ lw_all := lw_g (lw_at lw_m1 60 rfl) rfl
theorem q168 : (Jvm.Cond.initialized "java/lang/Record") ∈ lw_all := lw_g (lw_at lw_m1 61 rfl) rfl
theorem q169 : (Jvm.Cond.initialized "BanquetVotes$Invitation") ∈ lw_all := lw_g (lw_at lw_m1 62 rfl) rfl
theorem q170 : (Jvm.Cond.initialized "BanquetVotes$Verdict") ∈ lw_all := lw_g (lw_at lw_m1 63 rfl) rfl
theorem q171 : (Jvm.Cond.initialized "BanquetVotes$Question") ∈ lw_all := lw_g (lw_at lw_m1 64 rfl) rfl
theorem q190 : (Jvm.Cond.instanceMethod ({ cls := "BanquetVotes$Kitchen", name := "<init>", desc := "()V" } : Jvm.MethodName)) ∈ lw_all := lw_g (lw_at lw_m1 83 rfl) rfl
theorem q191 : (Jvm.Cond.code ({ cls := "BanquetVotes$Kitchen", name := "<init>", desc := "()V" } : Jvm.MethodName) prog_14_method_1_code (1 : Nat) (Option.none : Option Jvm.ClassFile.FieldType)) ∈ lw_all := lw_g (lw_at lw_m1 84 rfl) rfl
theorem q192 : (Jvm.Cond.methodLink "BanquetVotes$Kitchen" (3 : Nat) ({ cls := "java/lang/Object", name := "<init>", desc := "()V" } : Jvm.MethodName)) ∈ lw_all := lw_g (lw_at lw_m1 85 rfl) rfl
theorem q193 : (Jvm.Cond.classLink "BanquetVotes$Kitchen" (9 : Nat) "java/util/ArrayList") ∈ lw_all := lw_g (lw_at lw_m1 86 rfl) rfl
theorem q195 : (Jvm.Cond.methodLink "BanquetVotes$Kitchen" (11 : Nat) ({ cls := "java/util/ArrayList", name := "<init>", desc := "()V" } : Jvm.MethodName)) ∈ lw_all := lw_g (lw_at lw_m1 88 rfl) rfl
theorem q196 : (Jvm.Cond.instanceMethod ({ cls := "java/util/ArrayList", name := "<init>", desc := "()V" } : Jvm.MethodName)) ∈ lw_all := lw_g (lw_at lw_m1 89 rfl) rfl
theorem q197 : (Jvm.Cond.code ({ cls := "java/util/ArrayList", name := "<init>", desc := "()V" } : Jvm.MethodName) prog_66_method_2_code (1 : Nat) (Option.none : Option Jvm.ClassFile.FieldType)) ∈ lw_all := lw_g (lw_at lw_m1 90 rfl) rfl
theorem q226 : (Jvm.Cond.classLink "BanquetVotes$Kitchen" (21 : Nat) "BanquetVotes$Host") ∈ lw_all := lw_g (lw_at lw_m1 119 rfl) rfl
theorem q228 : (Jvm.Cond.methodLinkNest "BanquetVotes$Kitchen" (23 : Nat) ({ cls := "BanquetVotes$Host", name := "<init>", desc := "()V" } : Jvm.MethodName) "BanquetVotes") ∈ lw_tbl := lw_at lw_m1 121 rfl
theorem mv228 : (Jvm.Cond.methodLinkNest "BanquetVotes$Kitchen" (23 : Nat) ({ cls := "BanquetVotes$Host", name := "<init>", desc := "()V" } : Jvm.MethodName) "BanquetVotes") ∈ lw_mv := List.mem_filter.mpr ⟨q228, rfl⟩
theorem q229 : (Jvm.Cond.instanceMethod ({ cls := "BanquetVotes$Host", name := "<init>", desc := "()V" } : Jvm.MethodName)) ∈ lw_all := lw_g (lw_at lw_m1 122 rfl) rfl
theorem q230 : (Jvm.Cond.code ({ cls := "BanquetVotes$Host", name := "<init>", desc := "()V" } : Jvm.MethodName) prog_6_method_1_code (1 : Nat) (Option.none : Option Jvm.ClassFile.FieldType)) ∈ lw_all := lw_g (lw_at lw_m1 123 rfl) rfl
theorem q231 : (Jvm.Cond.methodLinkNest "BanquetVotes$Host" (1 : Nat) ({ cls := "BanquetVotes$Somebody", name := "<init>", desc := "()V" } : Jvm.MethodName) "BanquetVotes") ∈ lw_tbl := lw_at lw_m1 124 rfl
theorem mv231 : (Jvm.Cond.methodLinkNest "BanquetVotes$Host" (1 : Nat) ({ cls := "BanquetVotes$Somebody", name := "<init>", desc := "()V" } : Jvm.MethodName) "BanquetVotes") ∈ lw_mv := List.mem_filter.mpr ⟨q231, rfl⟩
theorem q232 : (Jvm.Cond.instanceMethod ({ cls := "BanquetVotes$Somebody", name := "<init>", desc := "()V" } : Jvm.MethodName)) ∈ lw_all := lw_g (lw_at lw_m1 125 rfl) rfl
theorem q233 : (Jvm.Cond.code ({ cls := "BanquetVotes$Somebody", name := "<init>", desc := "()V" } : Jvm.MethodName) prog_20_method_1_code (1 : Nat) (Option.none : Option Jvm.ClassFile.FieldType)) ∈ lw_all := lw_g (lw_at lw_m1 126 rfl) rfl
theorem q234 : (Jvm.Cond.methodLink "BanquetVotes$Somebody" (1 : Nat) ({ cls := "java/lang/Object", name := "<init>", desc := "()V" } : Jvm.MethodName)) ∈ lw_all := lw_g (lw_at lw_m1 127 rfl) rfl
theorem q235 : (Jvm.Cond.classLink "BanquetVotes$Somebody" (7 : Nat) "java/util/ArrayList") ∈ lw_all := lw_g (lw_at lw_m1 128 rfl) rfl
theorem q236 : (Jvm.Cond.methodLink "BanquetVotes$Somebody" (9 : Nat) ({ cls := "java/util/ArrayList", name := "<init>", desc := "()V" } : Jvm.MethodName)) ∈ lw_all := lw_g (lw_at lw_m1 129 rfl) rfl
theorem q237 : (Jvm.Cond.fieldLink "BanquetVotes$Somebody" (16 : Nat) "BanquetVotes$Somebody" "hasFainted" "Z") ∈ lw_all := lw_g (lw_at lw_m1 130 rfl) rfl
theorem q238 : (Jvm.Cond.fieldLink "BanquetVotes$Somebody" (10 : Nat) "BanquetVotes$Somebody" "log" "Ljava/util/List;") ∈ lw_all := lw_g (lw_at lw_m1 131 rfl) rfl
theorem q244 : (Jvm.Cond.classLink "BanquetVotes$Kitchen" (28 : Nat) "java/util/LinkedList") ∈ lw_all := lw_g (lw_at lw_m1 137 rfl) rfl
theorem q246 : (Jvm.Cond.methodLink "BanquetVotes$Kitchen" (30 : Nat) ({ cls := "java/util/LinkedList", name := "<init>", desc := "()V" } : Jvm.MethodName)) ∈ lw_all := lw_g (lw_at lw_m1 139 rfl) rfl
theorem q247 : (Jvm.Cond.instanceMethod ({ cls := "java/util/LinkedList", name := "<init>", desc := "()V" } : Jvm.MethodName)) ∈ lw_all := lw_g (lw_at lw_m1 140 rfl) rfl
theorem q248 : (Jvm.Cond.code ({ cls := "java/util/LinkedList", name := "<init>", desc := "()V" } : Jvm.MethodName) prog_74_method_1_code (1 : Nat) (Option.none : Option Jvm.ClassFile.FieldType)) ∈ lw_all := lw_g (lw_at lw_m1 141 rfl) rfl
theorem q265 : (Jvm.Cond.fieldLink "BanquetVotes$Kitchen" (12 : Nat) "BanquetVotes$Kitchen" "cooks" "Ljava/util/List;") ∈ lw_all := lw_g (lw_at lw_m1 158 rfl) rfl
theorem q266 : (Jvm.Cond.fieldLink "BanquetVotes$Kitchen" (18 : Nat) "BanquetVotes$Kitchen" "courses" "Ljava/util/List;") ∈ lw_all := lw_g (lw_at lw_m1 159 rfl) rfl
theorem q267 : (Jvm.Cond.fieldLink "BanquetVotes$Kitchen" (24 : Nat) "BanquetVotes$Kitchen" "host" "LBanquetVotes$Host;") ∈ lw_all := lw_g (lw_at lw_m1 160 rfl) rfl
theorem q268 : (Jvm.Cond.fieldLink "BanquetVotes$Kitchen" (31 : Nat) "BanquetVotes$Kitchen" "messages" "Ljava/util/LinkedList;") ∈ lw_all := lw_g (lw_at lw_m1 161 rfl) rfl
theorem q269 : (Jvm.Cond.fieldLink "BanquetVotes$Kitchen" (75 : Nat) "BanquetVotes$Kitchen" "minute" "I") ∈ lw_all := lw_g (lw_at lw_m1 162 rfl) rfl
theorem q270 : (Jvm.Cond.fieldLink "BanquetVotes$Kitchen" (79 : Nat) "BanquetVotes$Kitchen" "lost" "I") ∈ lw_all := lw_g (lw_at lw_m1 163 rfl) rfl
theorem q320 : (Jvm.Cond.fieldLink "BanquetVotes" (19 : Nat) "BanquetVotes" "kitchen" "LBanquetVotes$Kitchen;") ∈ lw_all := lw_g (lw_at lw_m1 213 rfl) rfl
theorem q322 : (Jvm.Cond.fieldLink "BanquetVotes" (28 : Nat) "BanquetVotes" "past" "Ljava/util/LinkedList;") ∈ lw_all := lw_g (lw_at lw_m1 215 rfl) rfl
theorem q325 : (Jvm.Cond.fieldLink "BanquetVotes" (98 : Nat) "BanquetVotes" "reason" "I") ∈ lw_all := lw_g (lw_at lw_m1 218 rfl) rfl
theorem q326 : (Jvm.Cond.fieldLink "BanquetVotes" (103 : Nat) "BanquetVotes" "detail" "I") ∈ lw_all := lw_g (lw_at lw_m1 219 rfl) rfl
theorem q354 : (Jvm.Cond.methodLink "BanquetVotes$Kitchen" (36 : Nat) ({ cls := "java/util/List", name := "iterator", desc := "()Ljava/util/Iterator;" } : Jvm.MethodName)) ∈ lw_all := lw_g (lw_at lw_m2 7 rfl) rfl
theorem q358 : (Jvm.Cond.selects "java/util/ArrayList" ({ cls := "java/util/List", name := "iterator", desc := "()Ljava/util/Iterator;" } : Jvm.MethodName) ({ cls := "java/util/ArrayList", name := "iterator", desc := "()Ljava/util/Iterator;" } : Jvm.MethodName)) ∈ lw_all := lw_g (lw_at lw_m2 11 rfl) rfl
theorem q360 : (Jvm.Cond.instanceMethod ({ cls := "java/util/ArrayList", name := "iterator", desc := "()Ljava/util/Iterator;" } : Jvm.MethodName)) ∈ lw_all := lw_g (lw_at lw_m2 13 rfl) rfl
theorem q362 : (Jvm.Cond.code ({ cls := "java/util/ArrayList", name := "iterator", desc := "()Ljava/util/Iterator;" } : Jvm.MethodName) prog_66_method_55_code (1 : Nat) (Option.some (Jvm.ClassFile.FieldType.object "java/util/Iterator"))) ∈ lw_all := lw_g (lw_at lw_m2 15 rfl) rfl
theorem q781 : (Jvm.Cond.methodLink "BanquetVotes$Kitchen" (42 : Nat) ({ cls := "java/util/Iterator", name := "hasNext", desc := "()Z" } : Jvm.MethodName)) ∈ lw_all := lw_g (lw_at lw_m3 194 rfl) rfl
theorem q800 : (Jvm.Cond.selects "java/util/ArrayList$Itr" ({ cls := "java/util/Iterator", name := "hasNext", desc := "()Z" } : Jvm.MethodName) ({ cls := "java/util/ArrayList$Itr", name := "hasNext", desc := "()Z" } : Jvm.MethodName)) ∈ lw_all := lw_g (lw_at lw_m3 213 rfl) rfl
theorem q802 : (Jvm.Cond.instanceMethod ({ cls := "java/util/ArrayList$Itr", name := "hasNext", desc := "()Z" } : Jvm.MethodName)) ∈ lw_all := lw_g (lw_at lw_m3 215 rfl) rfl
theorem q804 : (Jvm.Cond.code ({ cls := "java/util/ArrayList$Itr", name := "hasNext", desc := "()Z" } : Jvm.MethodName) prog_67_method_2_code (1 : Nat) (Option.some Jvm.ClassFile.FieldType.boolean)) ∈ lw_all := lw_g (lw_at lw_m3 217 rfl) rfl
theorem q809 : (Jvm.Cond.selects "java/util/LinkedList$ListItr" ({ cls := "java/util/Iterator", name := "hasNext", desc := "()Z" } : Jvm.MethodName) ({ cls := "java/util/LinkedList$ListItr", name := "hasNext", desc := "()Z" } : Jvm.MethodName)) ∈ lw_all := lw_g (lw_at lw_m3 222 rfl) rfl
theorem q817 : (Jvm.Cond.instanceMethod ({ cls := "java/util/TreeMap$PrivateEntryIterator", name := "hasNext", desc := "()Z" } : Jvm.MethodName)) ∈ lw_all := lw_g (lw_at lw_m3 230 rfl) rfl
theorem q819 : (Jvm.Cond.code ({ cls := "java/util/TreeMap$PrivateEntryIterator", name := "hasNext", desc := "()Z" } : Jvm.MethodName) prog_100_method_2_code (1 : Nat) (Option.some Jvm.ClassFile.FieldType.boolean)) ∈ lw_all := lw_g (lw_at lw_m3 232 rfl) rfl
theorem q821 : (Jvm.Cond.selects "java/util/TreeMap$KeyIterator" ({ cls := "java/util/Iterator", name := "hasNext", desc := "()Z" } : Jvm.MethodName) ({ cls := "java/util/TreeMap$PrivateEntryIterator", name := "hasNext", desc := "()Z" } : Jvm.MethodName)) ∈ lw_all := lw_g (lw_at lw_m3 234 rfl) rfl
theorem q824 : (Jvm.Cond.selects "java/util/TreeMap$ValueIterator" ({ cls := "java/util/Iterator", name := "hasNext", desc := "()Z" } : Jvm.MethodName) ({ cls := "java/util/TreeMap$PrivateEntryIterator", name := "hasNext", desc := "()Z" } : Jvm.MethodName)) ∈ lw_all := lw_g (lw_at lw_m3 237 rfl) rfl
theorem q827 : (Jvm.Cond.methodLink "BanquetVotes$Kitchen" (48 : Nat) ({ cls := "java/util/Iterator", name := "next", desc := "()Ljava/lang/Object;" } : Jvm.MethodName)) ∈ lw_all := lw_g (lw_at lw_m4 0 rfl) rfl
theorem q844 : (Jvm.Cond.instanceMethod ({ cls := "java/util/ArrayList", name := "get", desc := "(I)Ljava/lang/Object;" } : Jvm.MethodName)) ∈ lw_all := lw_g (lw_at lw_m4 17 rfl) rfl
theorem q845 : (Jvm.Cond.code ({ cls := "java/util/ArrayList", name := "get", desc := "(I)Ljava/lang/Object;" } : Jvm.MethodName) prog_66_method_20_code (2 : Nat) (Option.some (Jvm.ClassFile.FieldType.object "java/lang/Object"))) ∈ lw_all := lw_g (lw_at lw_m4 18 rfl) rfl
theorem q857 : (Jvm.Cond.instanceMethod ({ cls := "java/util/LinkedList", name := "get", desc := "(I)Ljava/lang/Object;" } : Jvm.MethodName)) ∈ lw_all := lw_g (lw_at lw_m4 30 rfl) rfl
theorem q858 : (Jvm.Cond.code ({ cls := "java/util/LinkedList", name := "get", desc := "(I)Ljava/lang/Object;" } : Jvm.MethodName) prog_74_method_22_code (2 : Nat) (Option.some (Jvm.ClassFile.FieldType.object "java/lang/Object"))) ∈ lw_all := lw_g (lw_at lw_m4 31 rfl) rfl
theorem q991 : (Jvm.Cond.selects "java/util/ArrayList$Itr" ({ cls := "java/util/Iterator", name := "next", desc := "()Ljava/lang/Object;" } : Jvm.MethodName) ({ cls := "java/util/ArrayList$Itr", name := "next", desc := "()Ljava/lang/Object;" } : Jvm.MethodName)) ∈ lw_all := lw_g (lw_at lw_m4 164 rfl) rfl
theorem q993 : (Jvm.Cond.instanceMethod ({ cls := "java/util/ArrayList$Itr", name := "next", desc := "()Ljava/lang/Object;" } : Jvm.MethodName)) ∈ lw_all := lw_g (lw_at lw_m4 166 rfl) rfl
theorem q995 : (Jvm.Cond.code ({ cls := "java/util/ArrayList$Itr", name := "next", desc := "()Ljava/lang/Object;" } : Jvm.MethodName) prog_67_method_3_code (3 : Nat) (Option.some (Jvm.ClassFile.FieldType.object "java/lang/Object"))) ∈ lw_all := lw_g (lw_at lw_m4 168 rfl) rfl
theorem q1004 : (Jvm.Cond.instanceMethod ({ cls := "java/util/NoSuchElementException", name := "<init>", desc := "()V" } : Jvm.MethodName)) ∈ lw_all := lw_g (lw_at lw_m4 177 rfl) rfl
theorem q1005 : (Jvm.Cond.code ({ cls := "java/util/NoSuchElementException", name := "<init>", desc := "()V" } : Jvm.MethodName) prog_83_method_1_code (1 : Nat) (Option.none : Option Jvm.ClassFile.FieldType)) ∈ lw_all := lw_g (lw_at lw_m4 178 rfl) rfl
theorem q1015 : (Jvm.Cond.selects "java/util/LinkedList$ListItr" ({ cls := "java/util/Iterator", name := "next", desc := "()Ljava/lang/Object;" } : Jvm.MethodName) ({ cls := "java/util/LinkedList$ListItr", name := "next", desc := "()Ljava/lang/Object;" } : Jvm.MethodName)) ∈ lw_all := lw_g (lw_at lw_m4 188 rfl) rfl
theorem q1017 : (Jvm.Cond.instanceMethod ({ cls := "java/util/LinkedList$ListItr", name := "next", desc := "()Ljava/lang/Object;" } : Jvm.MethodName)) ∈ lw_all := lw_g (lw_at lw_m4 190 rfl) rfl
theorem q1019 : (Jvm.Cond.code ({ cls := "java/util/LinkedList$ListItr", name := "next", desc := "()Ljava/lang/Object;" } : Jvm.MethodName) prog_75_method_3_code (1 : Nat) (Option.some (Jvm.ClassFile.FieldType.object "java/lang/Object"))) ∈ lw_all := lw_g (lw_at lw_m4 192 rfl) rfl
theorem q1047 : (Jvm.Cond.selects "java/util/TreeMap$KeyIterator" ({ cls := "java/util/Iterator", name := "next", desc := "()Ljava/lang/Object;" } : Jvm.MethodName) ({ cls := "java/util/TreeMap$KeyIterator", name := "next", desc := "()Ljava/lang/Object;" } : Jvm.MethodName)) ∈ lw_all := lw_g (lw_at lw_m4 220 rfl) rfl
theorem q1049 : (Jvm.Cond.instanceMethod ({ cls := "java/util/TreeMap$KeyIterator", name := "next", desc := "()Ljava/lang/Object;" } : Jvm.MethodName)) ∈ lw_all := lw_g (lw_at lw_m4 222 rfl) rfl
theorem q1051 : (Jvm.Cond.code ({ cls := "java/util/TreeMap$KeyIterator", name := "next", desc := "()Ljava/lang/Object;" } : Jvm.MethodName) prog_97_method_2_code (1 : Nat) (Option.some (Jvm.ClassFile.FieldType.object "java/lang/Object"))) ∈ lw_all := lw_g (lw_at lw_m4 224 rfl) rfl
theorem q1055 : (Jvm.Cond.selects "java/util/TreeMap$ValueIterator" ({ cls := "java/util/Iterator", name := "next", desc := "()Ljava/lang/Object;" } : Jvm.MethodName) ({ cls := "java/util/TreeMap$ValueIterator", name := "next", desc := "()Ljava/lang/Object;" } : Jvm.MethodName)) ∈ lw_all := lw_g (lw_at lw_m4 228 rfl) rfl
theorem q1057 : (Jvm.Cond.instanceMethod ({ cls := "java/util/TreeMap$ValueIterator", name := "next", desc := "()Ljava/lang/Object;" } : Jvm.MethodName)) ∈ lw_all := lw_g (lw_at lw_m4 230 rfl) rfl
theorem q1059 : (Jvm.Cond.code ({ cls := "java/util/TreeMap$ValueIterator", name := "next", desc := "()Ljava/lang/Object;" } : Jvm.MethodName) prog_101_method_2_code (1 : Nat) (Option.some (Jvm.ClassFile.FieldType.object "java/lang/Object"))) ∈ lw_all := lw_g (lw_at lw_m4 232 rfl) rfl
theorem q1063 : (Jvm.Cond.classLink "BanquetVotes$Kitchen" (62 : Nat) "BanquetVotes$Course") ∈ lw_all := lw_g (lw_at lw_m4 236 rfl) rfl
theorem q1070 : (Jvm.Cond.methodLink "BanquetVotes$Course" (93 : Nat) ({ cls := "BanquetVotes$Course", name := "those", desc := "(LBanquetVotes$How;)I" } : Jvm.MethodName)) ∈ lw_all := lw_g (lw_at lw_m5 3 rfl) rfl
theorem q1071 : (Jvm.Cond.instanceMethod ({ cls := "BanquetVotes$Course", name := "those", desc := "(LBanquetVotes$How;)I" } : Jvm.MethodName)) ∈ lw_all := lw_g (lw_at lw_m5 4 rfl) rfl
theorem q1072 : (Jvm.Cond.selects "BanquetVotes$Course" ({ cls := "BanquetVotes$Course", name := "those", desc := "(LBanquetVotes$How;)I" } : Jvm.MethodName) ({ cls := "BanquetVotes$Course", name := "those", desc := "(LBanquetVotes$How;)I" } : Jvm.MethodName)) ∈ lw_all := lw_g (lw_at lw_m5 5 rfl) rfl
theorem q1073 : (Jvm.Cond.code ({ cls := "BanquetVotes$Course", name := "those", desc := "(LBanquetVotes$How;)I" } : Jvm.MethodName) prog_4_method_13_code (5 : Nat) (Option.some Jvm.ClassFile.FieldType.int)) ∈ lw_all := lw_g (lw_at lw_m5 6 rfl) rfl
theorem q1074 : (Jvm.Cond.methodLink "BanquetVotes$Course" (76 : Nat) ({ cls := "java/util/TreeMap", name := "values", desc := "()Ljava/util/Collection;" } : Jvm.MethodName)) ∈ lw_all := lw_g (lw_at lw_m5 7 rfl) rfl
theorem q1075 : (Jvm.Cond.instanceMethod ({ cls := "java/util/TreeMap", name := "values", desc := "()Ljava/util/Collection;" } : Jvm.MethodName)) ∈ lw_all := lw_g (lw_at lw_m5 8 rfl) rfl
theorem q1076 : (Jvm.Cond.selects "java/util/TreeMap" ({ cls := "java/util/TreeMap", name := "values", desc := "()Ljava/util/Collection;" } : Jvm.MethodName) ({ cls := "java/util/TreeMap", name := "values", desc := "()Ljava/util/Collection;" } : Jvm.MethodName)) ∈ lw_all := lw_g (lw_at lw_m5 9 rfl) rfl
theorem q1077 : (Jvm.Cond.code ({ cls := "java/util/TreeMap", name := "values", desc := "()Ljava/util/Collection;" } : Jvm.MethodName) prog_93_method_52_code (2 : Nat) (Option.some (Jvm.ClassFile.FieldType.object "java/util/Collection"))) ∈ lw_all := lw_g (lw_at lw_m5 10 rfl) rfl
theorem q1089 : (Jvm.Cond.methodLink "BanquetVotes$Course" (80 : Nat) ({ cls := "java/util/Collection", name := "iterator", desc := "()Ljava/util/Iterator;" } : Jvm.MethodName)) ∈ lw_all := lw_g (lw_at lw_m5 22 rfl) rfl
theorem q1131 : (Jvm.Cond.instanceMethod ({ cls := "java/util/TreeMap$KeySet", name := "iterator", desc := "()Ljava/util/Iterator;" } : Jvm.MethodName)) ∈ lw_all := lw_g (lw_at lw_m5 64 rfl) rfl
theorem q1133 : (Jvm.Cond.code ({ cls := "java/util/TreeMap$KeySet", name := "iterator", desc := "()Ljava/util/Iterator;" } : Jvm.MethodName) prog_98_method_2_code (1 : Nat) (Option.some (Jvm.ClassFile.FieldType.object "java/util/Iterator"))) ∈ lw_all := lw_g (lw_at lw_m5 66 rfl) rfl
theorem q1156 : (Jvm.Cond.selects "java/util/TreeMap$Values" ({ cls := "java/util/Collection", name := "iterator", desc := "()Ljava/util/Iterator;" } : Jvm.MethodName) ({ cls := "java/util/TreeMap$Values", name := "iterator", desc := "()Ljava/util/Iterator;" } : Jvm.MethodName)) ∈ lw_all := lw_g (lw_at lw_m5 89 rfl) rfl
theorem q1158 : (Jvm.Cond.instanceMethod ({ cls := "java/util/TreeMap$Values", name := "iterator", desc := "()Ljava/util/Iterator;" } : Jvm.MethodName)) ∈ lw_all := lw_g (lw_at lw_m5 91 rfl) rfl
theorem q1160 : (Jvm.Cond.code ({ cls := "java/util/TreeMap$Values", name := "iterator", desc := "()Ljava/util/Iterator;" } : Jvm.MethodName) prog_102_method_2_code (1 : Nat) (Option.some (Jvm.ClassFile.FieldType.object "java/util/Iterator"))) ∈ lw_all := lw_g (lw_at lw_m5 93 rfl) rfl
theorem q1174 : (Jvm.Cond.methodLink "BanquetVotes$Course" (36 : Nat) ({ cls := "java/util/Iterator", name := "hasNext", desc := "()Z" } : Jvm.MethodName)) ∈ lw_all := lw_g (lw_at lw_m5 107 rfl) rfl
theorem q1176 : (Jvm.Cond.methodLink "BanquetVotes$Course" (42 : Nat) ({ cls := "java/util/Iterator", name := "next", desc := "()Ljava/lang/Object;" } : Jvm.MethodName)) ∈ lw_all := lw_g (lw_at lw_m5 109 rfl) rfl
theorem q1177 : (Jvm.Cond.classLink "BanquetVotes$Course" (60 : Nat) "BanquetVotes$Dish") ∈ lw_all := lw_g (lw_at lw_m5 110 rfl) rfl
theorem q1178 : (Jvm.Cond.methodLink "BanquetVotes$Course" (83 : Nat) ({ cls := "BanquetVotes$Dish", name := "how", desc := "()LBanquetVotes$How;" } : Jvm.MethodName)) ∈ lw_all := lw_g (lw_at lw_m5 111 rfl) rfl
theorem q1179 : (Jvm.Cond.instanceMethod ({ cls := "BanquetVotes$Dish", name := "how", desc := "()LBanquetVotes$How;" } : Jvm.MethodName)) ∈ lw_all := lw_g (lw_at lw_m5 112 rfl) rfl
theorem q1180 : (Jvm.Cond.selects "BanquetVotes$Dish" ({ cls := "BanquetVotes$Dish", name := "how", desc := "()LBanquetVotes$How;" } : Jvm.MethodName) ({ cls := "BanquetVotes$Dish", name := "how", desc := "()LBanquetVotes$How;" } : Jvm.MethodName)) ∈ lw_all := lw_g (lw_at lw_m5 113 rfl) rfl
theorem q1181 : (Jvm.Cond.code ({ cls := "BanquetVotes$Dish", name := "how", desc := "()LBanquetVotes$How;" } : Jvm.MethodName) prog_5_method_5_code (1 : Nat) (Option.some (Jvm.ClassFile.FieldType.object "BanquetVotes$How"))) ∈ lw_all := lw_g (lw_at lw_m5 114 rfl) rfl
theorem q1183 : (Jvm.Cond.instanceMethod ({ cls := "BanquetVotes$Course", name := "off", desc := "()I" } : Jvm.MethodName)) ∈ lw_all := lw_g (lw_at lw_m5 116 rfl) rfl
theorem q1184 : (Jvm.Cond.selects "BanquetVotes$Course" ({ cls := "BanquetVotes$Course", name := "off", desc := "()I" } : Jvm.MethodName) ({ cls := "BanquetVotes$Course", name := "off", desc := "()I" } : Jvm.MethodName)) ∈ lw_all := lw_g (lw_at lw_m5 117 rfl) rfl
theorem q1185 : (Jvm.Cond.code ({ cls := "BanquetVotes$Course", name := "off", desc := "()I" } : Jvm.MethodName) prog_4_method_14_code (1 : Nat) (Option.some Jvm.ClassFile.FieldType.int)) ∈ lw_all := lw_g (lw_at lw_m5 118 rfl) rfl
theorem q1186 : (Jvm.Cond.fieldLink "BanquetVotes$Course" (87 : Nat) "BanquetVotes$How" "REFUSED" "LBanquetVotes$How;") ∈ lw_all := lw_g (lw_at lw_m5 119 rfl) rfl
theorem q1188 : (Jvm.Cond.fieldLink "BanquetVotes$Course" (97 : Nat) "BanquetVotes$How" "CANCELLED" "LBanquetVotes$How;") ∈ lw_all := lw_g (lw_at lw_m5 121 rfl) rfl
theorem q1207 : (Jvm.Cond.classLink "BanquetVotes" (1 : Nat) "BanquetVotes$Refusal") ∈ lw_all := lw_g (lw_at lw_m5 140 rfl) rfl
theorem q1208 : (Jvm.Cond.methodLink "BanquetVotes" (58 : Nat) ({ cls := "BanquetVotes", name := "isIn", desc := "(III)Z" } : Jvm.MethodName)) ∈ lw_all := lw_g (lw_at lw_m5 141 rfl) rfl
theorem q1209 : (Jvm.Cond.static ({ cls := "BanquetVotes", name := "isIn", desc := "(III)Z" } : Jvm.MethodName)) ∈ lw_all := lw_g (lw_at lw_m5 142 rfl) rfl
theorem q1210 : (Jvm.Cond.code ({ cls := "BanquetVotes", name := "isIn", desc := "(III)Z" } : Jvm.MethodName) prog_1_method_2_code (3 : Nat) (Option.some Jvm.ClassFile.FieldType.boolean)) ∈ lw_all := lw_g (lw_at lw_m5 143 rfl) rfl
theorem q1211 : (Jvm.Cond.methodLink "BanquetVotes" (82 : Nat) ({ cls := "BanquetVotes", name := "require", desc := "(Z)V" } : Jvm.MethodName)) ∈ lw_all := lw_g (lw_at lw_m5 144 rfl) rfl
theorem q1212 : (Jvm.Cond.static ({ cls := "BanquetVotes", name := "require", desc := "(Z)V" } : Jvm.MethodName)) ∈ lw_all := lw_g (lw_at lw_m5 145 rfl) rfl
theorem q1213 : (Jvm.Cond.code ({ cls := "BanquetVotes", name := "require", desc := "(Z)V" } : Jvm.MethodName) prog_1_method_5_code (1 : Nat) (Option.none : Option Jvm.ClassFile.FieldType)) ∈ lw_all := lw_g (lw_at lw_m5 146 rfl) rfl
theorem q1214 : (Jvm.Cond.classLink "BanquetVotes" (49 : Nat) "java/lang/IllegalArgumentException") ∈ lw_all := lw_g (lw_at lw_m5 147 rfl) rfl
theorem q1215 : (Jvm.Cond.methodLink "BanquetVotes" (51 : Nat) ({ cls := "java/lang/IllegalArgumentException", name := "<init>", desc := "()V" } : Jvm.MethodName)) ∈ lw_all := lw_g (lw_at lw_m5 148 rfl) rfl
theorem q1216 : (Jvm.Cond.instanceMethod ({ cls := "java/lang/IllegalArgumentException", name := "<init>", desc := "()V" } : Jvm.MethodName)) ∈ lw_all := lw_g (lw_at lw_m5 149 rfl) rfl
theorem q1217 : (Jvm.Cond.code ({ cls := "java/lang/IllegalArgumentException", name := "<init>", desc := "()V" } : Jvm.MethodName) prog_37_method_1_code (1 : Nat) (Option.none : Option Jvm.ClassFile.FieldType)) ∈ lw_all := lw_g (lw_at lw_m5 150 rfl) rfl
theorem q1219 : (Jvm.Cond.methodLink "BanquetVotes" (108 : Nat) ({ cls := "BanquetVotes$Kitchen", name := "copy", desc := "()LBanquetVotes$Kitchen;" } : Jvm.MethodName)) ∈ lw_all := lw_g (lw_at lw_m5 152 rfl) rfl
theorem q1220 : (Jvm.Cond.instanceMethod ({ cls := "BanquetVotes$Kitchen", name := "copy", desc := "()LBanquetVotes$Kitchen;" } : Jvm.MethodName)) ∈ lw_all := lw_g (lw_at lw_m5 153 rfl) rfl
theorem q1221 : (Jvm.Cond.selects "BanquetVotes$Kitchen" ({ cls := "BanquetVotes$Kitchen", name := "copy", desc := "()LBanquetVotes$Kitchen;" } : Jvm.MethodName) ({ cls := "BanquetVotes$Kitchen", name := "copy", desc := "()LBanquetVotes$Kitchen;" } : Jvm.MethodName)) ∈ lw_all := lw_g (lw_at lw_m5 154 rfl) rfl
theorem q1222 : (Jvm.Cond.code ({ cls := "BanquetVotes$Kitchen", name := "copy", desc := "()LBanquetVotes$Kitchen;" } : Jvm.MethodName) prog_14_method_2_code (4 : Nat) (Option.some (Jvm.ClassFile.FieldType.object "BanquetVotes$Kitchen"))) ∈ lw_all := lw_g (lw_at lw_m5 155 rfl) rfl
theorem q1223 : (Jvm.Cond.classLink "BanquetVotes$Kitchen" (13 : Nat) "BanquetVotes$Kitchen") ∈ lw_all := lw_g (lw_at lw_m5 156 rfl) rfl
theorem q1224 : (Jvm.Cond.methodLink "BanquetVotes$Kitchen" (35 : Nat) ({ cls := "BanquetVotes$Kitchen", name := "<init>", desc := "()V" } : Jvm.MethodName)) ∈ lw_all := lw_g (lw_at lw_m5 157 rfl) rfl
theorem q1225 : (Jvm.Cond.classLink "BanquetVotes$Kitchen" (52 : Nat) "BanquetVotes$Cook") ∈ lw_all := lw_g (lw_at lw_m5 158 rfl) rfl
theorem q1226 : (Jvm.Cond.methodLink "BanquetVotes$Kitchen" (54 : Nat) ({ cls := "BanquetVotes$Cook", name := "copy", desc := "()LBanquetVotes$Cook;" } : Jvm.MethodName)) ∈ lw_all := lw_g (lw_at lw_m5 159 rfl) rfl
theorem q1227 : (Jvm.Cond.instanceMethod ({ cls := "BanquetVotes$Cook", name := "copy", desc := "()LBanquetVotes$Cook;" } : Jvm.MethodName)) ∈ lw_all := lw_g (lw_at lw_m5 160 rfl) rfl
theorem q1228 : (Jvm.Cond.selects "BanquetVotes$Cook" ({ cls := "BanquetVotes$Cook", name := "copy", desc := "()LBanquetVotes$Cook;" } : Jvm.MethodName) ({ cls := "BanquetVotes$Cook", name := "copy", desc := "()LBanquetVotes$Cook;" } : Jvm.MethodName)) ∈ lw_all := lw_g (lw_at lw_m5 161 rfl) rfl
theorem q1229 : (Jvm.Cond.code ({ cls := "BanquetVotes$Cook", name := "copy", desc := "()LBanquetVotes$Cook;" } : Jvm.MethodName) prog_3_method_2_code (2 : Nat) (Option.some (Jvm.ClassFile.FieldType.object "BanquetVotes$Cook"))) ∈ lw_all := lw_g (lw_at lw_m5 162 rfl) rfl
theorem q1230 : (Jvm.Cond.classLink "BanquetVotes$Cook" (10 : Nat) "BanquetVotes$Cook") ∈ lw_all := lw_g (lw_at lw_m5 163 rfl) rfl
theorem q1232 : (Jvm.Cond.methodLink "BanquetVotes$Cook" (25 : Nat) ({ cls := "BanquetVotes$Cook", name := "<init>", desc := "(I)V" } : Jvm.MethodName)) ∈ lw_all := lw_g (lw_at lw_m5 165 rfl) rfl
theorem q1233 : (Jvm.Cond.instanceMethod ({ cls := "BanquetVotes$Cook", name := "<init>", desc := "(I)V" } : Jvm.MethodName)) ∈ lw_all := lw_g (lw_at lw_m5 166 rfl) rfl
theorem q1234 : (Jvm.Cond.code ({ cls := "BanquetVotes$Cook", name := "<init>", desc := "(I)V" } : Jvm.MethodName) prog_3_method_1_code (2 : Nat) (Option.none : Option Jvm.ClassFile.FieldType)) ∈ lw_all := lw_g (lw_at lw_m5 167 rfl) rfl
theorem q1235 : (Jvm.Cond.methodLinkNest "BanquetVotes$Cook" (3 : Nat) ({ cls := "BanquetVotes$Somebody", name := "<init>", desc := "()V" } : Jvm.MethodName) "BanquetVotes") ∈ lw_tbl := lw_at lw_m5 168 rfl
theorem mv1235 : (Jvm.Cond.methodLinkNest "BanquetVotes$Cook" (3 : Nat) ({ cls := "BanquetVotes$Somebody", name := "<init>", desc := "()V" } : Jvm.MethodName) "BanquetVotes") ∈ lw_mv := List.mem_filter.mpr ⟨q1235, rfl⟩
theorem q1236 : (Jvm.Cond.fieldLink "BanquetVotes$Cook" (21 : Nat) "BanquetVotes$Cook" "distance" "I") ∈ lw_all := lw_g (lw_at lw_m5 169 rfl) rfl
theorem q1237 : (Jvm.Cond.fieldLink "BanquetVotes$Cook" (9 : Nat) "BanquetVotes$Cook" "stock" "[I") ∈ lw_all := lw_g (lw_at lw_m5 170 rfl) rfl
theorem q1238 : (Jvm.Cond.fieldLink "BanquetVotes$Cook" (15 : Nat) "BanquetVotes$Cook" "brought" "[I") ∈ lw_all := lw_g (lw_at lw_m5 171 rfl) rfl
theorem q1239 : (Jvm.Cond.fieldLink "BanquetVotes$Cook" (18 : Nat) "BanquetVotes$Cook" "used" "[I") ∈ lw_all := lw_g (lw_at lw_m5 172 rfl) rfl
theorem q1252 : (Jvm.Cond.methodLink "BanquetVotes$Cook" (28 : Nat) ({ cls := "BanquetVotes$Cook", name := "isLike", desc := "(LBanquetVotes$Somebody;)V" } : Jvm.MethodName)) ∈ lw_all := lw_g (lw_at lw_m5 185 rfl) rfl
theorem q1253 : (Jvm.Cond.sameMethod "BanquetVotes$Cook" "BanquetVotes$Somebody" "isLike" "(LBanquetVotes$Somebody;)V") ∈ lw_all := lw_g (lw_at lw_m5 186 rfl) rfl
theorem q1255 : (Jvm.Cond.selects "BanquetVotes$Cook" ({ cls := "BanquetVotes$Cook", name := "isLike", desc := "(LBanquetVotes$Somebody;)V" } : Jvm.MethodName) ({ cls := "BanquetVotes$Somebody", name := "isLike", desc := "(LBanquetVotes$Somebody;)V" } : Jvm.MethodName)) ∈ lw_all := lw_g (lw_at lw_m5 188 rfl) rfl
theorem q1256 : (Jvm.Cond.instanceMethod ({ cls := "BanquetVotes$Somebody", name := "isLike", desc := "(LBanquetVotes$Somebody;)V" } : Jvm.MethodName)) ∈ lw_all := lw_g (lw_at lw_m5 189 rfl) rfl
theorem q1257 : (Jvm.Cond.code ({ cls := "BanquetVotes$Somebody", name := "isLike", desc := "(LBanquetVotes$Somebody;)V" } : Jvm.MethodName) prog_20_method_6_code (2 : Nat) (Option.none : Option Jvm.ClassFile.FieldType)) ∈ lw_all := lw_g (lw_at lw_m5 190 rfl) rfl
theorem q1259 : (Jvm.Cond.methodLink "BanquetVotes$Somebody" (31 : Nat) ({ cls := "java/util/List", name := "addAll", desc := "(Ljava/util/Collection;)Z" } : Jvm.MethodName)) ∈ lw_all := lw_g (lw_at lw_m5 192 rfl) rfl
theorem q1262 : (Jvm.Cond.selects "java/util/ArrayList" ({ cls := "java/util/List", name := "addAll", desc := "(Ljava/util/Collection;)Z" } : Jvm.MethodName) ({ cls := "java/util/ArrayList", name := "addAll", desc := "(Ljava/util/Collection;)Z" } : Jvm.MethodName)) ∈ lw_all := lw_g (lw_at lw_m5 195 rfl) rfl
theorem q1264 : (Jvm.Cond.instanceMethod ({ cls := "java/util/ArrayList", name := "addAll", desc := "(Ljava/util/Collection;)Z" } : Jvm.MethodName)) ∈ lw_all := lw_g (lw_at lw_m5 197 rfl) rfl
theorem q1266 : (Jvm.Cond.code ({ cls := "java/util/ArrayList", name := "addAll", desc := "(Ljava/util/Collection;)Z" } : Jvm.MethodName) prog_66_method_41_code (6 : Nat) (Option.some Jvm.ClassFile.FieldType.boolean)) ∈ lw_all := lw_g (lw_at lw_m5 199 rfl) rfl
theorem q1348 : (Jvm.Cond.instanceMethod ({ cls := "java/util/LinkedList", name := "addAll", desc := "(Ljava/util/Collection;)Z" } : Jvm.MethodName)) ∈ lw_all := lw_g (lw_at lw_m6 41 rfl) rfl
theorem q1350 : (Jvm.Cond.code ({ cls := "java/util/LinkedList", name := "addAll", desc := "(Ljava/util/Collection;)Z" } : Jvm.MethodName) prog_74_method_19_code (2 : Nat) (Option.some Jvm.ClassFile.FieldType.boolean)) ∈ lw_all := lw_g (lw_at lw_m6 43 rfl) rfl
theorem q1378 : (Jvm.Cond.methodLink "BanquetVotes$Cook" (32 : Nat) ({ cls := "java/lang/System", name := "arraycopy", desc := "(Ljava/lang/Object;ILjava/lang/Object;II)V" } : Jvm.MethodName)) ∈ lw_all := lw_g (lw_at lw_m6 71 rfl) rfl
theorem q1380 : (Jvm.Cond.methodLink "BanquetVotes$Kitchen" (58 : Nat) ({ cls := "java/util/List", name := "add", desc := "(Ljava/lang/Object;)Z" } : Jvm.MethodName)) ∈ lw_all := lw_g (lw_at lw_m6 73 rfl) rfl
theorem q1383 : (Jvm.Cond.selects "java/util/ArrayList" ({ cls := "java/util/List", name := "add", desc := "(Ljava/lang/Object;)Z" } : Jvm.MethodName) ({ cls := "java/util/ArrayList", name := "add", desc := "(Ljava/lang/Object;)Z" } : Jvm.MethodName)) ∈ lw_all := lw_g (lw_at lw_m6 76 rfl) rfl
theorem q1385 : (Jvm.Cond.instanceMethod ({ cls := "java/util/ArrayList", name := "add", desc := "(Ljava/lang/Object;)Z" } : Jvm.MethodName)) ∈ lw_all := lw_g (lw_at lw_m6 78 rfl) rfl
theorem q1387 : (Jvm.Cond.code ({ cls := "java/util/ArrayList", name := "add", desc := "(Ljava/lang/Object;)Z" } : Jvm.MethodName) prog_66_method_25_code (2 : Nat) (Option.some Jvm.ClassFile.FieldType.boolean)) ∈ lw_all := lw_g (lw_at lw_m6 80 rfl) rfl
theorem q1398 : (Jvm.Cond.instanceMethod ({ cls := "java/util/LinkedList", name := "add", desc := "(Ljava/lang/Object;)Z" } : Jvm.MethodName)) ∈ lw_all := lw_g (lw_at lw_m6 91 rfl) rfl
theorem q1400 : (Jvm.Cond.code ({ cls := "java/util/LinkedList", name := "add", desc := "(Ljava/lang/Object;)Z" } : Jvm.MethodName) prog_74_method_17_code (2 : Nat) (Option.some Jvm.ClassFile.FieldType.boolean)) ∈ lw_all := lw_g (lw_at lw_m6 93 rfl) rfl
theorem q1405 : (Jvm.Cond.methodLink "BanquetVotes$Kitchen" (64 : Nat) ({ cls := "BanquetVotes$Course", name := "copy", desc := "()LBanquetVotes$Course;" } : Jvm.MethodName)) ∈ lw_all := lw_g (lw_at lw_m6 98 rfl) rfl
theorem q1406 : (Jvm.Cond.instanceMethod ({ cls := "BanquetVotes$Course", name := "copy", desc := "()LBanquetVotes$Course;" } : Jvm.MethodName)) ∈ lw_all := lw_g (lw_at lw_m6 99 rfl) rfl
theorem q1407 : (Jvm.Cond.selects "BanquetVotes$Course" ({ cls := "BanquetVotes$Course", name := "copy", desc := "()LBanquetVotes$Course;" } : Jvm.MethodName) ({ cls := "BanquetVotes$Course", name := "copy", desc := "()LBanquetVotes$Course;" } : Jvm.MethodName)) ∈ lw_all := lw_g (lw_at lw_m6 100 rfl) rfl
theorem q1408 : (Jvm.Cond.code ({ cls := "BanquetVotes$Course", name := "copy", desc := "()LBanquetVotes$Course;" } : Jvm.MethodName) prog_4_method_2_code (4 : Nat) (Option.some (Jvm.ClassFile.FieldType.object "BanquetVotes$Course"))) ∈ lw_all := lw_g (lw_at lw_m6 101 rfl) rfl
theorem q1409 : (Jvm.Cond.classLink "BanquetVotes$Course" (13 : Nat) "BanquetVotes$Course") ∈ lw_all := lw_g (lw_at lw_m6 102 rfl) rfl
theorem q1411 : (Jvm.Cond.methodLink "BanquetVotes$Course" (25 : Nat) ({ cls := "BanquetVotes$Course", name := "<init>", desc := "()V" } : Jvm.MethodName)) ∈ lw_all := lw_g (lw_at lw_m6 104 rfl) rfl
theorem q1412 : (Jvm.Cond.instanceMethod ({ cls := "BanquetVotes$Course", name := "<init>", desc := "()V" } : Jvm.MethodName)) ∈ lw_all := lw_g (lw_at lw_m6 105 rfl) rfl
theorem q1413 : (Jvm.Cond.code ({ cls := "BanquetVotes$Course", name := "<init>", desc := "()V" } : Jvm.MethodName) prog_4_method_1_code (1 : Nat) (Option.none : Option Jvm.ClassFile.FieldType)) ∈ lw_all := lw_g (lw_at lw_m6 106 rfl) rfl
theorem q1414 : (Jvm.Cond.methodLink "BanquetVotes$Course" (3 : Nat) ({ cls := "java/lang/Object", name := "<init>", desc := "()V" } : Jvm.MethodName)) ∈ lw_all := lw_g (lw_at lw_m6 107 rfl) rfl
theorem q1415 : (Jvm.Cond.classLink "BanquetVotes$Course" (9 : Nat) "java/util/TreeMap") ∈ lw_all := lw_g (lw_at lw_m6 108 rfl) rfl
theorem q1417 : (Jvm.Cond.methodLink "BanquetVotes$Course" (11 : Nat) ({ cls := "java/util/TreeMap", name := "<init>", desc := "()V" } : Jvm.MethodName)) ∈ lw_all := lw_g (lw_at lw_m6 110 rfl) rfl
theorem q1418 : (Jvm.Cond.instanceMethod ({ cls := "java/util/TreeMap", name := "<init>", desc := "()V" } : Jvm.MethodName)) ∈ lw_all := lw_g (lw_at lw_m6 111 rfl) rfl
theorem q1419 : (Jvm.Cond.code ({ cls := "java/util/TreeMap", name := "<init>", desc := "()V" } : Jvm.MethodName) prog_93_method_1_code (1 : Nat) (Option.none : Option Jvm.ClassFile.FieldType)) ∈ lw_all := lw_g (lw_at lw_m6 112 rfl) rfl
theorem q1452 : (Jvm.Cond.fieldLink "BanquetVotes$Course" (12 : Nat) "BanquetVotes$Course" "dishes" "Ljava/util/TreeMap;") ∈ lw_all := lw_g (lw_at lw_m6 145 rfl) rfl
theorem q1453 : (Jvm.Cond.fieldLink "BanquetVotes$Course" (70 : Nat) "BanquetVotes$Course" "phase" "I") ∈ lw_all := lw_g (lw_at lw_m6 146 rfl) rfl
theorem q1454 : (Jvm.Cond.fieldLink "BanquetVotes$Course" (18 : Nat) "BanquetVotes$Course" "asked" "I") ∈ lw_all := lw_g (lw_at lw_m6 147 rfl) rfl
theorem q1455 : (Jvm.Cond.fieldLink "BanquetVotes$Course" (22 : Nat) "BanquetVotes$Course" "decided" "I") ∈ lw_all := lw_g (lw_at lw_m6 148 rfl) rfl
theorem q1456 : (Jvm.Cond.fieldLink "BanquetVotes$Course" (73 : Nat) "BanquetVotes$Course" "votes" "I") ∈ lw_all := lw_g (lw_at lw_m6 149 rfl) rfl
theorem q1468 : (Jvm.Cond.methodLink "BanquetVotes$Course" (26 : Nat) ({ cls := "java/util/TreeMap", name := "keySet", desc := "()Ljava/util/Set;" } : Jvm.MethodName)) ∈ lw_all := lw_g (lw_at lw_m6 161 rfl) rfl
theorem q1469 : (Jvm.Cond.instanceMethod ({ cls := "java/util/TreeMap", name := "keySet", desc := "()Ljava/util/Set;" } : Jvm.MethodName)) ∈ lw_all := lw_g (lw_at lw_m6 162 rfl) rfl
theorem q1470 : (Jvm.Cond.selects "java/util/TreeMap" ({ cls := "java/util/TreeMap", name := "keySet", desc := "()Ljava/util/Set;" } : Jvm.MethodName) ({ cls := "java/util/TreeMap", name := "keySet", desc := "()Ljava/util/Set;" } : Jvm.MethodName)) ∈ lw_all := lw_g (lw_at lw_m6 163 rfl) rfl
theorem q1471 : (Jvm.Cond.code ({ cls := "java/util/TreeMap", name := "keySet", desc := "()Ljava/util/Set;" } : Jvm.MethodName) prog_93_method_49_code (1 : Nat) (Option.some (Jvm.ClassFile.FieldType.object "java/util/Set"))) ∈ lw_all := lw_g (lw_at lw_m6 164 rfl) rfl
theorem q1490 : (Jvm.Cond.methodLink "BanquetVotes$Course" (30 : Nat) ({ cls := "java/util/Set", name := "iterator", desc := "()Ljava/util/Iterator;" } : Jvm.MethodName)) ∈ lw_all := lw_g (lw_at lw_m6 183 rfl) rfl
theorem q1496 : (Jvm.Cond.selects "java/util/TreeMap$KeySet" ({ cls := "java/util/Set", name := "iterator", desc := "()Ljava/util/Iterator;" } : Jvm.MethodName) ({ cls := "java/util/TreeMap$KeySet", name := "iterator", desc := "()Ljava/util/Iterator;" } : Jvm.MethodName)) ∈ lw_all := lw_g (lw_at lw_m6 189 rfl) rfl
theorem q1497 : (Jvm.Cond.classLink "BanquetVotes$Course" (46 : Nat) "java/lang/Integer") ∈ lw_all := lw_g (lw_at lw_m6 190 rfl) rfl
theorem q1498 : (Jvm.Cond.methodLink "BanquetVotes$Course" (48 : Nat) ({ cls := "java/lang/Integer", name := "intValue", desc := "()I" } : Jvm.MethodName)) ∈ lw_all := lw_g (lw_at lw_m6 191 rfl) rfl
theorem q1499 : (Jvm.Cond.instanceMethod ({ cls := "java/lang/Integer", name := "intValue", desc := "()I" } : Jvm.MethodName)) ∈ lw_all := lw_g (lw_at lw_m6 192 rfl) rfl
theorem q1500 : (Jvm.Cond.selects "java/lang/Integer" ({ cls := "java/lang/Integer", name := "intValue", desc := "()I" } : Jvm.MethodName) ({ cls := "java/lang/Integer", name := "intValue", desc := "()I" } : Jvm.MethodName)) ∈ lw_all := lw_g (lw_at lw_m6 193 rfl) rfl
theorem q1501 : (Jvm.Cond.code ({ cls := "java/lang/Integer", name := "intValue", desc := "()I" } : Jvm.MethodName) prog_40_method_27_code (1 : Nat) (Option.some Jvm.ClassFile.FieldType.int)) ∈ lw_all := lw_g (lw_at lw_m6 194 rfl) rfl
theorem q1502 : (Jvm.Cond.methodLink "BanquetVotes$Course" (52 : Nat) ({ cls := "java/lang/Integer", name := "valueOf", desc := "(I)Ljava/lang/Integer;" } : Jvm.MethodName)) ∈ lw_all := lw_g (lw_at lw_m6 195 rfl) rfl
theorem q1503 : (Jvm.Cond.static ({ cls := "java/lang/Integer", name := "valueOf", desc := "(I)Ljava/lang/Integer;" } : Jvm.MethodName)) ∈ lw_all := lw_g (lw_at lw_m6 196 rfl) rfl
theorem q1504 : (Jvm.Cond.code ({ cls := "java/lang/Integer", name := "valueOf", desc := "(I)Ljava/lang/Integer;" } : Jvm.MethodName) prog_40_method_22_code (1 : Nat) (Option.some (Jvm.ClassFile.FieldType.object "java/lang/Integer"))) ∈ lw_all := lw_g (lw_at lw_m6 197 rfl) rfl
theorem q1522 : (Jvm.Cond.methodLink "BanquetVotes$Course" (56 : Nat) ({ cls := "java/util/TreeMap", name := "get", desc := "(Ljava/lang/Object;)Ljava/lang/Object;" } : Jvm.MethodName)) ∈ lw_all := lw_g (lw_at lw_m6 215 rfl) rfl
theorem q1523 : (Jvm.Cond.instanceMethod ({ cls := "java/util/TreeMap", name := "get", desc := "(Ljava/lang/Object;)Ljava/lang/Object;" } : Jvm.MethodName)) ∈ lw_all := lw_g (lw_at lw_m6 216 rfl) rfl
theorem q1524 : (Jvm.Cond.selects "java/util/TreeMap" ({ cls := "java/util/TreeMap", name := "get", desc := "(Ljava/lang/Object;)Ljava/lang/Object;" } : Jvm.MethodName) ({ cls := "java/util/TreeMap", name := "get", desc := "(Ljava/lang/Object;)Ljava/lang/Object;" } : Jvm.MethodName)) ∈ lw_all := lw_g (lw_at lw_m6 217 rfl) rfl
theorem q1525 : (Jvm.Cond.code ({ cls := "java/util/TreeMap", name := "get", desc := "(Ljava/lang/Object;)Ljava/lang/Object;" } : Jvm.MethodName) prog_93_method_8_code (3 : Nat) (Option.some (Jvm.ClassFile.FieldType.object "java/lang/Object"))) ∈ lw_all := lw_g (lw_at lw_m6 218 rfl) rfl
theorem q1776 : (Jvm.Cond.methodLink "BanquetVotes$Course" (62 : Nat) ({ cls := "BanquetVotes$Dish", name := "copy", desc := "()LBanquetVotes$Dish;" } : Jvm.MethodName)) ∈ lw_all := lw_g (lw_at lw_m7 229 rfl) rfl
theorem q1777 : (Jvm.Cond.instanceMethod ({ cls := "BanquetVotes$Dish", name := "copy", desc := "()LBanquetVotes$Dish;" } : Jvm.MethodName)) ∈ lw_all := lw_g (lw_at lw_m7 230 rfl) rfl
theorem q1778 : (Jvm.Cond.selects "BanquetVotes$Dish" ({ cls := "BanquetVotes$Dish", name := "copy", desc := "()LBanquetVotes$Dish;" } : Jvm.MethodName) ({ cls := "BanquetVotes$Dish", name := "copy", desc := "()LBanquetVotes$Dish;" } : Jvm.MethodName)) ∈ lw_all := lw_g (lw_at lw_m7 231 rfl) rfl
theorem q1779 : (Jvm.Cond.code ({ cls := "BanquetVotes$Dish", name := "copy", desc := "()LBanquetVotes$Dish;" } : Jvm.MethodName) prog_5_method_2_code (2 : Nat) (Option.some (Jvm.ClassFile.FieldType.object "BanquetVotes$Dish"))) ∈ lw_all := lw_g (lw_at lw_m7 232 rfl) rfl
theorem q1780 : (Jvm.Cond.classLink "BanquetVotes$Dish" (16 : Nat) "BanquetVotes$Dish") ∈ lw_all := lw_g (lw_at lw_m7 233 rfl) rfl
theorem q1782 : (Jvm.Cond.methodLink "BanquetVotes$Dish" (30 : Nat) ({ cls := "BanquetVotes$Dish", name := "<init>", desc := "(II)V" } : Jvm.MethodName)) ∈ lw_all := lw_g (lw_at lw_m7 235 rfl) rfl
theorem q1783 : (Jvm.Cond.instanceMethod ({ cls := "BanquetVotes$Dish", name := "<init>", desc := "(II)V" } : Jvm.MethodName)) ∈ lw_all := lw_g (lw_at lw_m7 236 rfl) rfl
theorem q1784 : (Jvm.Cond.code ({ cls := "BanquetVotes$Dish", name := "<init>", desc := "(II)V" } : Jvm.MethodName) prog_5_method_1_code (3 : Nat) (Option.none : Option Jvm.ClassFile.FieldType)) ∈ lw_all := lw_g (lw_at lw_m7 237 rfl) rfl
theorem q1785 : (Jvm.Cond.methodLink "BanquetVotes$Dish" (3 : Nat) ({ cls := "java/lang/Object", name := "<init>", desc := "()V" } : Jvm.MethodName)) ∈ lw_all := lw_g (lw_at lw_m7 238 rfl) rfl
theorem q1786 : (Jvm.Cond.fieldLink "BanquetVotes$Dish" (9 : Nat) "BanquetVotes$How" "NOT_ASKED" "LBanquetVotes$How;") ∈ lw_all := lw_g (lw_at lw_m7 239 rfl) rfl
theorem q1788 : (Jvm.Cond.fieldLink "BanquetVotes$Dish" (24 : Nat) "BanquetVotes$Dish" "ingredient" "I") ∈ lw_all := lw_g (lw_at lw_m8 1 rfl) rfl
theorem q1789 : (Jvm.Cond.fieldLink "BanquetVotes$Dish" (27 : Nat) "BanquetVotes$Dish" "amount" "I") ∈ lw_all := lw_g (lw_at lw_m8 2 rfl) rfl
theorem q1790 : (Jvm.Cond.fieldLink "BanquetVotes$Dish" (15 : Nat) "BanquetVotes$Dish" "how" "LBanquetVotes$How;") ∈ lw_all := lw_g (lw_at lw_m8 3 rfl) rfl
theorem q1791 : (Jvm.Cond.fieldLink "BanquetVotes$Dish" (20 : Nat) "BanquetVotes$Dish" "since" "I") ∈ lw_all := lw_g (lw_at lw_m8 4 rfl) rfl
theorem q1801 : (Jvm.Cond.methodLink "BanquetVotes$Course" (66 : Nat) ({ cls := "java/util/TreeMap", name := "put", desc := "(Ljava/lang/Object;Ljava/lang/Object;)Ljava/lang/Object;" } : Jvm.MethodName)) ∈ lw_all := lw_g (lw_at lw_m8 14 rfl) rfl
theorem q1802 : (Jvm.Cond.instanceMethod ({ cls := "java/util/TreeMap", name := "put", desc := "(Ljava/lang/Object;Ljava/lang/Object;)Ljava/lang/Object;" } : Jvm.MethodName)) ∈ lw_all := lw_g (lw_at lw_m8 15 rfl) rfl
theorem q1803 : (Jvm.Cond.selects "java/util/TreeMap" ({ cls := "java/util/TreeMap", name := "put", desc := "(Ljava/lang/Object;Ljava/lang/Object;)Ljava/lang/Object;" } : Jvm.MethodName) ({ cls := "java/util/TreeMap", name := "put", desc := "(Ljava/lang/Object;Ljava/lang/Object;)Ljava/lang/Object;" } : Jvm.MethodName)) ∈ lw_all := lw_g (lw_at lw_m8 16 rfl) rfl
theorem q1804 : (Jvm.Cond.code ({ cls := "java/util/TreeMap", name := "put", desc := "(Ljava/lang/Object;Ljava/lang/Object;)Ljava/lang/Object;" } : Jvm.MethodName) prog_93_method_21_code (3 : Nat) (Option.some (Jvm.ClassFile.FieldType.object "java/lang/Object"))) ∈ lw_all := lw_g (lw_at lw_m8 17 rfl) rfl
theorem q1879 : (Jvm.Cond.methodLink "BanquetVotes$Kitchen" (67 : Nat) ({ cls := "BanquetVotes$Host", name := "isLike", desc := "(LBanquetVotes$Somebody;)V" } : Jvm.MethodName)) ∈ lw_all := lw_g (lw_at lw_m8 92 rfl) rfl
theorem q1880 : (Jvm.Cond.sameMethod "BanquetVotes$Host" "BanquetVotes$Somebody" "isLike" "(LBanquetVotes$Somebody;)V") ∈ lw_all := lw_g (lw_at lw_m8 93 rfl) rfl
theorem q1881 : (Jvm.Cond.selects "BanquetVotes$Host" ({ cls := "BanquetVotes$Host", name := "isLike", desc := "(LBanquetVotes$Somebody;)V" } : Jvm.MethodName) ({ cls := "BanquetVotes$Somebody", name := "isLike", desc := "(LBanquetVotes$Somebody;)V" } : Jvm.MethodName)) ∈ lw_all := lw_g (lw_at lw_m8 94 rfl) rfl
theorem q1882 : (Jvm.Cond.methodLink "BanquetVotes$Kitchen" (71 : Nat) ({ cls := "java/util/LinkedList", name := "addAll", desc := "(Ljava/util/Collection;)Z" } : Jvm.MethodName)) ∈ lw_all := lw_g (lw_at lw_m8 95 rfl) rfl
theorem q1883 : (Jvm.Cond.methodLink "BanquetVotes" (129 : Nat) ({ cls := "BanquetVotes$Kitchen", name := "hires", desc := "(I)I" } : Jvm.MethodName)) ∈ lw_all := lw_g (lw_at lw_m8 96 rfl) rfl
theorem q1884 : (Jvm.Cond.instanceMethod ({ cls := "BanquetVotes$Kitchen", name := "hires", desc := "(I)I" } : Jvm.MethodName)) ∈ lw_all := lw_g (lw_at lw_m8 97 rfl) rfl
theorem q1885 : (Jvm.Cond.selects "BanquetVotes$Kitchen" ({ cls := "BanquetVotes$Kitchen", name := "hires", desc := "(I)I" } : Jvm.MethodName) ({ cls := "BanquetVotes$Kitchen", name := "hires", desc := "(I)I" } : Jvm.MethodName)) ∈ lw_all := lw_g (lw_at lw_m8 98 rfl) rfl
theorem q1886 : (Jvm.Cond.code ({ cls := "BanquetVotes$Kitchen", name := "hires", desc := "(I)I" } : Jvm.MethodName) prog_14_method_11_code (2 : Nat) (Option.some Jvm.ClassFile.FieldType.int)) ∈ lw_all := lw_g (lw_at lw_m8 99 rfl) rfl
theorem q1888 : (Jvm.Cond.methodLink "BanquetVotes$Kitchen" (100 : Nat) ({ cls := "java/util/List", name := "size", desc := "()I" } : Jvm.MethodName)) ∈ lw_all := lw_g (lw_at lw_m8 101 rfl) rfl
theorem q1891 : (Jvm.Cond.selects "java/util/ArrayList" ({ cls := "java/util/List", name := "size", desc := "()I" } : Jvm.MethodName) ({ cls := "java/util/ArrayList", name := "size", desc := "()I" } : Jvm.MethodName)) ∈ lw_all := lw_g (lw_at lw_m8 104 rfl) rfl
theorem q1894 : (Jvm.Cond.selects "java/util/LinkedList" ({ cls := "java/util/List", name := "size", desc := "()I" } : Jvm.MethodName) ({ cls := "java/util/LinkedList", name := "size", desc := "()I" } : Jvm.MethodName)) ∈ lw_all := lw_g (lw_at lw_m8 107 rfl) rfl
theorem q1897 : (Jvm.Cond.methodLinkNest "BanquetVotes$Kitchen" (103 : Nat) ({ cls := "BanquetVotes", name := "meet", desc := "(ZII)V" } : Jvm.MethodName) "BanquetVotes") ∈ lw_tbl := lw_at lw_m8 110 rfl
theorem mv1897 : (Jvm.Cond.methodLinkNest "BanquetVotes$Kitchen" (103 : Nat) ({ cls := "BanquetVotes", name := "meet", desc := "(ZII)V" } : Jvm.MethodName) "BanquetVotes") ∈ lw_mv := List.mem_filter.mpr ⟨q1897, rfl⟩
theorem q1898 : (Jvm.Cond.static ({ cls := "BanquetVotes", name := "meet", desc := "(ZII)V" } : Jvm.MethodName)) ∈ lw_all := lw_g (lw_at lw_m8 111 rfl) rfl
theorem q1899 : (Jvm.Cond.code ({ cls := "BanquetVotes", name := "meet", desc := "(ZII)V" } : Jvm.MethodName) prog_1_method_1_code (3 : Nat) (Option.none : Option Jvm.ClassFile.FieldType)) ∈ lw_all := lw_g (lw_at lw_m8 112 rfl) rfl
theorem q1901 : (Jvm.Cond.castable "BanquetVotes$Refusal" "BanquetVotes$Refusal") ∈ lw_tbl := lw_at lw_m8 114 rfl
theorem mv1901 : (Jvm.Cond.castable "BanquetVotes$Refusal" "BanquetVotes$Refusal") ∈ lw_mv := List.mem_filter.mpr ⟨q1901, rfl⟩
theorem q1908 : (Jvm.Cond.methodLink "BanquetVotes" (3 : Nat) ({ cls := "BanquetVotes$Refusal", name := "<init>", desc := "(II)V" } : Jvm.MethodName)) ∈ lw_all := lw_g (lw_at lw_m8 121 rfl) rfl
theorem q1909 : (Jvm.Cond.instanceMethod ({ cls := "BanquetVotes$Refusal", name := "<init>", desc := "(II)V" } : Jvm.MethodName)) ∈ lw_all := lw_g (lw_at lw_m8 122 rfl) rfl
theorem q1910 : (Jvm.Cond.code ({ cls := "BanquetVotes$Refusal", name := "<init>", desc := "(II)V" } : Jvm.MethodName) prog_19_method_1_code (3 : Nat) (Option.none : Option Jvm.ClassFile.FieldType)) ∈ lw_all := lw_g (lw_at lw_m8 123 rfl) rfl
theorem q1911 : (Jvm.Cond.methodLink "BanquetVotes$Refusal" (1 : Nat) ({ cls := "java/lang/Exception", name := "<init>", desc := "(Ljava/lang/String;Ljava/lang/Throwable;)V" } : Jvm.MethodName)) ∈ lw_all := lw_g (lw_at lw_m8 124 rfl) rfl
theorem q1912 : (Jvm.Cond.instanceMethod ({ cls := "java/lang/Exception", name := "<init>", desc := "(Ljava/lang/String;Ljava/lang/Throwable;)V" } : Jvm.MethodName)) ∈ lw_all := lw_g (lw_at lw_m8 125 rfl) rfl
theorem q1913 : (Jvm.Cond.code ({ cls := "java/lang/Exception", name := "<init>", desc := "(Ljava/lang/String;Ljava/lang/Throwable;)V" } : Jvm.MethodName) prog_36_method_3_code (3 : Nat) (Option.none : Option Jvm.ClassFile.FieldType)) ∈ lw_all := lw_g (lw_at lw_m8 126 rfl) rfl
theorem q1917 : (Jvm.Cond.fieldLink "BanquetVotes$Refusal" (7 : Nat) "BanquetVotes$Refusal" "reason" "I") ∈ lw_all := lw_g (lw_at lw_m8 130 rfl) rfl
theorem q1918 : (Jvm.Cond.fieldLink "BanquetVotes$Refusal" (13 : Nat) "BanquetVotes$Refusal" "detail" "I") ∈ lw_all := lw_g (lw_at lw_m8 131 rfl) rfl
theorem q1925 : (Jvm.Cond.methodLink "BanquetVotes$Kitchen" (107 : Nat) ({ cls := "BanquetVotes$Cook", name := "<init>", desc := "(I)V" } : Jvm.MethodName)) ∈ lw_all := lw_g (lw_at lw_m8 138 rfl) rfl
theorem q1926 : (Jvm.Cond.methodLink "BanquetVotes" (121 : Nat) ({ cls := "BanquetVotes", name := "become", desc := "(LBanquetVotes$Kitchen;I)I" } : Jvm.MethodName)) ∈ lw_all := lw_g (lw_at lw_m8 139 rfl) rfl
theorem q1928 : (Jvm.Cond.instanceMethod ({ cls := "BanquetVotes", name := "become", desc := "(LBanquetVotes$Kitchen;I)I" } : Jvm.MethodName)) ∈ lw_all := lw_g (lw_at lw_m8 141 rfl) rfl
theorem q1929 : (Jvm.Cond.code ({ cls := "BanquetVotes", name := "become", desc := "(LBanquetVotes$Kitchen;I)I" } : Jvm.MethodName) prog_1_method_13_code (3 : Nat) (Option.some Jvm.ClassFile.FieldType.int)) ∈ lw_all := lw_g (lw_at lw_m8 142 rfl) rfl
theorem q1930 : (Jvm.Cond.methodLink "BanquetVotes" (86 : Nat) ({ cls := "java/util/LinkedList", name := "size", desc := "()I" } : Jvm.MethodName)) ∈ lw_all := lw_g (lw_at lw_m8 143 rfl) rfl
theorem q1931 : (Jvm.Cond.methodLink "BanquetVotes" (87 : Nat) ({ cls := "java/util/LinkedList", name := "removeFirst", desc := "()Ljava/lang/Object;" } : Jvm.MethodName)) ∈ lw_all := lw_g (lw_at lw_m8 144 rfl) rfl
theorem q1932 : (Jvm.Cond.instanceMethod ({ cls := "java/util/LinkedList", name := "removeFirst", desc := "()Ljava/lang/Object;" } : Jvm.MethodName)) ∈ lw_all := lw_g (lw_at lw_m8 145 rfl) rfl
theorem q1933 : (Jvm.Cond.selects "java/util/LinkedList" ({ cls := "java/util/LinkedList", name := "removeFirst", desc := "()Ljava/lang/Object;" } : Jvm.MethodName) ({ cls := "java/util/LinkedList", name := "removeFirst", desc := "()Ljava/lang/Object;" } : Jvm.MethodName)) ∈ lw_all := lw_g (lw_at lw_m8 146 rfl) rfl
theorem q1934 : (Jvm.Cond.code ({ cls := "java/util/LinkedList", name := "removeFirst", desc := "()Ljava/lang/Object;" } : Jvm.MethodName) prog_74_method_11_code (2 : Nat) (Option.some (Jvm.ClassFile.FieldType.object "java/lang/Object"))) ∈ lw_all := lw_g (lw_at lw_m8 147 rfl) rfl
theorem q1941 : (Jvm.Cond.methodLink "BanquetVotes" (91 : Nat) ({ cls := "java/util/LinkedList", name := "addLast", desc := "(Ljava/lang/Object;)V" } : Jvm.MethodName)) ∈ lw_all := lw_g (lw_at lw_m8 154 rfl) rfl
theorem q1942 : (Jvm.Cond.instanceMethod ({ cls := "java/util/LinkedList", name := "addLast", desc := "(Ljava/lang/Object;)V" } : Jvm.MethodName)) ∈ lw_all := lw_g (lw_at lw_m8 155 rfl) rfl
theorem q1943 : (Jvm.Cond.selects "java/util/LinkedList" ({ cls := "java/util/LinkedList", name := "addLast", desc := "(Ljava/lang/Object;)V" } : Jvm.MethodName) ({ cls := "java/util/LinkedList", name := "addLast", desc := "(Ljava/lang/Object;)V" } : Jvm.MethodName)) ∈ lw_all := lw_g (lw_at lw_m8 156 rfl) rfl
theorem q1944 : (Jvm.Cond.code ({ cls := "java/util/LinkedList", name := "addLast", desc := "(Ljava/lang/Object;)V" } : Jvm.MethodName) prog_74_method_14_code (2 : Nat) (Option.none : Option Jvm.ClassFile.FieldType)) ∈ lw_all := lw_g (lw_at lw_m8 157 rfl) rfl
theorem q1945 : (Jvm.Cond.methodLink "BanquetVotes" (125 : Nat) ({ cls := "BanquetVotes", name := "refused", desc := "(LBanquetVotes$Refusal;)Ljava/lang/UnsupportedOperationException;" } : Jvm.MethodName)) ∈ lw_all := lw_g (lw_at lw_m8 158 rfl) rfl
theorem q1947 : (Jvm.Cond.instanceMethod ({ cls := "BanquetVotes", name := "refused", desc := "(LBanquetVotes$Refusal;)Ljava/lang/UnsupportedOperationException;" } : Jvm.MethodName)) ∈ lw_all := lw_g (lw_at lw_m8 160 rfl) rfl
theorem q1948 : (Jvm.Cond.code ({ cls := "BanquetVotes", name := "refused", desc := "(LBanquetVotes$Refusal;)Ljava/lang/UnsupportedOperationException;" } : Jvm.MethodName) prog_1_method_14_code (2 : Nat) (Option.some (Jvm.ClassFile.FieldType.object "java/lang/UnsupportedOperationException"))) ∈ lw_all := lw_g (lw_at lw_m8 161 rfl) rfl
theorem q1949 : (Jvm.Cond.methodLink "BanquetVotes" (95 : Nat) ({ cls := "BanquetVotes$Refusal", name := "reason", desc := "()I" } : Jvm.MethodName)) ∈ lw_all := lw_g (lw_at lw_m8 162 rfl) rfl
theorem q1950 : (Jvm.Cond.instanceMethod ({ cls := "BanquetVotes$Refusal", name := "reason", desc := "()I" } : Jvm.MethodName)) ∈ lw_all := lw_g (lw_at lw_m8 163 rfl) rfl
theorem q1951 : (Jvm.Cond.selects "BanquetVotes$Refusal" ({ cls := "BanquetVotes$Refusal", name := "reason", desc := "()I" } : Jvm.MethodName) ({ cls := "BanquetVotes$Refusal", name := "reason", desc := "()I" } : Jvm.MethodName)) ∈ lw_all := lw_g (lw_at lw_m8 164 rfl) rfl
theorem q1952 : (Jvm.Cond.code ({ cls := "BanquetVotes$Refusal", name := "reason", desc := "()I" } : Jvm.MethodName) prog_19_method_2_code (1 : Nat) (Option.some Jvm.ClassFile.FieldType.int)) ∈ lw_all := lw_g (lw_at lw_m8 165 rfl) rfl
theorem q1953 : (Jvm.Cond.methodLink "BanquetVotes" (100 : Nat) ({ cls := "BanquetVotes$Refusal", name := "detail", desc := "()I" } : Jvm.MethodName)) ∈ lw_all := lw_g (lw_at lw_m8 166 rfl) rfl
theorem q1954 : (Jvm.Cond.instanceMethod ({ cls := "BanquetVotes$Refusal", name := "detail", desc := "()I" } : Jvm.MethodName)) ∈ lw_all := lw_g (lw_at lw_m8 167 rfl) rfl
theorem q1955 : (Jvm.Cond.selects "BanquetVotes$Refusal" ({ cls := "BanquetVotes$Refusal", name := "detail", desc := "()I" } : Jvm.MethodName) ({ cls := "BanquetVotes$Refusal", name := "detail", desc := "()I" } : Jvm.MethodName)) ∈ lw_all := lw_g (lw_at lw_m8 168 rfl) rfl
theorem q1956 : (Jvm.Cond.code ({ cls := "BanquetVotes$Refusal", name := "detail", desc := "()I" } : Jvm.MethodName) prog_19_method_3_code (1 : Nat) (Option.some Jvm.ClassFile.FieldType.int)) ∈ lw_all := lw_g (lw_at lw_m8 169 rfl) rfl
theorem q1957 : (Jvm.Cond.classLink "BanquetVotes" (105 : Nat) "java/lang/UnsupportedOperationException") ∈ lw_all := lw_g (lw_at lw_m8 170 rfl) rfl
theorem q1966 : (Jvm.Cond.methodLink "BanquetVotes" (107 : Nat) ({ cls := "java/lang/UnsupportedOperationException", name := "<init>", desc := "()V" } : Jvm.MethodName)) ∈ lw_all := lw_g (lw_at lw_m8 179 rfl) rfl
theorem q1967 : (Jvm.Cond.instanceMethod ({ cls := "java/lang/UnsupportedOperationException", name := "<init>", desc := "()V" } : Jvm.MethodName)) ∈ lw_all := lw_g (lw_at lw_m8 180 rfl) rfl
theorem q1968 : (Jvm.Cond.code ({ cls := "java/lang/UnsupportedOperationException", name := "<init>", desc := "()V" } : Jvm.MethodName) prog_56_method_1_code (1 : Nat) (Option.none : Option Jvm.ClassFile.FieldType)) ∈ lw_all := lw_g (lw_at lw_m8 181 rfl) rfl
theorem q1995 : (Jvm.Cond.methodLink "BanquetVotes" (133 : Nat) ({ cls := "BanquetVotes", name := "requireCook", desc := "(I)V" } : Jvm.MethodName)) ∈ lw_all := lw_g (lw_at lw_m8 208 rfl) rfl
theorem q1997 : (Jvm.Cond.instanceMethod ({ cls := "BanquetVotes", name := "requireCook", desc := "(I)V" } : Jvm.MethodName)) ∈ lw_all := lw_g (lw_at lw_m8 210 rfl) rfl
theorem q1998 : (Jvm.Cond.code ({ cls := "BanquetVotes", name := "requireCook", desc := "(I)V" } : Jvm.MethodName) prog_1_method_9_code (2 : Nat) (Option.none : Option Jvm.ClassFile.FieldType)) ∈ lw_all := lw_g (lw_at lw_m8 211 rfl) rfl
theorem q1999 : (Jvm.Cond.methodLink "BanquetVotes" (65 : Nat) ({ cls := "BanquetVotes$Kitchen", name := "cooks", desc := "()Ljava/util/List;" } : Jvm.MethodName)) ∈ lw_all := lw_g (lw_at lw_m8 212 rfl) rfl
theorem q2000 : (Jvm.Cond.instanceMethod ({ cls := "BanquetVotes$Kitchen", name := "cooks", desc := "()Ljava/util/List;" } : Jvm.MethodName)) ∈ lw_all := lw_g (lw_at lw_m8 213 rfl) rfl
theorem q2001 : (Jvm.Cond.selects "BanquetVotes$Kitchen" ({ cls := "BanquetVotes$Kitchen", name := "cooks", desc := "()Ljava/util/List;" } : Jvm.MethodName) ({ cls := "BanquetVotes$Kitchen", name := "cooks", desc := "()Ljava/util/List;" } : Jvm.MethodName)) ∈ lw_all := lw_g (lw_at lw_m8 214 rfl) rfl
theorem q2002 : (Jvm.Cond.code ({ cls := "BanquetVotes$Kitchen", name := "cooks", desc := "()Ljava/util/List;" } : Jvm.MethodName) prog_14_method_3_code (1 : Nat) (Option.some (Jvm.ClassFile.FieldType.object "java/util/List"))) ∈ lw_all := lw_g (lw_at lw_m8 215 rfl) rfl
theorem q2004 : (Jvm.Cond.methodLink "BanquetVotes" (69 : Nat) ({ cls := "java/util/List", name := "size", desc := "()I" } : Jvm.MethodName)) ∈ lw_all := lw_g (lw_at lw_m8 217 rfl) rfl
theorem q2005 : (Jvm.Cond.methodLink "BanquetVotes" (75 : Nat) ({ cls := "BanquetVotes", name := "requireIndex", desc := "(III)V" } : Jvm.MethodName)) ∈ lw_all := lw_g (lw_at lw_m8 218 rfl) rfl
theorem q2006 : (Jvm.Cond.static ({ cls := "BanquetVotes", name := "requireIndex", desc := "(III)V" } : Jvm.MethodName)) ∈ lw_all := lw_g (lw_at lw_m8 219 rfl) rfl
theorem q2007 : (Jvm.Cond.code ({ cls := "BanquetVotes", name := "requireIndex", desc := "(III)V" } : Jvm.MethodName) prog_1_method_8_code (3 : Nat) (Option.none : Option Jvm.ClassFile.FieldType)) ∈ lw_all := lw_g (lw_at lw_m8 220 rfl) rfl
theorem q2008 : (Jvm.Cond.classLink "BanquetVotes" (62 : Nat) "java/lang/IndexOutOfBoundsException") ∈ lw_all := lw_g (lw_at lw_m8 221 rfl) rfl
theorem q2009 : (Jvm.Cond.methodLink "BanquetVotes" (64 : Nat) ({ cls := "java/lang/IndexOutOfBoundsException", name := "<init>", desc := "()V" } : Jvm.MethodName)) ∈ lw_all := lw_g (lw_at lw_m8 222 rfl) rfl
theorem q2010 : (Jvm.Cond.instanceMethod ({ cls := "java/lang/IndexOutOfBoundsException", name := "<init>", desc := "()V" } : Jvm.MethodName)) ∈ lw_all := lw_g (lw_at lw_m8 223 rfl) rfl
theorem q2011 : (Jvm.Cond.code ({ cls := "java/lang/IndexOutOfBoundsException", name := "<init>", desc := "()V" } : Jvm.MethodName) prog_39_method_1_code (1 : Nat) (Option.none : Option Jvm.ClassFile.FieldType)) ∈ lw_all := lw_g (lw_at lw_m8 224 rfl) rfl
theorem q2013 : (Jvm.Cond.methodLink "BanquetVotes" (137 : Nat) ({ cls := "BanquetVotes", name := "requireIngredient", desc := "(I)V" } : Jvm.MethodName)) ∈ lw_all := lw_g (lw_at lw_m8 226 rfl) rfl
theorem q2014 : (Jvm.Cond.static ({ cls := "BanquetVotes", name := "requireIngredient", desc := "(I)V" } : Jvm.MethodName)) ∈ lw_all := lw_g (lw_at lw_m8 227 rfl) rfl
theorem q2015 : (Jvm.Cond.code ({ cls := "BanquetVotes", name := "requireIngredient", desc := "(I)V" } : Jvm.MethodName) prog_1_method_12_code (1 : Nat) (Option.none : Option Jvm.ClassFile.FieldType)) ∈ lw_all := lw_g (lw_at lw_m8 228 rfl) rfl
theorem q2016 : (Jvm.Cond.methodLink "BanquetVotes" (140 : Nat) ({ cls := "BanquetVotes$Kitchen", name := "brings", desc := "(III)I" } : Jvm.MethodName)) ∈ lw_all := lw_g (lw_at lw_m8 229 rfl) rfl
theorem q2017 : (Jvm.Cond.instanceMethod ({ cls := "BanquetVotes$Kitchen", name := "brings", desc := "(III)I" } : Jvm.MethodName)) ∈ lw_all := lw_g (lw_at lw_m8 230 rfl) rfl
theorem q2018 : (Jvm.Cond.selects "BanquetVotes$Kitchen" ({ cls := "BanquetVotes$Kitchen", name := "brings", desc := "(III)I" } : Jvm.MethodName) ({ cls := "BanquetVotes$Kitchen", name := "brings", desc := "(III)I" } : Jvm.MethodName)) ∈ lw_all := lw_g (lw_at lw_m8 231 rfl) rfl
theorem q2019 : (Jvm.Cond.code ({ cls := "BanquetVotes$Kitchen", name := "brings", desc := "(III)I" } : Jvm.MethodName) prog_14_method_12_code (5 : Nat) (Option.some Jvm.ClassFile.FieldType.int)) ∈ lw_all := lw_g (lw_at lw_m8 232 rfl) rfl
theorem q2020 : (Jvm.Cond.methodLink "BanquetVotes$Kitchen" (86 : Nat) ({ cls := "BanquetVotes$Kitchen", name := "cook", desc := "(I)LBanquetVotes$Cook;" } : Jvm.MethodName)) ∈ lw_all := lw_g (lw_at lw_m8 233 rfl) rfl
theorem q2021 : (Jvm.Cond.instanceMethod ({ cls := "BanquetVotes$Kitchen", name := "cook", desc := "(I)LBanquetVotes$Cook;" } : Jvm.MethodName)) ∈ lw_all := lw_g (lw_at lw_m8 234 rfl) rfl
theorem q2022 : (Jvm.Cond.selects "BanquetVotes$Kitchen" ({ cls := "BanquetVotes$Kitchen", name := "cook", desc := "(I)LBanquetVotes$Cook;" } : Jvm.MethodName) ({ cls := "BanquetVotes$Kitchen", name := "cook", desc := "(I)LBanquetVotes$Cook;" } : Jvm.MethodName)) ∈ lw_all := lw_g (lw_at lw_m8 235 rfl) rfl
theorem q2023 : (Jvm.Cond.code ({ cls := "BanquetVotes$Kitchen", name := "cook", desc := "(I)LBanquetVotes$Cook;" } : Jvm.MethodName) prog_14_method_4_code (2 : Nat) (Option.some (Jvm.ClassFile.FieldType.object "BanquetVotes$Cook"))) ∈ lw_all := lw_g (lw_at lw_m8 236 rfl) rfl
theorem q2025 : (Jvm.Cond.methodLink "BanquetVotes$Kitchen" (82 : Nat) ({ cls := "java/util/List", name := "get", desc := "(I)Ljava/lang/Object;" } : Jvm.MethodName)) ∈ lw_all := lw_g (lw_at lw_m8 238 rfl) rfl
theorem q2028 : (Jvm.Cond.selects "java/util/ArrayList" ({ cls := "java/util/List", name := "get", desc := "(I)Ljava/lang/Object;" } : Jvm.MethodName) ({ cls := "java/util/ArrayList", name := "get", desc := "(I)Ljava/lang/Object;" } : Jvm.MethodName)) ∈ lw_all := lw_g (lw_at lw_m9 1 rfl) rfl
theorem q2031 : (Jvm.Cond.selects "java/util/LinkedList" ({ cls := "java/util/List", name := "get", desc := "(I)Ljava/lang/Object;" } : Jvm.MethodName) ({ cls := "java/util/LinkedList", name := "get", desc := "(I)Ljava/lang/Object;" } : Jvm.MethodName)) ∈ lw_all := lw_g (lw_at lw_m9 4 rfl) rfl
theorem q2034 : (Jvm.Cond.methodLink "BanquetVotes$Kitchen" (110 : Nat) ({ cls := "BanquetVotes$Cook", name := "stock", desc := "(I)I" } : Jvm.MethodName)) ∈ lw_all := lw_g (lw_at lw_m9 7 rfl) rfl
theorem q2035 : (Jvm.Cond.instanceMethod ({ cls := "BanquetVotes$Cook", name := "stock", desc := "(I)I" } : Jvm.MethodName)) ∈ lw_all := lw_g (lw_at lw_m9 8 rfl) rfl
theorem q2036 : (Jvm.Cond.selects "BanquetVotes$Cook" ({ cls := "BanquetVotes$Cook", name := "stock", desc := "(I)I" } : Jvm.MethodName) ({ cls := "BanquetVotes$Cook", name := "stock", desc := "(I)I" } : Jvm.MethodName)) ∈ lw_all := lw_g (lw_at lw_m9 9 rfl) rfl
theorem q2037 : (Jvm.Cond.code ({ cls := "BanquetVotes$Cook", name := "stock", desc := "(I)I" } : Jvm.MethodName) prog_3_method_4_code (2 : Nat) (Option.some Jvm.ClassFile.FieldType.int)) ∈ lw_all := lw_g (lw_at lw_m9 10 rfl) rfl
theorem q2038 : (Jvm.Cond.methodLink "BanquetVotes$Kitchen" (114 : Nat) ({ cls := "BanquetVotes$Cook", name := "gets", desc := "(II)V" } : Jvm.MethodName)) ∈ lw_all := lw_g (lw_at lw_m9 11 rfl) rfl
theorem q2039 : (Jvm.Cond.instanceMethod ({ cls := "BanquetVotes$Cook", name := "gets", desc := "(II)V" } : Jvm.MethodName)) ∈ lw_all := lw_g (lw_at lw_m9 12 rfl) rfl
theorem q2040 : (Jvm.Cond.selects "BanquetVotes$Cook" ({ cls := "BanquetVotes$Cook", name := "gets", desc := "(II)V" } : Jvm.MethodName) ({ cls := "BanquetVotes$Cook", name := "gets", desc := "(II)V" } : Jvm.MethodName)) ∈ lw_all := lw_g (lw_at lw_m9 13 rfl) rfl
theorem q2041 : (Jvm.Cond.code ({ cls := "BanquetVotes$Cook", name := "gets", desc := "(II)V" } : Jvm.MethodName) prog_3_method_6_code (3 : Nat) (Option.none : Option Jvm.ClassFile.FieldType)) ∈ lw_all := lw_g (lw_at lw_m9 14 rfl) rfl
theorem q2049 : (Jvm.Cond.methodLink "BanquetVotes" (144 : Nat) ({ cls := "BanquetVotes$Kitchen", name := "cook", desc := "(I)LBanquetVotes$Cook;" } : Jvm.MethodName)) ∈ lw_all := lw_g (lw_at lw_m9 22 rfl) rfl
theorem q2050 : (Jvm.Cond.methodLink "BanquetVotes" (148 : Nat) ({ cls := "BanquetVotes$Cook", name := "distance", desc := "()I" } : Jvm.MethodName)) ∈ lw_all := lw_g (lw_at lw_m9 23 rfl) rfl
theorem q2051 : (Jvm.Cond.instanceMethod ({ cls := "BanquetVotes$Cook", name := "distance", desc := "()I" } : Jvm.MethodName)) ∈ lw_all := lw_g (lw_at lw_m9 24 rfl) rfl
theorem q2052 : (Jvm.Cond.selects "BanquetVotes$Cook" ({ cls := "BanquetVotes$Cook", name := "distance", desc := "()I" } : Jvm.MethodName) ({ cls := "BanquetVotes$Cook", name := "distance", desc := "()I" } : Jvm.MethodName)) ∈ lw_all := lw_g (lw_at lw_m9 25 rfl) rfl
theorem q2053 : (Jvm.Cond.code ({ cls := "BanquetVotes$Cook", name := "distance", desc := "()I" } : Jvm.MethodName) prog_3_method_3_code (1 : Nat) (Option.some Jvm.ClassFile.FieldType.int)) ∈ lw_all := lw_g (lw_at lw_m9 26 rfl) rfl
theorem q2054 : (Jvm.Cond.methodLink "BanquetVotes" (153 : Nat) ({ cls := "BanquetVotes$Cook", name := "hasFainted", desc := "()Z" } : Jvm.MethodName)) ∈ lw_all := lw_g (lw_at lw_m9 27 rfl) rfl
theorem q2055 : (Jvm.Cond.sameMethod "BanquetVotes$Cook" "BanquetVotes$Somebody" "hasFainted" "()Z") ∈ lw_all := lw_g (lw_at lw_m9 28 rfl) rfl
theorem q2057 : (Jvm.Cond.selects "BanquetVotes$Cook" ({ cls := "BanquetVotes$Cook", name := "hasFainted", desc := "()Z" } : Jvm.MethodName) ({ cls := "BanquetVotes$Somebody", name := "hasFainted", desc := "()Z" } : Jvm.MethodName)) ∈ lw_all := lw_g (lw_at lw_m9 30 rfl) rfl
theorem q2058 : (Jvm.Cond.instanceMethod ({ cls := "BanquetVotes$Somebody", name := "hasFainted", desc := "()Z" } : Jvm.MethodName)) ∈ lw_all := lw_g (lw_at lw_m9 31 rfl) rfl
theorem q2059 : (Jvm.Cond.code ({ cls := "BanquetVotes$Somebody", name := "hasFainted", desc := "()Z" } : Jvm.MethodName) prog_20_method_2_code (1 : Nat) (Option.some Jvm.ClassFile.FieldType.boolean)) ∈ lw_all := lw_g (lw_at lw_m9 32 rfl) rfl
theorem q2060 : (Jvm.Cond.fieldLink "BanquetVotes" (157 : Nat) "BanquetVotes$How" "READY" "LBanquetVotes$How;") ∈ lw_all := lw_g (lw_at lw_m9 33 rfl) rfl
theorem q2062 : (Jvm.Cond.methodLink "BanquetVotes" (163 : Nat) ({ cls := "BanquetVotes$Kitchen", name := "dishesOf", desc := "(ILBanquetVotes$How;Z)I" } : Jvm.MethodName)) ∈ lw_all := lw_g (lw_at lw_m9 35 rfl) rfl
theorem q2063 : (Jvm.Cond.instanceMethod ({ cls := "BanquetVotes$Kitchen", name := "dishesOf", desc := "(ILBanquetVotes$How;Z)I" } : Jvm.MethodName)) ∈ lw_all := lw_g (lw_at lw_m9 36 rfl) rfl
theorem q2064 : (Jvm.Cond.selects "BanquetVotes$Kitchen" ({ cls := "BanquetVotes$Kitchen", name := "dishesOf", desc := "(ILBanquetVotes$How;Z)I" } : Jvm.MethodName) ({ cls := "BanquetVotes$Kitchen", name := "dishesOf", desc := "(ILBanquetVotes$How;Z)I" } : Jvm.MethodName)) ∈ lw_all := lw_g (lw_at lw_m9 37 rfl) rfl
theorem q2065 : (Jvm.Cond.code ({ cls := "BanquetVotes$Kitchen", name := "dishesOf", desc := "(ILBanquetVotes$How;Z)I" } : Jvm.MethodName) prog_14_method_48_code (8 : Nat) (Option.some Jvm.ClassFile.FieldType.int)) ∈ lw_all := lw_g (lw_at lw_m9 38 rfl) rfl
theorem q2066 : (Jvm.Cond.methodLink "BanquetVotes$Kitchen" (126 : Nat) ({ cls := "BanquetVotes$Course", name := "of", desc := "(I)LBanquetVotes$Dish;" } : Jvm.MethodName)) ∈ lw_all := lw_g (lw_at lw_m9 39 rfl) rfl
theorem q2067 : (Jvm.Cond.instanceMethod ({ cls := "BanquetVotes$Course", name := "of", desc := "(I)LBanquetVotes$Dish;" } : Jvm.MethodName)) ∈ lw_all := lw_g (lw_at lw_m9 40 rfl) rfl
theorem q2068 : (Jvm.Cond.selects "BanquetVotes$Course" ({ cls := "BanquetVotes$Course", name := "of", desc := "(I)LBanquetVotes$Dish;" } : Jvm.MethodName) ({ cls := "BanquetVotes$Course", name := "of", desc := "(I)LBanquetVotes$Dish;" } : Jvm.MethodName)) ∈ lw_all := lw_g (lw_at lw_m9 41 rfl) rfl
theorem q2069 : (Jvm.Cond.code ({ cls := "BanquetVotes$Course", name := "of", desc := "(I)LBanquetVotes$Dish;" } : Jvm.MethodName) prog_4_method_4_code (2 : Nat) (Option.some (Jvm.ClassFile.FieldType.object "BanquetVotes$Dish"))) ∈ lw_all := lw_g (lw_at lw_m9 42 rfl) rfl
theorem q2070 : (Jvm.Cond.methodLink "BanquetVotes$Kitchen" (250 : Nat) ({ cls := "BanquetVotes$Dish", name := "how", desc := "()LBanquetVotes$How;" } : Jvm.MethodName)) ∈ lw_all := lw_g (lw_at lw_m9 43 rfl) rfl
theorem q2071 : (Jvm.Cond.methodLink "BanquetVotes$Kitchen" (293 : Nat) ({ cls := "BanquetVotes$How", name := "isOff", desc := "()Z" } : Jvm.MethodName)) ∈ lw_all := lw_g (lw_at lw_m9 44 rfl) rfl
theorem q2072 : (Jvm.Cond.instanceMethod ({ cls := "BanquetVotes$How", name := "isOff", desc := "()Z" } : Jvm.MethodName)) ∈ lw_all := lw_g (lw_at lw_m9 45 rfl) rfl
theorem q2073 : (Jvm.Cond.sameMethod "BanquetVotes$How" "BanquetVotes$How" "isOff" "()Z") ∈ lw_all := lw_g (lw_at lw_m9 46 rfl) rfl
theorem q2074 : (Jvm.Cond.selects "BanquetVotes$How$1" ({ cls := "BanquetVotes$How", name := "isOff", desc := "()Z" } : Jvm.MethodName) ({ cls := "BanquetVotes$How", name := "isOff", desc := "()Z" } : Jvm.MethodName)) ∈ lw_all := lw_g (lw_at lw_m9 47 rfl) rfl
theorem q2075 : (Jvm.Cond.selects "BanquetVotes$How$2" ({ cls := "BanquetVotes$How", name := "isOff", desc := "()Z" } : Jvm.MethodName) ({ cls := "BanquetVotes$How", name := "isOff", desc := "()Z" } : Jvm.MethodName)) ∈ lw_all := lw_g (lw_at lw_m9 48 rfl) rfl
theorem q2076 : (Jvm.Cond.selects "BanquetVotes$How$3" ({ cls := "BanquetVotes$How", name := "isOff", desc := "()Z" } : Jvm.MethodName) ({ cls := "BanquetVotes$How$3", name := "isOff", desc := "()Z" } : Jvm.MethodName)) ∈ lw_all := lw_g (lw_at lw_m9 49 rfl) rfl
theorem q2077 : (Jvm.Cond.instanceMethod ({ cls := "BanquetVotes$How$3", name := "isOff", desc := "()Z" } : Jvm.MethodName)) ∈ lw_all := lw_g (lw_at lw_m9 50 rfl) rfl
theorem q2078 : (Jvm.Cond.code ({ cls := "BanquetVotes$How$3", name := "isOff", desc := "()Z" } : Jvm.MethodName) prog_10_method_3_code (1 : Nat) (Option.some Jvm.ClassFile.FieldType.boolean)) ∈ lw_all := lw_g (lw_at lw_m9 51 rfl) rfl
theorem q2079 : (Jvm.Cond.selects "BanquetVotes$How$4" ({ cls := "BanquetVotes$How", name := "isOff", desc := "()Z" } : Jvm.MethodName) ({ cls := "BanquetVotes$How", name := "isOff", desc := "()Z" } : Jvm.MethodName)) ∈ lw_all := lw_g (lw_at lw_m9 52 rfl) rfl
theorem q2080 : (Jvm.Cond.selects "BanquetVotes$How$5" ({ cls := "BanquetVotes$How", name := "isOff", desc := "()Z" } : Jvm.MethodName) ({ cls := "BanquetVotes$How$5", name := "isOff", desc := "()Z" } : Jvm.MethodName)) ∈ lw_all := lw_g (lw_at lw_m9 53 rfl) rfl
theorem q2081 : (Jvm.Cond.instanceMethod ({ cls := "BanquetVotes$How$5", name := "isOff", desc := "()Z" } : Jvm.MethodName)) ∈ lw_all := lw_g (lw_at lw_m9 54 rfl) rfl
theorem q2082 : (Jvm.Cond.code ({ cls := "BanquetVotes$How$5", name := "isOff", desc := "()Z" } : Jvm.MethodName) prog_12_method_3_code (1 : Nat) (Option.some Jvm.ClassFile.FieldType.boolean)) ∈ lw_all := lw_g (lw_at lw_m9 55 rfl) rfl
theorem q2083 : (Jvm.Cond.code ({ cls := "BanquetVotes$How", name := "isOff", desc := "()Z" } : Jvm.MethodName) prog_7_method_6_code (1 : Nat) (Option.some Jvm.ClassFile.FieldType.boolean)) ∈ lw_all := lw_g (lw_at lw_m9 56 rfl) rfl
theorem q2084 : (Jvm.Cond.fieldLink "BanquetVotes" (167 : Nat) "BanquetVotes$How" "SERVED" "LBanquetVotes$How;") ∈ lw_all := lw_g (lw_at lw_m9 57 rfl) rfl
theorem q2085 : (Jvm.Cond.fieldLink "BanquetVotes" (170 : Nat) "BanquetVotes$How" "REFUSED" "LBanquetVotes$How;") ∈ lw_all := lw_g (lw_at lw_m9 58 rfl) rfl
theorem q2086 : (Jvm.Cond.methodLink "BanquetVotes" (173 : Nat) ({ cls := "BanquetVotes$Cook", name := "served", desc := "()I" } : Jvm.MethodName)) ∈ lw_all := lw_g (lw_at lw_m9 59 rfl) rfl
theorem q2087 : (Jvm.Cond.instanceMethod ({ cls := "BanquetVotes$Cook", name := "served", desc := "()I" } : Jvm.MethodName)) ∈ lw_all := lw_g (lw_at lw_m9 60 rfl) rfl
theorem q2088 : (Jvm.Cond.selects "BanquetVotes$Cook" ({ cls := "BanquetVotes$Cook", name := "served", desc := "()I" } : Jvm.MethodName) ({ cls := "BanquetVotes$Cook", name := "served", desc := "()I" } : Jvm.MethodName)) ∈ lw_all := lw_g (lw_at lw_m9 61 rfl) rfl
theorem q2089 : (Jvm.Cond.code ({ cls := "BanquetVotes$Cook", name := "served", desc := "()I" } : Jvm.MethodName) prog_3_method_8_code (6 : Nat) (Option.some Jvm.ClassFile.FieldType.int)) ∈ lw_all := lw_g (lw_at lw_m9 62 rfl) rfl
theorem q2090 : (Jvm.Cond.methodLink "BanquetVotes" (176 : Nat) ({ cls := "BanquetVotes$Cook", name := "log", desc := "()Ljava/util/List;" } : Jvm.MethodName)) ∈ lw_all := lw_g (lw_at lw_m9 63 rfl) rfl
theorem q2091 : (Jvm.Cond.sameMethod "BanquetVotes$Cook" "BanquetVotes$Somebody" "log" "()Ljava/util/List;") ∈ lw_all := lw_g (lw_at lw_m9 64 rfl) rfl
theorem q2093 : (Jvm.Cond.selects "BanquetVotes$Cook" ({ cls := "BanquetVotes$Cook", name := "log", desc := "()Ljava/util/List;" } : Jvm.MethodName) ({ cls := "BanquetVotes$Somebody", name := "log", desc := "()Ljava/util/List;" } : Jvm.MethodName)) ∈ lw_all := lw_g (lw_at lw_m9 66 rfl) rfl
theorem q2094 : (Jvm.Cond.instanceMethod ({ cls := "BanquetVotes$Somebody", name := "log", desc := "()Ljava/util/List;" } : Jvm.MethodName)) ∈ lw_all := lw_g (lw_at lw_m9 67 rfl) rfl
theorem q2095 : (Jvm.Cond.code ({ cls := "BanquetVotes$Somebody", name := "log", desc := "()Ljava/util/List;" } : Jvm.MethodName) prog_20_method_4_code (1 : Nat) (Option.some (Jvm.ClassFile.FieldType.object "java/util/List"))) ∈ lw_all := lw_g (lw_at lw_m9 68 rfl) rfl
theorem q2103 : (Jvm.Cond.methodLink "BanquetVotes" (179 : Nat) ({ cls := "BanquetVotes$Kitchen", name := "plans", desc := "()I" } : Jvm.MethodName)) ∈ lw_all := lw_g (lw_at lw_m9 76 rfl) rfl
theorem q2104 : (Jvm.Cond.instanceMethod ({ cls := "BanquetVotes$Kitchen", name := "plans", desc := "()I" } : Jvm.MethodName)) ∈ lw_all := lw_g (lw_at lw_m9 77 rfl) rfl
theorem q2105 : (Jvm.Cond.selects "BanquetVotes$Kitchen" ({ cls := "BanquetVotes$Kitchen", name := "plans", desc := "()I" } : Jvm.MethodName) ({ cls := "BanquetVotes$Kitchen", name := "plans", desc := "()I" } : Jvm.MethodName)) ∈ lw_all := lw_g (lw_at lw_m9 78 rfl) rfl
theorem q2106 : (Jvm.Cond.code ({ cls := "BanquetVotes$Kitchen", name := "plans", desc := "()I" } : Jvm.MethodName) prog_14_method_13_code (1 : Nat) (Option.some Jvm.ClassFile.FieldType.int)) ∈ lw_all := lw_g (lw_at lw_m9 79 rfl) rfl
theorem q2107 : (Jvm.Cond.methodLinkNest "BanquetVotes$Kitchen" (118 : Nat) ({ cls := "BanquetVotes$Course", name := "<init>", desc := "()V" } : Jvm.MethodName) "BanquetVotes") ∈ lw_tbl := lw_at lw_m9 80 rfl
theorem mv2107 : (Jvm.Cond.methodLinkNest "BanquetVotes$Kitchen" (118 : Nat) ({ cls := "BanquetVotes$Course", name := "<init>", desc := "()V" } : Jvm.MethodName) "BanquetVotes") ∈ lw_mv := List.mem_filter.mpr ⟨q2107, rfl⟩
theorem q2115 : (Jvm.Cond.methodLink "BanquetVotes" (182 : Nat) ({ cls := "BanquetVotes", name := "requireCourse", desc := "(I)V" } : Jvm.MethodName)) ∈ lw_all := lw_g (lw_at lw_m9 88 rfl) rfl
theorem q2117 : (Jvm.Cond.instanceMethod ({ cls := "BanquetVotes", name := "requireCourse", desc := "(I)V" } : Jvm.MethodName)) ∈ lw_all := lw_g (lw_at lw_m9 90 rfl) rfl
theorem q2118 : (Jvm.Cond.code ({ cls := "BanquetVotes", name := "requireCourse", desc := "(I)V" } : Jvm.MethodName) prog_1_method_11_code (2 : Nat) (Option.none : Option Jvm.ClassFile.FieldType)) ∈ lw_all := lw_g (lw_at lw_m9 91 rfl) rfl
theorem q2119 : (Jvm.Cond.methodLink "BanquetVotes" (79 : Nat) ({ cls := "BanquetVotes$Kitchen", name := "courses", desc := "()Ljava/util/List;" } : Jvm.MethodName)) ∈ lw_all := lw_g (lw_at lw_m9 92 rfl) rfl
theorem q2120 : (Jvm.Cond.instanceMethod ({ cls := "BanquetVotes$Kitchen", name := "courses", desc := "()Ljava/util/List;" } : Jvm.MethodName)) ∈ lw_all := lw_g (lw_at lw_m9 93 rfl) rfl
theorem q2121 : (Jvm.Cond.selects "BanquetVotes$Kitchen" ({ cls := "BanquetVotes$Kitchen", name := "courses", desc := "()Ljava/util/List;" } : Jvm.MethodName) ({ cls := "BanquetVotes$Kitchen", name := "courses", desc := "()Ljava/util/List;" } : Jvm.MethodName)) ∈ lw_all := lw_g (lw_at lw_m9 94 rfl) rfl
theorem q2122 : (Jvm.Cond.code ({ cls := "BanquetVotes$Kitchen", name := "courses", desc := "()Ljava/util/List;" } : Jvm.MethodName) prog_14_method_5_code (1 : Nat) (Option.some (Jvm.ClassFile.FieldType.object "java/util/List"))) ∈ lw_all := lw_g (lw_at lw_m9 95 rfl) rfl
theorem q2123 : (Jvm.Cond.methodLink "BanquetVotes" (185 : Nat) ({ cls := "BanquetVotes$Kitchen", name := "givesDish", desc := "(IIII)I" } : Jvm.MethodName)) ∈ lw_all := lw_g (lw_at lw_m9 96 rfl) rfl
theorem q2124 : (Jvm.Cond.instanceMethod ({ cls := "BanquetVotes$Kitchen", name := "givesDish", desc := "(IIII)I" } : Jvm.MethodName)) ∈ lw_all := lw_g (lw_at lw_m9 97 rfl) rfl
theorem q2125 : (Jvm.Cond.selects "BanquetVotes$Kitchen" ({ cls := "BanquetVotes$Kitchen", name := "givesDish", desc := "(IIII)I" } : Jvm.MethodName) ({ cls := "BanquetVotes$Kitchen", name := "givesDish", desc := "(IIII)I" } : Jvm.MethodName)) ∈ lw_all := lw_g (lw_at lw_m9 98 rfl) rfl
theorem q2126 : (Jvm.Cond.code ({ cls := "BanquetVotes$Kitchen", name := "givesDish", desc := "(IIII)I" } : Jvm.MethodName) prog_14_method_14_code (7 : Nat) (Option.some Jvm.ClassFile.FieldType.int)) ∈ lw_all := lw_g (lw_at lw_m9 99 rfl) rfl
theorem q2127 : (Jvm.Cond.methodLink "BanquetVotes$Kitchen" (119 : Nat) ({ cls := "BanquetVotes$Kitchen", name := "course", desc := "(I)LBanquetVotes$Course;" } : Jvm.MethodName)) ∈ lw_all := lw_g (lw_at lw_m9 100 rfl) rfl
theorem q2128 : (Jvm.Cond.instanceMethod ({ cls := "BanquetVotes$Kitchen", name := "course", desc := "(I)LBanquetVotes$Course;" } : Jvm.MethodName)) ∈ lw_all := lw_g (lw_at lw_m9 101 rfl) rfl
theorem q2129 : (Jvm.Cond.selects "BanquetVotes$Kitchen" ({ cls := "BanquetVotes$Kitchen", name := "course", desc := "(I)LBanquetVotes$Course;" } : Jvm.MethodName) ({ cls := "BanquetVotes$Kitchen", name := "course", desc := "(I)LBanquetVotes$Course;" } : Jvm.MethodName)) ∈ lw_all := lw_g (lw_at lw_m9 102 rfl) rfl
theorem q2130 : (Jvm.Cond.code ({ cls := "BanquetVotes$Kitchen", name := "course", desc := "(I)LBanquetVotes$Course;" } : Jvm.MethodName) prog_14_method_6_code (2 : Nat) (Option.some (Jvm.ClassFile.FieldType.object "BanquetVotes$Course"))) ∈ lw_all := lw_g (lw_at lw_m9 103 rfl) rfl
theorem q2131 : (Jvm.Cond.methodLink "BanquetVotes$Kitchen" (123 : Nat) ({ cls := "BanquetVotes$Course", name := "phase", desc := "()I" } : Jvm.MethodName)) ∈ lw_all := lw_g (lw_at lw_m9 104 rfl) rfl
theorem q2132 : (Jvm.Cond.instanceMethod ({ cls := "BanquetVotes$Course", name := "phase", desc := "()I" } : Jvm.MethodName)) ∈ lw_all := lw_g (lw_at lw_m9 105 rfl) rfl
theorem q2133 : (Jvm.Cond.selects "BanquetVotes$Course" ({ cls := "BanquetVotes$Course", name := "phase", desc := "()I" } : Jvm.MethodName) ({ cls := "BanquetVotes$Course", name := "phase", desc := "()I" } : Jvm.MethodName)) ∈ lw_all := lw_g (lw_at lw_m9 106 rfl) rfl
theorem q2134 : (Jvm.Cond.code ({ cls := "BanquetVotes$Course", name := "phase", desc := "()I" } : Jvm.MethodName) prog_4_method_5_code (1 : Nat) (Option.some Jvm.ClassFile.FieldType.int)) ∈ lw_all := lw_g (lw_at lw_m9 107 rfl) rfl
theorem q2135 : (Jvm.Cond.methodLink "BanquetVotes$Kitchen" (130 : Nat) ({ cls := "BanquetVotes$Dish", name := "ingredient", desc := "()I" } : Jvm.MethodName)) ∈ lw_all := lw_g (lw_at lw_m9 108 rfl) rfl
theorem q2136 : (Jvm.Cond.instanceMethod ({ cls := "BanquetVotes$Dish", name := "ingredient", desc := "()I" } : Jvm.MethodName)) ∈ lw_all := lw_g (lw_at lw_m9 109 rfl) rfl
theorem q2137 : (Jvm.Cond.selects "BanquetVotes$Dish" ({ cls := "BanquetVotes$Dish", name := "ingredient", desc := "()I" } : Jvm.MethodName) ({ cls := "BanquetVotes$Dish", name := "ingredient", desc := "()I" } : Jvm.MethodName)) ∈ lw_all := lw_g (lw_at lw_m9 110 rfl) rfl
theorem q2138 : (Jvm.Cond.code ({ cls := "BanquetVotes$Dish", name := "ingredient", desc := "()I" } : Jvm.MethodName) prog_5_method_3_code (1 : Nat) (Option.some Jvm.ClassFile.FieldType.int)) ∈ lw_all := lw_g (lw_at lw_m9 111 rfl) rfl
theorem q2139 : (Jvm.Cond.methodLink "BanquetVotes$Kitchen" (135 : Nat) ({ cls := "BanquetVotes$Course", name := "dishes", desc := "()Ljava/util/TreeMap;" } : Jvm.MethodName)) ∈ lw_all := lw_g (lw_at lw_m9 112 rfl) rfl
theorem q2140 : (Jvm.Cond.instanceMethod ({ cls := "BanquetVotes$Course", name := "dishes", desc := "()Ljava/util/TreeMap;" } : Jvm.MethodName)) ∈ lw_all := lw_g (lw_at lw_m9 113 rfl) rfl
theorem q2141 : (Jvm.Cond.selects "BanquetVotes$Course" ({ cls := "BanquetVotes$Course", name := "dishes", desc := "()Ljava/util/TreeMap;" } : Jvm.MethodName) ({ cls := "BanquetVotes$Course", name := "dishes", desc := "()Ljava/util/TreeMap;" } : Jvm.MethodName)) ∈ lw_all := lw_g (lw_at lw_m9 114 rfl) rfl
theorem q2142 : (Jvm.Cond.code ({ cls := "BanquetVotes$Course", name := "dishes", desc := "()Ljava/util/TreeMap;" } : Jvm.MethodName) prog_4_method_3_code (1 : Nat) (Option.some (Jvm.ClassFile.FieldType.object "java/util/TreeMap"))) ∈ lw_all := lw_g (lw_at lw_m9 115 rfl) rfl
theorem q2143 : (Jvm.Cond.methodLink "BanquetVotes$Kitchen" (139 : Nat) ({ cls := "java/lang/Integer", name := "valueOf", desc := "(I)Ljava/lang/Integer;" } : Jvm.MethodName)) ∈ lw_all := lw_g (lw_at lw_m9 116 rfl) rfl
theorem q2144 : (Jvm.Cond.classLink "BanquetVotes$Kitchen" (131 : Nat) "BanquetVotes$Dish") ∈ lw_all := lw_g (lw_at lw_m9 117 rfl) rfl
theorem q2145 : (Jvm.Cond.methodLink "BanquetVotes$Kitchen" (145 : Nat) ({ cls := "BanquetVotes$Dish", name := "<init>", desc := "(II)V" } : Jvm.MethodName)) ∈ lw_all := lw_g (lw_at lw_m9 118 rfl) rfl
theorem q2146 : (Jvm.Cond.methodLink "BanquetVotes$Kitchen" (147 : Nat) ({ cls := "java/util/TreeMap", name := "put", desc := "(Ljava/lang/Object;Ljava/lang/Object;)Ljava/lang/Object;" } : Jvm.MethodName)) ∈ lw_all := lw_g (lw_at lw_m9 119 rfl) rfl
theorem q2147 : (Jvm.Cond.methodLink "BanquetVotes$Kitchen" (153 : Nat) ({ cls := "java/util/TreeMap", name := "size", desc := "()I" } : Jvm.MethodName)) ∈ lw_all := lw_g (lw_at lw_m9 120 rfl) rfl
theorem q2155 : (Jvm.Cond.methodLink "BanquetVotes" (189 : Nat) ({ cls := "BanquetVotes$Kitchen", name := "course", desc := "(I)LBanquetVotes$Course;" } : Jvm.MethodName)) ∈ lw_all := lw_g (lw_at lw_m9 128 rfl) rfl
theorem q2156 : (Jvm.Cond.methodLink "BanquetVotes" (193 : Nat) ({ cls := "BanquetVotes$Course", name := "phase", desc := "()I" } : Jvm.MethodName)) ∈ lw_all := lw_g (lw_at lw_m9 129 rfl) rfl
theorem q2157 : (Jvm.Cond.methodLink "BanquetVotes" (198 : Nat) ({ cls := "BanquetVotes$Course", name := "dishes", desc := "()Ljava/util/TreeMap;" } : Jvm.MethodName)) ∈ lw_all := lw_g (lw_at lw_m9 130 rfl) rfl
theorem q2158 : (Jvm.Cond.methodLink "BanquetVotes" (202 : Nat) ({ cls := "java/util/TreeMap", name := "size", desc := "()I" } : Jvm.MethodName)) ∈ lw_all := lw_g (lw_at lw_m9 131 rfl) rfl
theorem q2159 : (Jvm.Cond.methodLink "BanquetVotes" (205 : Nat) ({ cls := "BanquetVotes$Course", name := "those", desc := "(LBanquetVotes$How;)I" } : Jvm.MethodName)) ∈ lw_all := lw_g (lw_at lw_m9 132 rfl) rfl
theorem q2160 : (Jvm.Cond.methodLink "BanquetVotes" (209 : Nat) ({ cls := "BanquetVotes$Course", name := "off", desc := "()I" } : Jvm.MethodName)) ∈ lw_all := lw_g (lw_at lw_m9 133 rfl) rfl
theorem q2161 : (Jvm.Cond.methodLink "BanquetVotes" (212 : Nat) ({ cls := "BanquetVotes$Course", name := "asked", desc := "()I" } : Jvm.MethodName)) ∈ lw_all := lw_g (lw_at lw_m9 134 rfl) rfl
theorem q2162 : (Jvm.Cond.instanceMethod ({ cls := "BanquetVotes$Course", name := "asked", desc := "()I" } : Jvm.MethodName)) ∈ lw_all := lw_g (lw_at lw_m9 135 rfl) rfl
theorem q2163 : (Jvm.Cond.selects "BanquetVotes$Course" ({ cls := "BanquetVotes$Course", name := "asked", desc := "()I" } : Jvm.MethodName) ({ cls := "BanquetVotes$Course", name := "asked", desc := "()I" } : Jvm.MethodName)) ∈ lw_all := lw_g (lw_at lw_m9 136 rfl) rfl
theorem q2164 : (Jvm.Cond.code ({ cls := "BanquetVotes$Course", name := "asked", desc := "()I" } : Jvm.MethodName) prog_4_method_7_code (1 : Nat) (Option.some Jvm.ClassFile.FieldType.int)) ∈ lw_all := lw_g (lw_at lw_m9 137 rfl) rfl
theorem q2165 : (Jvm.Cond.methodLink "BanquetVotes" (215 : Nat) ({ cls := "BanquetVotes$Course", name := "decided", desc := "()I" } : Jvm.MethodName)) ∈ lw_all := lw_g (lw_at lw_m9 138 rfl) rfl
theorem q2166 : (Jvm.Cond.instanceMethod ({ cls := "BanquetVotes$Course", name := "decided", desc := "()I" } : Jvm.MethodName)) ∈ lw_all := lw_g (lw_at lw_m9 139 rfl) rfl
theorem q2167 : (Jvm.Cond.selects "BanquetVotes$Course" ({ cls := "BanquetVotes$Course", name := "decided", desc := "()I" } : Jvm.MethodName) ({ cls := "BanquetVotes$Course", name := "decided", desc := "()I" } : Jvm.MethodName)) ∈ lw_all := lw_g (lw_at lw_m9 140 rfl) rfl
theorem q2168 : (Jvm.Cond.code ({ cls := "BanquetVotes$Course", name := "decided", desc := "()I" } : Jvm.MethodName) prog_4_method_8_code (1 : Nat) (Option.some Jvm.ClassFile.FieldType.int)) ∈ lw_all := lw_g (lw_at lw_m9 141 rfl) rfl
theorem q2169 : (Jvm.Cond.methodLink "BanquetVotes" (218 : Nat) ({ cls := "BanquetVotes$Course", name := "votes", desc := "()I" } : Jvm.MethodName)) ∈ lw_all := lw_g (lw_at lw_m9 142 rfl) rfl
theorem q2170 : (Jvm.Cond.instanceMethod ({ cls := "BanquetVotes$Course", name := "votes", desc := "()I" } : Jvm.MethodName)) ∈ lw_all := lw_g (lw_at lw_m9 143 rfl) rfl
theorem q2171 : (Jvm.Cond.selects "BanquetVotes$Course" ({ cls := "BanquetVotes$Course", name := "votes", desc := "()I" } : Jvm.MethodName) ({ cls := "BanquetVotes$Course", name := "votes", desc := "()I" } : Jvm.MethodName)) ∈ lw_all := lw_g (lw_at lw_m9 144 rfl) rfl
theorem q2172 : (Jvm.Cond.code ({ cls := "BanquetVotes$Course", name := "votes", desc := "()I" } : Jvm.MethodName) prog_4_method_12_code (3 : Nat) (Option.some Jvm.ClassFile.FieldType.int)) ∈ lw_all := lw_g (lw_at lw_m9 145 rfl) rfl
theorem q2181 : (Jvm.Cond.methodLink "BanquetVotes" (221 : Nat) ({ cls := "BanquetVotes$Course", name := "of", desc := "(I)LBanquetVotes$Dish;" } : Jvm.MethodName)) ∈ lw_all := lw_g (lw_at lw_m9 154 rfl) rfl
theorem q2182 : (Jvm.Cond.methodLink "BanquetVotes" (225 : Nat) ({ cls := "BanquetVotes", name := "requireElement", desc := "(Z)V" } : Jvm.MethodName)) ∈ lw_all := lw_g (lw_at lw_m9 155 rfl) rfl
theorem q2183 : (Jvm.Cond.static ({ cls := "BanquetVotes", name := "requireElement", desc := "(Z)V" } : Jvm.MethodName)) ∈ lw_all := lw_g (lw_at lw_m9 156 rfl) rfl
theorem q2184 : (Jvm.Cond.code ({ cls := "BanquetVotes", name := "requireElement", desc := "(Z)V" } : Jvm.MethodName) prog_1_method_7_code (1 : Nat) (Option.none : Option Jvm.ClassFile.FieldType)) ∈ lw_all := lw_g (lw_at lw_m9 157 rfl) rfl
theorem q2185 : (Jvm.Cond.classLink "BanquetVotes" (55 : Nat) "java/util/NoSuchElementException") ∈ lw_all := lw_g (lw_at lw_m9 158 rfl) rfl
theorem q2186 : (Jvm.Cond.methodLink "BanquetVotes" (57 : Nat) ({ cls := "java/util/NoSuchElementException", name := "<init>", desc := "()V" } : Jvm.MethodName)) ∈ lw_all := lw_g (lw_at lw_m9 159 rfl) rfl
theorem q2187 : (Jvm.Cond.methodLink "BanquetVotes" (228 : Nat) ({ cls := "BanquetVotes$Dish", name := "ingredient", desc := "()I" } : Jvm.MethodName)) ∈ lw_all := lw_g (lw_at lw_m9 160 rfl) rfl
theorem q2188 : (Jvm.Cond.methodLink "BanquetVotes" (233 : Nat) ({ cls := "BanquetVotes$Dish", name := "amount", desc := "()I" } : Jvm.MethodName)) ∈ lw_all := lw_g (lw_at lw_m9 161 rfl) rfl
theorem q2189 : (Jvm.Cond.instanceMethod ({ cls := "BanquetVotes$Dish", name := "amount", desc := "()I" } : Jvm.MethodName)) ∈ lw_all := lw_g (lw_at lw_m9 162 rfl) rfl
theorem q2190 : (Jvm.Cond.selects "BanquetVotes$Dish" ({ cls := "BanquetVotes$Dish", name := "amount", desc := "()I" } : Jvm.MethodName) ({ cls := "BanquetVotes$Dish", name := "amount", desc := "()I" } : Jvm.MethodName)) ∈ lw_all := lw_g (lw_at lw_m9 163 rfl) rfl
theorem q2191 : (Jvm.Cond.code ({ cls := "BanquetVotes$Dish", name := "amount", desc := "()I" } : Jvm.MethodName) prog_5_method_4_code (1 : Nat) (Option.some Jvm.ClassFile.FieldType.int)) ∈ lw_all := lw_g (lw_at lw_m9 164 rfl) rfl
theorem q2192 : (Jvm.Cond.methodLink "BanquetVotes" (236 : Nat) ({ cls := "BanquetVotes$Dish", name := "number", desc := "()I" } : Jvm.MethodName)) ∈ lw_all := lw_g (lw_at lw_m9 165 rfl) rfl
theorem q2193 : (Jvm.Cond.instanceMethod ({ cls := "BanquetVotes$Dish", name := "number", desc := "()I" } : Jvm.MethodName)) ∈ lw_all := lw_g (lw_at lw_m9 166 rfl) rfl
theorem q2194 : (Jvm.Cond.selects "BanquetVotes$Dish" ({ cls := "BanquetVotes$Dish", name := "number", desc := "()I" } : Jvm.MethodName) ({ cls := "BanquetVotes$Dish", name := "number", desc := "()I" } : Jvm.MethodName)) ∈ lw_all := lw_g (lw_at lw_m9 167 rfl) rfl
theorem q2195 : (Jvm.Cond.code ({ cls := "BanquetVotes$Dish", name := "number", desc := "()I" } : Jvm.MethodName) prog_5_method_6_code (1 : Nat) (Option.some Jvm.ClassFile.FieldType.int)) ∈ lw_all := lw_g (lw_at lw_m9 168 rfl) rfl
theorem q2196 : (Jvm.Cond.methodLink "BanquetVotes$Dish" (33 : Nat) ({ cls := "BanquetVotes$How", name := "ordinal", desc := "()I" } : Jvm.MethodName)) ∈ lw_all := lw_g (lw_at lw_m9 169 rfl) rfl
theorem q2197 : (Jvm.Cond.sameMethod "BanquetVotes$How" "java/lang/Enum" "ordinal" "()I") ∈ lw_all := lw_g (lw_at lw_m9 170 rfl) rfl
theorem q2199 : (Jvm.Cond.selects "BanquetVotes$How$1" ({ cls := "BanquetVotes$How", name := "ordinal", desc := "()I" } : Jvm.MethodName) ({ cls := "java/lang/Enum", name := "ordinal", desc := "()I" } : Jvm.MethodName)) ∈ lw_all := lw_g (lw_at lw_m9 172 rfl) rfl
theorem q2200 : (Jvm.Cond.selects "BanquetVotes$How$2" ({ cls := "BanquetVotes$How", name := "ordinal", desc := "()I" } : Jvm.MethodName) ({ cls := "java/lang/Enum", name := "ordinal", desc := "()I" } : Jvm.MethodName)) ∈ lw_all := lw_g (lw_at lw_m9 173 rfl) rfl
theorem q2201 : (Jvm.Cond.selects "BanquetVotes$How$3" ({ cls := "BanquetVotes$How", name := "ordinal", desc := "()I" } : Jvm.MethodName) ({ cls := "java/lang/Enum", name := "ordinal", desc := "()I" } : Jvm.MethodName)) ∈ lw_all := lw_g (lw_at lw_m9 174 rfl) rfl
theorem q2202 : (Jvm.Cond.selects "BanquetVotes$How$4" ({ cls := "BanquetVotes$How", name := "ordinal", desc := "()I" } : Jvm.MethodName) ({ cls := "java/lang/Enum", name := "ordinal", desc := "()I" } : Jvm.MethodName)) ∈ lw_all := lw_g (lw_at lw_m9 175 rfl) rfl
theorem q2203 : (Jvm.Cond.selects "BanquetVotes$How$5" ({ cls := "BanquetVotes$How", name := "ordinal", desc := "()I" } : Jvm.MethodName) ({ cls := "java/lang/Enum", name := "ordinal", desc := "()I" } : Jvm.MethodName)) ∈ lw_all := lw_g (lw_at lw_m9 176 rfl) rfl
theorem q2204 : (Jvm.Cond.instanceMethod ({ cls := "java/lang/Enum", name := "ordinal", desc := "()I" } : Jvm.MethodName)) ∈ lw_all := lw_g (lw_at lw_m9 177 rfl) rfl
theorem q2205 : (Jvm.Cond.code ({ cls := "java/lang/Enum", name := "ordinal", desc := "()I" } : Jvm.MethodName) prog_35_method_2_code (1 : Nat) (Option.some Jvm.ClassFile.FieldType.int)) ∈ lw_all := lw_g (lw_at lw_m9 178 rfl) rfl
theorem q2206 : (Jvm.Cond.methodLink "BanquetVotes" (239 : Nat) ({ cls := "BanquetVotes$Dish", name := "since", desc := "()I" } : Jvm.MethodName)) ∈ lw_all := lw_g (lw_at lw_m9 179 rfl) rfl
theorem q2207 : (Jvm.Cond.instanceMethod ({ cls := "BanquetVotes$Dish", name := "since", desc := "()I" } : Jvm.MethodName)) ∈ lw_all := lw_g (lw_at lw_m9 180 rfl) rfl
theorem q2208 : (Jvm.Cond.selects "BanquetVotes$Dish" ({ cls := "BanquetVotes$Dish", name := "since", desc := "()I" } : Jvm.MethodName) ({ cls := "BanquetVotes$Dish", name := "since", desc := "()I" } : Jvm.MethodName)) ∈ lw_all := lw_g (lw_at lw_m9 181 rfl) rfl
theorem q2209 : (Jvm.Cond.code ({ cls := "BanquetVotes$Dish", name := "since", desc := "()I" } : Jvm.MethodName) prog_5_method_8_code (1 : Nat) (Option.some Jvm.ClassFile.FieldType.int)) ∈ lw_all := lw_g (lw_at lw_m9 182 rfl) rfl
theorem q2217 : (Jvm.Cond.methodLink "BanquetVotes" (242 : Nat) ({ cls := "BanquetVotes$Kitchen", name := "free", desc := "(II)I" } : Jvm.MethodName)) ∈ lw_all := lw_g (lw_at lw_m9 190 rfl) rfl
theorem q2218 : (Jvm.Cond.instanceMethod ({ cls := "BanquetVotes$Kitchen", name := "free", desc := "(II)I" } : Jvm.MethodName)) ∈ lw_all := lw_g (lw_at lw_m9 191 rfl) rfl
theorem q2219 : (Jvm.Cond.selects "BanquetVotes$Kitchen" ({ cls := "BanquetVotes$Kitchen", name := "free", desc := "(II)I" } : Jvm.MethodName) ({ cls := "BanquetVotes$Kitchen", name := "free", desc := "(II)I" } : Jvm.MethodName)) ∈ lw_all := lw_g (lw_at lw_m9 192 rfl) rfl
theorem q2220 : (Jvm.Cond.code ({ cls := "BanquetVotes$Kitchen", name := "free", desc := "(II)I" } : Jvm.MethodName) prog_14_method_16_code (3 : Nat) (Option.some Jvm.ClassFile.FieldType.int)) ∈ lw_all := lw_g (lw_at lw_m9 193 rfl) rfl
theorem q2221 : (Jvm.Cond.methodLink "BanquetVotes$Kitchen" (160 : Nat) ({ cls := "BanquetVotes$Kitchen", name := "reserved", desc := "(II)I" } : Jvm.MethodName)) ∈ lw_all := lw_g (lw_at lw_m9 194 rfl) rfl
theorem q2222 : (Jvm.Cond.instanceMethod ({ cls := "BanquetVotes$Kitchen", name := "reserved", desc := "(II)I" } : Jvm.MethodName)) ∈ lw_all := lw_g (lw_at lw_m9 195 rfl) rfl
theorem q2223 : (Jvm.Cond.selects "BanquetVotes$Kitchen" ({ cls := "BanquetVotes$Kitchen", name := "reserved", desc := "(II)I" } : Jvm.MethodName) ({ cls := "BanquetVotes$Kitchen", name := "reserved", desc := "(II)I" } : Jvm.MethodName)) ∈ lw_all := lw_g (lw_at lw_m9 196 rfl) rfl
theorem q2224 : (Jvm.Cond.code ({ cls := "BanquetVotes$Kitchen", name := "reserved", desc := "(II)I" } : Jvm.MethodName) prog_14_method_15_code (7 : Nat) (Option.some Jvm.ClassFile.FieldType.int)) ∈ lw_all := lw_g (lw_at lw_m9 197 rfl) rfl
theorem q2225 : (Jvm.Cond.methodLink "BanquetVotes$Kitchen" (154 : Nat) ({ cls := "BanquetVotes$Dish", name := "isReady", desc := "()Z" } : Jvm.MethodName)) ∈ lw_all := lw_g (lw_at lw_m9 198 rfl) rfl
theorem q2226 : (Jvm.Cond.instanceMethod ({ cls := "BanquetVotes$Dish", name := "isReady", desc := "()Z" } : Jvm.MethodName)) ∈ lw_all := lw_g (lw_at lw_m9 199 rfl) rfl
theorem q2227 : (Jvm.Cond.selects "BanquetVotes$Dish" ({ cls := "BanquetVotes$Dish", name := "isReady", desc := "()Z" } : Jvm.MethodName) ({ cls := "BanquetVotes$Dish", name := "isReady", desc := "()Z" } : Jvm.MethodName)) ∈ lw_all := lw_g (lw_at lw_m9 200 rfl) rfl
theorem q2228 : (Jvm.Cond.code ({ cls := "BanquetVotes$Dish", name := "isReady", desc := "()Z" } : Jvm.MethodName) prog_5_method_7_code (1 : Nat) (Option.some Jvm.ClassFile.FieldType.boolean)) ∈ lw_all := lw_g (lw_at lw_m9 201 rfl) rfl
theorem q2229 : (Jvm.Cond.fieldLink "BanquetVotes$Dish" (37 : Nat) "BanquetVotes$How" "READY" "LBanquetVotes$How;") ∈ lw_all := lw_g (lw_at lw_m9 202 rfl) rfl
theorem q2230 : (Jvm.Cond.methodLink "BanquetVotes$Kitchen" (157 : Nat) ({ cls := "BanquetVotes$Dish", name := "amount", desc := "()I" } : Jvm.MethodName)) ∈ lw_all := lw_g (lw_at lw_m9 203 rfl) rfl
theorem q2231 : (Jvm.Cond.methodLink "BanquetVotes" (246 : Nat) ({ cls := "BanquetVotes$Cook", name := "stock", desc := "(I)I" } : Jvm.MethodName)) ∈ lw_all := lw_g (lw_at lw_m9 204 rfl) rfl
theorem q2239 : (Jvm.Cond.methodLink "BanquetVotes" (249 : Nat) ({ cls := "BanquetVotes$Kitchen", name := "freeAgain", desc := "(II)I" } : Jvm.MethodName)) ∈ lw_all := lw_g (lw_at lw_m9 212 rfl) rfl
theorem q2240 : (Jvm.Cond.instanceMethod ({ cls := "BanquetVotes$Kitchen", name := "freeAgain", desc := "(II)I" } : Jvm.MethodName)) ∈ lw_all := lw_g (lw_at lw_m9 213 rfl) rfl
theorem q2241 : (Jvm.Cond.selects "BanquetVotes$Kitchen" ({ cls := "BanquetVotes$Kitchen", name := "freeAgain", desc := "(II)I" } : Jvm.MethodName) ({ cls := "BanquetVotes$Kitchen", name := "freeAgain", desc := "(II)I" } : Jvm.MethodName)) ∈ lw_all := lw_g (lw_at lw_m9 214 rfl) rfl
theorem q2242 : (Jvm.Cond.code ({ cls := "BanquetVotes$Kitchen", name := "freeAgain", desc := "(II)I" } : Jvm.MethodName) prog_14_method_17_code (3 : Nat) (Option.some Jvm.ClassFile.FieldType.int)) ∈ lw_all := lw_g (lw_at lw_m9 215 rfl) rfl
theorem q2243 : (Jvm.Cond.methodLink "BanquetVotes$Kitchen" (164 : Nat) ({ cls := "BanquetVotes$Cook", name := "left", desc := "(I)I" } : Jvm.MethodName)) ∈ lw_all := lw_g (lw_at lw_m9 216 rfl) rfl
theorem q2244 : (Jvm.Cond.instanceMethod ({ cls := "BanquetVotes$Cook", name := "left", desc := "(I)I" } : Jvm.MethodName)) ∈ lw_all := lw_g (lw_at lw_m9 217 rfl) rfl
theorem q2245 : (Jvm.Cond.selects "BanquetVotes$Cook" ({ cls := "BanquetVotes$Cook", name := "left", desc := "(I)I" } : Jvm.MethodName) ({ cls := "BanquetVotes$Cook", name := "left", desc := "(I)I" } : Jvm.MethodName)) ∈ lw_all := lw_g (lw_at lw_m9 218 rfl) rfl
theorem q2246 : (Jvm.Cond.code ({ cls := "BanquetVotes$Cook", name := "left", desc := "(I)I" } : Jvm.MethodName) prog_3_method_5_code (2 : Nat) (Option.some Jvm.ClassFile.FieldType.int)) ∈ lw_all := lw_g (lw_at lw_m9 219 rfl) rfl
theorem q2264 : (Jvm.Cond.methodLink "BanquetVotes$Command" (3 : Nat) ({ cls := "java/lang/Object", name := "<init>", desc := "()V" } : Jvm.MethodName)) ∈ lw_all := lw_g (lw_at lw_m9 237 rfl) rfl
theorem q2265 : (Jvm.Cond.fieldLink "BanquetVotes$Command" (9 : Nat) "BanquetVotes$Command" "word" "Ljava/lang/String;") ∈ lw_all := lw_g (lw_at lw_m9 238 rfl) rfl
theorem q2266 : (Jvm.Cond.fieldLink "BanquetVotes$Command" (15 : Nat) "BanquetVotes$Command" "one" "I") ∈ lw_all := lw_g (lw_at lw_m9 239 rfl) rfl
theorem q2267 : (Jvm.Cond.fieldLink "BanquetVotes$Command" (19 : Nat) "BanquetVotes$Command" "two" "I") ∈ lw_all := lw_g (lw_at lw_m10 0 rfl) rfl
theorem q2268 : (Jvm.Cond.fieldLink "BanquetVotes$Command" (22 : Nat) "BanquetVotes$Command" "three" "I") ∈ lw_all := lw_g (lw_at lw_m10 1 rfl) rfl
theorem q2359 : (Jvm.Cond.methodLink "BanquetVotes$Kitchen" (170 : Nat) ({ cls := "BanquetVotes$Host", name := "hasFainted", desc := "()Z" } : Jvm.MethodName)) ∈ lw_all := lw_g (lw_at lw_m10 92 rfl) rfl
theorem q2360 : (Jvm.Cond.sameMethod "BanquetVotes$Host" "BanquetVotes$Somebody" "hasFainted" "()Z") ∈ lw_all := lw_g (lw_at lw_m10 93 rfl) rfl
theorem q2361 : (Jvm.Cond.selects "BanquetVotes$Host" ({ cls := "BanquetVotes$Host", name := "hasFainted", desc := "()Z" } : Jvm.MethodName) ({ cls := "BanquetVotes$Somebody", name := "hasFainted", desc := "()Z" } : Jvm.MethodName)) ∈ lw_all := lw_g (lw_at lw_m10 94 rfl) rfl
theorem q2362 : (Jvm.Cond.methodLink "BanquetVotes$Kitchen" (173 : Nat) ({ cls := "java/util/TreeMap", name := "isEmpty", desc := "()Z" } : Jvm.MethodName)) ∈ lw_all := lw_g (lw_at lw_m10 95 rfl) rfl
theorem q2363 : (Jvm.Cond.sameMethod "java/util/TreeMap" "java/util/AbstractMap" "isEmpty" "()Z") ∈ lw_all := lw_g (lw_at lw_m10 96 rfl) rfl
theorem q2365 : (Jvm.Cond.selects "java/util/TreeMap" ({ cls := "java/util/TreeMap", name := "isEmpty", desc := "()Z" } : Jvm.MethodName) ({ cls := "java/util/AbstractMap", name := "isEmpty", desc := "()Z" } : Jvm.MethodName)) ∈ lw_all := lw_g (lw_at lw_m10 98 rfl) rfl
theorem q2366 : (Jvm.Cond.instanceMethod ({ cls := "java/util/AbstractMap", name := "isEmpty", desc := "()Z" } : Jvm.MethodName)) ∈ lw_all := lw_g (lw_at lw_m10 99 rfl) rfl
theorem q2367 : (Jvm.Cond.code ({ cls := "java/util/AbstractMap", name := "isEmpty", desc := "()Z" } : Jvm.MethodName) prog_63_method_3_code (1 : Nat) (Option.some Jvm.ClassFile.FieldType.boolean)) ∈ lw_all := lw_g (lw_at lw_m10 100 rfl) rfl
theorem q2373 : (Jvm.Cond.methodLink "BanquetVotes$Kitchen" (176 : Nat) ({ cls := "BanquetVotes$Course", name := "isAskedIn", desc := "(I)V" } : Jvm.MethodName)) ∈ lw_all := lw_g (lw_at lw_m10 106 rfl) rfl
theorem q2374 : (Jvm.Cond.instanceMethod ({ cls := "BanquetVotes$Course", name := "isAskedIn", desc := "(I)V" } : Jvm.MethodName)) ∈ lw_all := lw_g (lw_at lw_m10 107 rfl) rfl
theorem q2375 : (Jvm.Cond.selects "BanquetVotes$Course" ({ cls := "BanquetVotes$Course", name := "isAskedIn", desc := "(I)V" } : Jvm.MethodName) ({ cls := "BanquetVotes$Course", name := "isAskedIn", desc := "(I)V" } : Jvm.MethodName)) ∈ lw_all := lw_g (lw_at lw_m10 108 rfl) rfl
theorem q2376 : (Jvm.Cond.code ({ cls := "BanquetVotes$Course", name := "isAskedIn", desc := "(I)V" } : Jvm.MethodName) prog_4_method_9_code (2 : Nat) (Option.none : Option Jvm.ClassFile.FieldType)) ∈ lw_all := lw_g (lw_at lw_m10 109 rfl) rfl
theorem q2377 : (Jvm.Cond.methodLink "BanquetVotes$Kitchen" (179 : Nat) ({ cls := "BanquetVotes$Host", name := "writes", desc := "(III)V" } : Jvm.MethodName)) ∈ lw_all := lw_g (lw_at lw_m10 110 rfl) rfl
theorem q2378 : (Jvm.Cond.sameMethod "BanquetVotes$Host" "BanquetVotes$Somebody" "writes" "(III)V") ∈ lw_all := lw_g (lw_at lw_m10 111 rfl) rfl
theorem q2380 : (Jvm.Cond.selects "BanquetVotes$Host" ({ cls := "BanquetVotes$Host", name := "writes", desc := "(III)V" } : Jvm.MethodName) ({ cls := "BanquetVotes$Somebody", name := "writes", desc := "(III)V" } : Jvm.MethodName)) ∈ lw_all := lw_g (lw_at lw_m10 113 rfl) rfl
theorem q2381 : (Jvm.Cond.instanceMethod ({ cls := "BanquetVotes$Somebody", name := "writes", desc := "(III)V" } : Jvm.MethodName)) ∈ lw_all := lw_g (lw_at lw_m10 114 rfl) rfl
theorem q2382 : (Jvm.Cond.code ({ cls := "BanquetVotes$Somebody", name := "writes", desc := "(III)V" } : Jvm.MethodName) prog_20_method_5_code (4 : Nat) (Option.none : Option Jvm.ClassFile.FieldType)) ∈ lw_all := lw_g (lw_at lw_m10 115 rfl) rfl
theorem q2383 : (Jvm.Cond.classLink "BanquetVotes$Somebody" (20 : Nat) "BanquetVotes$Line") ∈ lw_all := lw_g (lw_at lw_m10 116 rfl) rfl
theorem q2385 : (Jvm.Cond.methodLink "BanquetVotes$Somebody" (22 : Nat) ({ cls := "BanquetVotes$Line", name := "<init>", desc := "(III)V" } : Jvm.MethodName)) ∈ lw_all := lw_g (lw_at lw_m10 118 rfl) rfl
theorem q2386 : (Jvm.Cond.instanceMethod ({ cls := "BanquetVotes$Line", name := "<init>", desc := "(III)V" } : Jvm.MethodName)) ∈ lw_all := lw_g (lw_at lw_m10 119 rfl) rfl
theorem q2387 : (Jvm.Cond.code ({ cls := "BanquetVotes$Line", name := "<init>", desc := "(III)V" } : Jvm.MethodName) prog_15_method_1_code (4 : Nat) (Option.none : Option Jvm.ClassFile.FieldType)) ∈ lw_all := lw_g (lw_at lw_m10 120 rfl) rfl
theorem q2388 : (Jvm.Cond.methodLink "BanquetVotes$Line" (1 : Nat) ({ cls := "java/lang/Object", name := "<init>", desc := "()V" } : Jvm.MethodName)) ∈ lw_all := lw_g (lw_at lw_m10 121 rfl) rfl
theorem q2389 : (Jvm.Cond.fieldLink "BanquetVotes$Line" (7 : Nat) "BanquetVotes$Line" "what" "I") ∈ lw_all := lw_g (lw_at lw_m10 122 rfl) rfl
theorem q2390 : (Jvm.Cond.fieldLink "BanquetVotes$Line" (13 : Nat) "BanquetVotes$Line" "course" "I") ∈ lw_all := lw_g (lw_at lw_m10 123 rfl) rfl
theorem q2391 : (Jvm.Cond.fieldLink "BanquetVotes$Line" (16 : Nat) "BanquetVotes$Line" "minute" "I") ∈ lw_all := lw_g (lw_at lw_m10 124 rfl) rfl
theorem q2400 : (Jvm.Cond.methodLink "BanquetVotes$Somebody" (25 : Nat) ({ cls := "java/util/List", name := "add", desc := "(Ljava/lang/Object;)Z" } : Jvm.MethodName)) ∈ lw_all := lw_g (lw_at lw_m10 133 rfl) rfl
theorem q2401 : (Jvm.Cond.methodLink "BanquetVotes$Kitchen" (183 : Nat) ({ cls := "java/util/TreeMap", name := "keySet", desc := "()Ljava/util/Set;" } : Jvm.MethodName)) ∈ lw_all := lw_g (lw_at lw_m10 134 rfl) rfl
theorem q2403 : (Jvm.Cond.methodLink "BanquetVotes$Kitchen" (187 : Nat) ({ cls := "java/util/Set", name := "iterator", desc := "()Ljava/util/Iterator;" } : Jvm.MethodName)) ∈ lw_all := lw_g (lw_at lw_m10 136 rfl) rfl
theorem q2404 : (Jvm.Cond.classLink "BanquetVotes$Kitchen" (140 : Nat) "java/lang/Integer") ∈ lw_all := lw_g (lw_at lw_m10 137 rfl) rfl
theorem q2405 : (Jvm.Cond.methodLink "BanquetVotes$Kitchen" (190 : Nat) ({ cls := "java/lang/Integer", name := "intValue", desc := "()I" } : Jvm.MethodName)) ∈ lw_all := lw_g (lw_at lw_m10 138 rfl) rfl
theorem q2406 : (Jvm.Cond.classLink "BanquetVotes$Kitchen" (193 : Nat) "BanquetVotes$Invitation") ∈ lw_all := lw_g (lw_at lw_m10 139 rfl) rfl
theorem q2408 : (Jvm.Cond.methodLink "BanquetVotes$Kitchen" (195 : Nat) ({ cls := "BanquetVotes$Kitchen", name := "arrival", desc := "(I)I" } : Jvm.MethodName)) ∈ lw_all := lw_g (lw_at lw_m10 141 rfl) rfl
theorem q2410 : (Jvm.Cond.instanceMethod ({ cls := "BanquetVotes$Kitchen", name := "arrival", desc := "(I)I" } : Jvm.MethodName)) ∈ lw_all := lw_g (lw_at lw_m10 143 rfl) rfl
theorem q2411 : (Jvm.Cond.code ({ cls := "BanquetVotes$Kitchen", name := "arrival", desc := "(I)I" } : Jvm.MethodName) prog_14_method_18_code (2 : Nat) (Option.some Jvm.ClassFile.FieldType.int)) ∈ lw_all := lw_g (lw_at lw_m10 144 rfl) rfl
theorem q2412 : (Jvm.Cond.methodLink "BanquetVotes$Kitchen" (167 : Nat) ({ cls := "BanquetVotes$Cook", name := "distance", desc := "()I" } : Jvm.MethodName)) ∈ lw_all := lw_g (lw_at lw_m10 145 rfl) rfl
theorem q2413 : (Jvm.Cond.methodLinkNest "BanquetVotes$Kitchen" (198 : Nat) ({ cls := "BanquetVotes$Invitation", name := "<init>", desc := "(III)V" } : Jvm.MethodName) "BanquetVotes") ∈ lw_tbl := lw_at lw_m10 146 rfl
theorem mv2413 : (Jvm.Cond.methodLinkNest "BanquetVotes$Kitchen" (198 : Nat) ({ cls := "BanquetVotes$Invitation", name := "<init>", desc := "(III)V" } : Jvm.MethodName) "BanquetVotes") ∈ lw_mv := List.mem_filter.mpr ⟨q2413, rfl⟩
theorem q2414 : (Jvm.Cond.instanceMethod ({ cls := "BanquetVotes$Invitation", name := "<init>", desc := "(III)V" } : Jvm.MethodName)) ∈ lw_all := lw_g (lw_at lw_m10 147 rfl) rfl
theorem q2415 : (Jvm.Cond.code ({ cls := "BanquetVotes$Invitation", name := "<init>", desc := "(III)V" } : Jvm.MethodName) prog_13_method_1_code (4 : Nat) (Option.none : Option Jvm.ClassFile.FieldType)) ∈ lw_all := lw_g (lw_at lw_m10 148 rfl) rfl
theorem q2416 : (Jvm.Cond.methodLink "BanquetVotes$Invitation" (1 : Nat) ({ cls := "java/lang/Record", name := "<init>", desc := "()V" } : Jvm.MethodName)) ∈ lw_all := lw_g (lw_at lw_m10 149 rfl) rfl
theorem q2417 : (Jvm.Cond.instanceMethod ({ cls := "java/lang/Record", name := "<init>", desc := "()V" } : Jvm.MethodName)) ∈ lw_all := lw_g (lw_at lw_m10 150 rfl) rfl
theorem q2418 : (Jvm.Cond.code ({ cls := "java/lang/Record", name := "<init>", desc := "()V" } : Jvm.MethodName) prog_46_method_1_code (1 : Nat) (Option.none : Option Jvm.ClassFile.FieldType)) ∈ lw_all := lw_g (lw_at lw_m10 151 rfl) rfl
theorem q2420 : (Jvm.Cond.fieldLink "BanquetVotes$Invitation" (7 : Nat) "BanquetVotes$Invitation" "cook" "I") ∈ lw_all := lw_g (lw_at lw_m10 153 rfl) rfl
theorem q2421 : (Jvm.Cond.fieldLink "BanquetVotes$Invitation" (13 : Nat) "BanquetVotes$Invitation" "course" "I") ∈ lw_all := lw_g (lw_at lw_m10 154 rfl) rfl
theorem q2422 : (Jvm.Cond.fieldLink "BanquetVotes$Invitation" (16 : Nat) "BanquetVotes$Invitation" "arrives" "I") ∈ lw_all := lw_g (lw_at lw_m10 155 rfl) rfl
theorem q2430 : (Jvm.Cond.methodLink "BanquetVotes$Kitchen" (200 : Nat) ({ cls := "java/util/LinkedList", name := "add", desc := "(Ljava/lang/Object;)Z" } : Jvm.MethodName)) ∈ lw_all := lw_g (lw_at lw_m10 163 rfl) rfl
theorem q2435 : (Jvm.Cond.methodLink "BanquetVotes$Kitchen" (209 : Nat) ({ cls := "BanquetVotes$Course", name := "isDecided", desc := "()Z" } : Jvm.MethodName)) ∈ lw_all := lw_g (lw_at lw_m10 168 rfl) rfl
theorem q2436 : (Jvm.Cond.instanceMethod ({ cls := "BanquetVotes$Course", name := "isDecided", desc := "()Z" } : Jvm.MethodName)) ∈ lw_all := lw_g (lw_at lw_m10 169 rfl) rfl
theorem q2437 : (Jvm.Cond.selects "BanquetVotes$Course" ({ cls := "BanquetVotes$Course", name := "isDecided", desc := "()Z" } : Jvm.MethodName) ({ cls := "BanquetVotes$Course", name := "isDecided", desc := "()Z" } : Jvm.MethodName)) ∈ lw_all := lw_g (lw_at lw_m10 170 rfl) rfl
theorem q2438 : (Jvm.Cond.code ({ cls := "BanquetVotes$Course", name := "isDecided", desc := "()Z" } : Jvm.MethodName) prog_4_method_6_code (1 : Nat) (Option.some Jvm.ClassFile.FieldType.boolean)) ∈ lw_all := lw_g (lw_at lw_m10 171 rfl) rfl
theorem q2439 : (Jvm.Cond.methodLink "BanquetVotes$Kitchen" (212 : Nat) ({ cls := "BanquetVotes$Kitchen", name := "settles", desc := "(II)V" } : Jvm.MethodName)) ∈ lw_all := lw_g (lw_at lw_m10 172 rfl) rfl
theorem q2441 : (Jvm.Cond.instanceMethod ({ cls := "BanquetVotes$Kitchen", name := "settles", desc := "(II)V" } : Jvm.MethodName)) ∈ lw_all := lw_g (lw_at lw_m10 174 rfl) rfl
theorem q2442 : (Jvm.Cond.code ({ cls := "BanquetVotes$Kitchen", name := "settles", desc := "(II)V" } : Jvm.MethodName) prog_14_method_21_code (3 : Nat) (Option.none : Option Jvm.ClassFile.FieldType)) ∈ lw_all := lw_g (lw_at lw_m10 175 rfl) rfl
theorem q2443 : (Jvm.Cond.methodLink "BanquetVotes$Kitchen" (206 : Nat) ({ cls := "BanquetVotes$Course", name := "isDecidedAs", desc := "(II)V" } : Jvm.MethodName)) ∈ lw_all := lw_g (lw_at lw_m10 176 rfl) rfl
theorem q2444 : (Jvm.Cond.instanceMethod ({ cls := "BanquetVotes$Course", name := "isDecidedAs", desc := "(II)V" } : Jvm.MethodName)) ∈ lw_all := lw_g (lw_at lw_m10 177 rfl) rfl
theorem q2445 : (Jvm.Cond.selects "BanquetVotes$Course" ({ cls := "BanquetVotes$Course", name := "isDecidedAs", desc := "(II)V" } : Jvm.MethodName) ({ cls := "BanquetVotes$Course", name := "isDecidedAs", desc := "(II)V" } : Jvm.MethodName)) ∈ lw_all := lw_g (lw_at lw_m10 178 rfl) rfl
theorem q2446 : (Jvm.Cond.code ({ cls := "BanquetVotes$Course", name := "isDecidedAs", desc := "(II)V" } : Jvm.MethodName) prog_4_method_10_code (3 : Nat) (Option.none : Option Jvm.ClassFile.FieldType)) ∈ lw_all := lw_g (lw_at lw_m10 179 rfl) rfl
theorem q2447 : (Jvm.Cond.methodLink "BanquetVotes$Kitchen" (215 : Nat) ({ cls := "BanquetVotes$Kitchen", name := "sendsAll", desc := "(I)I" } : Jvm.MethodName)) ∈ lw_all := lw_g (lw_at lw_m10 180 rfl) rfl
theorem q2449 : (Jvm.Cond.instanceMethod ({ cls := "BanquetVotes$Kitchen", name := "sendsAll", desc := "(I)I" } : Jvm.MethodName)) ∈ lw_all := lw_g (lw_at lw_m10 182 rfl) rfl
theorem q2450 : (Jvm.Cond.code ({ cls := "BanquetVotes$Kitchen", name := "sendsAll", desc := "(I)I" } : Jvm.MethodName) prog_14_method_20_code (5 : Nat) (Option.some Jvm.ClassFile.FieldType.int)) ∈ lw_all := lw_g (lw_at lw_m10 183 rfl) rfl
theorem q2451 : (Jvm.Cond.classLink "BanquetVotes$Kitchen" (201 : Nat) "BanquetVotes$Verdict") ∈ lw_all := lw_g (lw_at lw_m10 184 rfl) rfl
theorem q2453 : (Jvm.Cond.methodLinkNest "BanquetVotes$Kitchen" (203 : Nat) ({ cls := "BanquetVotes$Verdict", name := "<init>", desc := "(IIIZ)V" } : Jvm.MethodName) "BanquetVotes") ∈ lw_tbl := lw_at lw_m10 186 rfl
theorem mv2453 : (Jvm.Cond.methodLinkNest "BanquetVotes$Kitchen" (203 : Nat) ({ cls := "BanquetVotes$Verdict", name := "<init>", desc := "(IIIZ)V" } : Jvm.MethodName) "BanquetVotes") ∈ lw_mv := List.mem_filter.mpr ⟨q2453, rfl⟩
theorem q2454 : (Jvm.Cond.instanceMethod ({ cls := "BanquetVotes$Verdict", name := "<init>", desc := "(IIIZ)V" } : Jvm.MethodName)) ∈ lw_all := lw_g (lw_at lw_m10 187 rfl) rfl
theorem q2455 : (Jvm.Cond.code ({ cls := "BanquetVotes$Verdict", name := "<init>", desc := "(IIIZ)V" } : Jvm.MethodName) prog_22_method_1_code (5 : Nat) (Option.none : Option Jvm.ClassFile.FieldType)) ∈ lw_all := lw_g (lw_at lw_m10 188 rfl) rfl
theorem q2456 : (Jvm.Cond.methodLink "BanquetVotes$Verdict" (1 : Nat) ({ cls := "java/lang/Record", name := "<init>", desc := "()V" } : Jvm.MethodName)) ∈ lw_all := lw_g (lw_at lw_m10 189 rfl) rfl
theorem q2457 : (Jvm.Cond.fieldLink "BanquetVotes$Verdict" (7 : Nat) "BanquetVotes$Verdict" "cook" "I") ∈ lw_all := lw_g (lw_at lw_m10 190 rfl) rfl
theorem q2458 : (Jvm.Cond.fieldLink "BanquetVotes$Verdict" (13 : Nat) "BanquetVotes$Verdict" "course" "I") ∈ lw_all := lw_g (lw_at lw_m10 191 rfl) rfl
theorem q2459 : (Jvm.Cond.fieldLink "BanquetVotes$Verdict" (16 : Nat) "BanquetVotes$Verdict" "arrives" "I") ∈ lw_all := lw_g (lw_at lw_m10 192 rfl) rfl
theorem q2460 : (Jvm.Cond.fieldLink "BanquetVotes$Verdict" (19 : Nat) "BanquetVotes$Verdict" "isServing" "Z") ∈ lw_all := lw_g (lw_at lw_m10 193 rfl) rfl
theorem q2474 : (Jvm.Cond.methodLink "BanquetVotes$Kitchen" (219 : Nat) ({ cls := "BanquetVotes$Kitchen", name := "who", desc := "(I)LBanquetVotes$Somebody;" } : Jvm.MethodName)) ∈ lw_all := lw_g (lw_at lw_m10 207 rfl) rfl
theorem q2475 : (Jvm.Cond.instanceMethod ({ cls := "BanquetVotes$Kitchen", name := "who", desc := "(I)LBanquetVotes$Somebody;" } : Jvm.MethodName)) ∈ lw_all := lw_g (lw_at lw_m10 208 rfl) rfl
theorem q2476 : (Jvm.Cond.selects "BanquetVotes$Kitchen" ({ cls := "BanquetVotes$Kitchen", name := "who", desc := "(I)LBanquetVotes$Somebody;" } : Jvm.MethodName) ({ cls := "BanquetVotes$Kitchen", name := "who", desc := "(I)LBanquetVotes$Somebody;" } : Jvm.MethodName)) ∈ lw_all := lw_g (lw_at lw_m10 209 rfl) rfl
theorem q2477 : (Jvm.Cond.code ({ cls := "BanquetVotes$Kitchen", name := "who", desc := "(I)LBanquetVotes$Somebody;" } : Jvm.MethodName) prog_14_method_7_code (2 : Nat) (Option.some (Jvm.ClassFile.FieldType.object "BanquetVotes$Somebody"))) ∈ lw_all := lw_g (lw_at lw_m10 210 rfl) rfl
theorem q2478 : (Jvm.Cond.methodLink "BanquetVotes$Kitchen" (223 : Nat) ({ cls := "BanquetVotes$Somebody", name := "hasFainted", desc := "()Z" } : Jvm.MethodName)) ∈ lw_all := lw_g (lw_at lw_m10 211 rfl) rfl
theorem q2479 : (Jvm.Cond.methodLink "BanquetVotes$Kitchen" (226 : Nat) ({ cls := "BanquetVotes$Somebody", name := "faints", desc := "(Z)V" } : Jvm.MethodName)) ∈ lw_all := lw_g (lw_at lw_m10 212 rfl) rfl
theorem q2480 : (Jvm.Cond.instanceMethod ({ cls := "BanquetVotes$Somebody", name := "faints", desc := "(Z)V" } : Jvm.MethodName)) ∈ lw_all := lw_g (lw_at lw_m10 213 rfl) rfl
theorem q2481 : (Jvm.Cond.sameMethod "BanquetVotes$Somebody" "BanquetVotes$Somebody" "faints" "(Z)V") ∈ lw_all := lw_g (lw_at lw_m10 214 rfl) rfl
theorem q2482 : (Jvm.Cond.selects "BanquetVotes$Cook" ({ cls := "BanquetVotes$Somebody", name := "faints", desc := "(Z)V" } : Jvm.MethodName) ({ cls := "BanquetVotes$Somebody", name := "faints", desc := "(Z)V" } : Jvm.MethodName)) ∈ lw_all := lw_g (lw_at lw_m10 215 rfl) rfl
theorem q2483 : (Jvm.Cond.selects "BanquetVotes$Host" ({ cls := "BanquetVotes$Somebody", name := "faints", desc := "(Z)V" } : Jvm.MethodName) ({ cls := "BanquetVotes$Somebody", name := "faints", desc := "(Z)V" } : Jvm.MethodName)) ∈ lw_all := lw_g (lw_at lw_m10 216 rfl) rfl
theorem q2484 : (Jvm.Cond.code ({ cls := "BanquetVotes$Somebody", name := "faints", desc := "(Z)V" } : Jvm.MethodName) prog_20_method_3_code (2 : Nat) (Option.none : Option Jvm.ClassFile.FieldType)) ∈ lw_all := lw_g (lw_at lw_m10 217 rfl) rfl
theorem q2485 : (Jvm.Cond.methodLink "BanquetVotes$Kitchen" (230 : Nat) ({ cls := "BanquetVotes$Kitchen", name := "fainted", desc := "()I" } : Jvm.MethodName)) ∈ lw_all := lw_g (lw_at lw_m10 218 rfl) rfl
theorem q2486 : (Jvm.Cond.instanceMethod ({ cls := "BanquetVotes$Kitchen", name := "fainted", desc := "()I" } : Jvm.MethodName)) ∈ lw_all := lw_g (lw_at lw_m10 219 rfl) rfl
theorem q2487 : (Jvm.Cond.selects "BanquetVotes$Kitchen" ({ cls := "BanquetVotes$Kitchen", name := "fainted", desc := "()I" } : Jvm.MethodName) ({ cls := "BanquetVotes$Kitchen", name := "fainted", desc := "()I" } : Jvm.MethodName)) ∈ lw_all := lw_g (lw_at lw_m10 220 rfl) rfl
theorem q2488 : (Jvm.Cond.code ({ cls := "BanquetVotes$Kitchen", name := "fainted", desc := "()I" } : Jvm.MethodName) prog_14_method_23_code (4 : Nat) (Option.some Jvm.ClassFile.FieldType.int)) ∈ lw_all := lw_g (lw_at lw_m10 221 rfl) rfl
theorem q2489 : (Jvm.Cond.methodLink "BanquetVotes$Kitchen" (218 : Nat) ({ cls := "BanquetVotes$Cook", name := "hasFainted", desc := "()Z" } : Jvm.MethodName)) ∈ lw_all := lw_g (lw_at lw_m10 222 rfl) rfl
theorem q2494 : (Jvm.Cond.methodLink "BanquetVotes$Kitchen" (239 : Nat) ({ cls := "BanquetVotes$Kitchen", name := "hostWakes", desc := "()I" } : Jvm.MethodName)) ∈ lw_all := lw_g (lw_at lw_m10 227 rfl) rfl
theorem q2496 : (Jvm.Cond.instanceMethod ({ cls := "BanquetVotes$Kitchen", name := "hostWakes", desc := "()I" } : Jvm.MethodName)) ∈ lw_all := lw_g (lw_at lw_m10 229 rfl) rfl
theorem q2497 : (Jvm.Cond.code ({ cls := "BanquetVotes$Kitchen", name := "hostWakes", desc := "()I" } : Jvm.MethodName) prog_14_method_25_code (3 : Nat) (Option.some Jvm.ClassFile.FieldType.int)) ∈ lw_all := lw_g (lw_at lw_m10 230 rfl) rfl
theorem q2498 : (Jvm.Cond.methodLink "BanquetVotes$Kitchen" (242 : Nat) ({ cls := "BanquetVotes$Kitchen", name := "cookWakes", desc := "(I)I" } : Jvm.MethodName)) ∈ lw_all := lw_g (lw_at lw_m10 231 rfl) rfl
theorem q2500 : (Jvm.Cond.instanceMethod ({ cls := "BanquetVotes$Kitchen", name := "cookWakes", desc := "(I)I" } : Jvm.MethodName)) ∈ lw_all := lw_g (lw_at lw_m10 233 rfl) rfl
theorem q2501 : (Jvm.Cond.code ({ cls := "BanquetVotes$Kitchen", name := "cookWakes", desc := "(I)I" } : Jvm.MethodName) prog_14_method_27_code (5 : Nat) (Option.some Jvm.ClassFile.FieldType.int)) ∈ lw_all := lw_g (lw_at lw_m10 234 rfl) rfl
theorem q2502 : (Jvm.Cond.methodLink "BanquetVotes$Kitchen" (236 : Nat) ({ cls := "BanquetVotes$Kitchen", name := "asksHost", desc := "(II)V" } : Jvm.MethodName)) ∈ lw_all := lw_g (lw_at lw_m10 235 rfl) rfl
theorem q2504 : (Jvm.Cond.instanceMethod ({ cls := "BanquetVotes$Kitchen", name := "asksHost", desc := "(II)V" } : Jvm.MethodName)) ∈ lw_all := lw_g (lw_at lw_m10 237 rfl) rfl
theorem q2505 : (Jvm.Cond.code ({ cls := "BanquetVotes$Kitchen", name := "asksHost", desc := "(II)V" } : Jvm.MethodName) prog_14_method_26_code (3 : Nat) (Option.none : Option Jvm.ClassFile.FieldType)) ∈ lw_all := lw_g (lw_at lw_m10 238 rfl) rfl
theorem q2506 : (Jvm.Cond.classLink "BanquetVotes$Kitchen" (233 : Nat) "BanquetVotes$Question") ∈ lw_all := lw_g (lw_at lw_m10 239 rfl) rfl
theorem q2508 : (Jvm.Cond.methodLinkNest "BanquetVotes$Kitchen" (235 : Nat) ({ cls := "BanquetVotes$Question", name := "<init>", desc := "(III)V" } : Jvm.MethodName) "BanquetVotes") ∈ lw_tbl := lw_at lw_m11 1 rfl
theorem mv2508 : (Jvm.Cond.methodLinkNest "BanquetVotes$Kitchen" (235 : Nat) ({ cls := "BanquetVotes$Question", name := "<init>", desc := "(III)V" } : Jvm.MethodName) "BanquetVotes") ∈ lw_mv := List.mem_filter.mpr ⟨q2508, rfl⟩
theorem q2509 : (Jvm.Cond.instanceMethod ({ cls := "BanquetVotes$Question", name := "<init>", desc := "(III)V" } : Jvm.MethodName)) ∈ lw_all := lw_g (lw_at lw_m11 2 rfl) rfl
theorem q2510 : (Jvm.Cond.code ({ cls := "BanquetVotes$Question", name := "<init>", desc := "(III)V" } : Jvm.MethodName) prog_17_method_1_code (4 : Nat) (Option.none : Option Jvm.ClassFile.FieldType)) ∈ lw_all := lw_g (lw_at lw_m11 3 rfl) rfl
theorem q2511 : (Jvm.Cond.methodLink "BanquetVotes$Question" (1 : Nat) ({ cls := "java/lang/Record", name := "<init>", desc := "()V" } : Jvm.MethodName)) ∈ lw_all := lw_g (lw_at lw_m11 4 rfl) rfl
theorem q2512 : (Jvm.Cond.fieldLink "BanquetVotes$Question" (7 : Nat) "BanquetVotes$Question" "cook" "I") ∈ lw_all := lw_g (lw_at lw_m11 5 rfl) rfl
theorem q2513 : (Jvm.Cond.fieldLink "BanquetVotes$Question" (13 : Nat) "BanquetVotes$Question" "course" "I") ∈ lw_all := lw_g (lw_at lw_m11 6 rfl) rfl
theorem q2514 : (Jvm.Cond.fieldLink "BanquetVotes$Question" (16 : Nat) "BanquetVotes$Question" "arrives" "I") ∈ lw_all := lw_g (lw_at lw_m11 7 rfl) rfl
theorem q3898 : (Jvm.Cond.selects "java/util/LinkedList" ({ cls := "java/util/LinkedList", name := "addAll", desc := "(Ljava/util/Collection;)Z" } : Jvm.MethodName) ({ cls := "java/util/LinkedList", name := "addAll", desc := "(Ljava/util/Collection;)Z" } : Jvm.MethodName)) ∈ lw_all := lw_g (lw_at lw_m16 191 rfl) rfl
theorem q3899 : (Jvm.Cond.selects "java/util/LinkedList" ({ cls := "java/util/LinkedList", name := "size", desc := "()I" } : Jvm.MethodName) ({ cls := "java/util/LinkedList", name := "size", desc := "()I" } : Jvm.MethodName)) ∈ lw_all := lw_g (lw_at lw_m16 192 rfl) rfl
theorem q3900 : (Jvm.Cond.selects "java/util/LinkedList" ({ cls := "java/util/LinkedList", name := "add", desc := "(Ljava/lang/Object;)Z" } : Jvm.MethodName) ({ cls := "java/util/LinkedList", name := "add", desc := "(Ljava/lang/Object;)Z" } : Jvm.MethodName)) ∈ lw_all := lw_g (lw_at lw_m16 193 rfl) rfl
theorem q3901 : (Jvm.Cond.sameMethod "BanquetVotes$Somebody" "BanquetVotes$Somebody" "hasFainted" "()Z") ∈ lw_all := lw_g (lw_at lw_m16 194 rfl) rfl
theorem q3902 : (Jvm.Cond.selects "BanquetVotes$Cook" ({ cls := "BanquetVotes$Somebody", name := "hasFainted", desc := "()Z" } : Jvm.MethodName) ({ cls := "BanquetVotes$Somebody", name := "hasFainted", desc := "()Z" } : Jvm.MethodName)) ∈ lw_all := lw_g (lw_at lw_m16 195 rfl) rfl
theorem q3903 : (Jvm.Cond.selects "BanquetVotes$Host" ({ cls := "BanquetVotes$Somebody", name := "hasFainted", desc := "()Z" } : Jvm.MethodName) ({ cls := "BanquetVotes$Somebody", name := "hasFainted", desc := "()Z" } : Jvm.MethodName)) ∈ lw_all := lw_g (lw_at lw_m16 196 rfl) rfl
abbrev ck_X1_isIn : CK := ("BanquetVotes", prog_1_method_2_code, 3, (some .boolean), "isIn", [], 1)
def f_X1_isIn (γ : GP) (x0 : Int32) (x1 : Int32) (x2 : Int32) (g : AH) : Option (Int32 × AH) := (if x0 < x1 then (rtN .boolean (0 : Int32) g) else (if x2 < x0 then (rtN .boolean (0 : Int32) g) else (rtN .boolean (1 : Int32) g)))
theorem t_X1_isIn (γ : GP) (l : Launch) (hl : l.stackTraces = false) (x0 : Int32) (x1 : Int32) (x2 : Int32) (g : AH) : TrM ρI γ l ⟨"BanquetVotes", "isIn", "(III)Z"⟩ (ws_ ⟨"BanquetVotes", "isIn", "(III)Z"⟩ prog_1_method_2_code 3 (some .boolean)) 1 [.int x0, .int x1, .int x2] g (f_X1_isIn γ x0 x1 x2 g) := by
  refine TrM_of (plainFor_of_name (by decide)) (Nat.le_of_ble_eq_true rfl) ?_
  unfold f_X1_isIn
  change AW ρI γ l ck_X1_isIn g 0 [(0, .int x0), (1, .int x1), (2, .int x2)] [] g _
  refine r_iload_n (pc := 0) dX1_isIn_0 rfl 0 rfl ?_
  refine r_iload_n (pc := 1) dX1_isIn_1 rfl 1 rfl ?_
  refine r_icmp_lt (tgt := 14) (pc := 2) dX1_isIn_2 (by decide) ?_ ?_
  · skip
    refine r_iconst (v := (0 : Int32)) (pc := 14) dX1_isIn_14 (by decide) ?_
    exact r_zret (ty := .boolean) (pc := 15) dX1_isIn_15 rfl
  · skip
    refine r_iload_n (pc := 5) dX1_isIn_5 rfl 0 rfl ?_
    refine r_iload_n (pc := 6) dX1_isIn_6 rfl 2 rfl ?_
    refine r_icmp_gt (tgt := 14) (pc := 7) dX1_isIn_7 (by decide) ?_ ?_
    · skip
      refine r_iconst (v := (0 : Int32)) (pc := 14) dX1_isIn_14 (by decide) ?_
      exact r_zret (ty := .boolean) (pc := 15) dX1_isIn_15 rfl
    · skip
      refine r_iconst (v := (1 : Int32)) (pc := 10) dX1_isIn_10 (by decide) ?_
      refine r_goto (tgt := 15) (pc := 11) dX1_isIn_11 (by decide) ?_
      exact r_zret (ty := .boolean) (pc := 15) dX1_isIn_15 rfl
abbrev ck_X1_require : CK := ("BanquetVotes", prog_1_method_5_code, 1, none, "require", [], 8)
def f_X1_require (γ : GP) (x0 : Int32) (g : AH) : Option ((AH) ⊕ (Nat × AH)) := (if x0 = 0 then mO g 9 fun q1 g2 => bV ((if q1 ≠ 0 then f_J12_init_2 γ q1 g2 else none)) fun g3 => (tw γ g3 q1 (thr q1 g3)) else (some (.inl g)))
theorem t_X1_require (γ : GP) (l : Launch) (hl : l.stackTraces = false) (x0 : Int32) (g : AH) : TrM (ρX ρV) γ l ⟨"BanquetVotes", "require", "(Z)V"⟩ (ws_ ⟨"BanquetVotes", "require", "(Z)V"⟩ prog_1_method_5_code 1 none) 8 [.int x0] g (f_X1_require γ x0 g) := by
  refine TrM_of (plainFor_of_name (by decide)) (Nat.le_of_ble_eq_true rfl) ?_
  unfold f_X1_require
  change AW (ρX ρV) γ l ck_X1_require g 0 [(0, .int x0)] [] g _
  refine r_iload_n (pc := 0) dX1_require_0 rfl 0 rfl ?_
  refine r_if_ne (tgt := 12) (pc := 1) dX1_require_1 (by decide) ?_ ?_
  · skip
    refine r_new (c := 9) (pc := 4) dX1_require_4 q1214 (by decide) (by decide) (fun q1 g2 => ?_)
    refine r_dup (pc := 7) dX1_require_7 rfl ?_
    refine r_cV (pc := 8) (rest := [.ref q1]) (RunOK_chk (fun h => run_I (n := 0) (As := []) (rest := [.ref q1]) (t_J12_init_2 γ l hl q1 g2) dX1_require_8 q1215 q1216 q125 q1217 rfl (by decide +kernel) rfl h (Nat.le_of_ble_eq_true rfl) (Nat.le_of_ble_eq_true rfl) rfl (Nat.le_of_ble_eq_true rfl))) (fun g3 => ?_)
    refine r_athrow (pc := 11) dX1_require_11 ?_
    exact x_out (by decide)
  · skip
    exact r_inl (fun _ => rfl) (r_vret (pc := 12) dX1_require_12 rfl)
abbrev ck_X3_init : CK := ("BanquetVotes$Somebody", prog_20_method_1_code, 1, none, "<init>", [], 5)
def f_X3_init (γ : GP) (x0 : Nat) (g : AH) : Option (AH) := (if x0 ≠ 0 then mO g 3 fun q1 g2 => bV ((if q1 ≠ 0 then f_J2_init γ q1 g2 else none)) fun g3 => pR γ g3 x0 18 q1 fun g4 => (some g4) else none)
theorem t_X3_init (γ : GP) (l : Launch) (hl : l.stackTraces = false) (x0 : Nat) (g : AH) : TrM ρV γ l ⟨"BanquetVotes$Somebody", "<init>", "()V"⟩ (ws_ ⟨"BanquetVotes$Somebody", "<init>", "()V"⟩ prog_20_method_1_code 1 none) 5 [.ref x0] g (f_X3_init γ x0 g) := by
  refine TrM_of (plainFor_of_name (by decide)) (Nat.le_of_ble_eq_true rfl) ?_
  unfold f_X3_init
  change AW ρV γ l ck_X3_init g 0 [(0, .ref x0)] [] g _
  refine r_aload_n (pc := 0) dX3_init_0 rfl 0 rfl ?_
  refine r_objInit (pc := 1) dX3_init_1 q234 q185 q186 (by decide) (Nat.le_of_ble_eq_true rfl) ?_
  refine r_aload_n (pc := 4) dX3_init_4 rfl 0 rfl ?_
  refine r_new (c := 3) (pc := 5) dX3_init_5 q235 (by decide) (by decide) (fun q1 g2 => ?_)
  refine r_dup (pc := 8) dX3_init_8 rfl ?_
  refine r_cV (pc := 9) (rest := [.ref q1, .ref x0]) (RunOK_chk (fun h => run_I (n := 0) (As := []) (rest := [.ref q1, .ref x0]) (t_J2_init γ l hl q1 g2) dX3_init_9 q236 q196 q112 q197 rfl (by decide +kernel) rfl h (Nat.le_of_ble_eq_true rfl) (Nat.le_of_ble_eq_true rfl) rfl (Nat.le_of_ble_eq_true rfl))) (fun g3 => ?_)
  refine r_putR (f := 18) (pc := 12) dX3_init_12 q238 (Or.inl rfl) (Or.inr ⟨rfl, rfl⟩) rfl (fun g4 => ?_)
  exact r_vret (pc := 15) dX3_init_15 rfl
abbrev ck_X4_init : CK := ("BanquetVotes$Host", prog_6_method_1_code, 1, none, "<init>", [], 6)
def f_X4_init (γ : GP) (x0 : Nat) (g : AH) : Option (AH) := bV ((if x0 ≠ 0 then f_X3_init γ x0 g else none)) fun g1 => (some g1)
theorem t_X4_init (γ : GP) (l : Launch) (hl : l.stackTraces = false) (x0 : Nat) (g : AH) : TrM ρV γ l ⟨"BanquetVotes$Host", "<init>", "()V"⟩ (ws_ ⟨"BanquetVotes$Host", "<init>", "()V"⟩ prog_6_method_1_code 1 none) 6 [.ref x0] g (f_X4_init γ x0 g) := by
  refine TrM_of (plainFor_of_name (by decide)) (Nat.le_of_ble_eq_true rfl) ?_
  unfold f_X4_init
  change AW ρV γ l ck_X4_init g 0 [(0, .ref x0)] [] g _
  refine r_aload_n (pc := 0) dX4_init_0 rfl 0 rfl ?_
  refine r_cV (pc := 1) (rest := []) (RunOK_chk (fun h => run_IN (n := 0) (As := []) (rest := []) (t_X3_init γ l hl x0 g) dX4_init_1 mv231 q232 q113 q233 rfl (by decide +kernel) rfl h (Nat.le_of_ble_eq_true rfl) (Nat.le_of_ble_eq_true rfl) rfl (Nat.le_of_ble_eq_true rfl))) (fun g1 => ?_)
  exact r_vret (pc := 4) dX4_init_4 rfl
abbrev ck_X2_init : CK := ("BanquetVotes$Kitchen", prog_14_method_1_code, 1, none, "<init>", [], 7)
def f_X2_init (γ : GP) (x0 : Nat) (g : AH) : Option (AH) := (if x0 ≠ 0 then mO g 3 fun q1 g2 => bV ((if q1 ≠ 0 then f_J2_init γ q1 g2 else none)) fun g3 => pR γ g3 x0 8 q1 fun g4 => mO g4 3 fun q5 g6 => bV ((if q5 ≠ 0 then f_J2_init γ q5 g6 else none)) fun g7 => pR γ g7 x0 9 q5 fun g8 => mO g8 4 fun q9 g10 => bV ((if q9 ≠ 0 then f_X4_init γ q9 g10 else none)) fun g11 => pR γ g11 x0 10 q9 fun g12 => mO g12 5 fun q13 g14 => bV ((if q13 ≠ 0 then f_J4_init γ q13 g14 else none)) fun g15 => pR γ g15 x0 11 q13 fun g16 => (some g16) else none)
theorem t_X2_init (γ : GP) (l : Launch) (hl : l.stackTraces = false) (x0 : Nat) (g : AH) : TrM ρV γ l ⟨"BanquetVotes$Kitchen", "<init>", "()V"⟩ (ws_ ⟨"BanquetVotes$Kitchen", "<init>", "()V"⟩ prog_14_method_1_code 1 none) 7 [.ref x0] g (f_X2_init γ x0 g) := by
  refine TrM_of (plainFor_of_name (by decide)) (Nat.le_of_ble_eq_true rfl) ?_
  unfold f_X2_init
  change AW ρV γ l ck_X2_init g 0 [(0, .ref x0)] [] g _
  refine r_aload_n (pc := 0) dX2_init_0 rfl 0 rfl ?_
  refine r_objInit (pc := 1) dX2_init_1 q192 q185 q186 (by decide) (Nat.le_of_ble_eq_true rfl) ?_
  refine r_aload_n (pc := 4) dX2_init_4 rfl 0 rfl ?_
  refine r_new (c := 3) (pc := 5) dX2_init_5 q193 (by decide) (by decide) (fun q1 g2 => ?_)
  refine r_dup (pc := 8) dX2_init_8 rfl ?_
  refine r_cV (pc := 9) (rest := [.ref q1, .ref x0]) (RunOK_chk (fun h => run_I (n := 0) (As := []) (rest := [.ref q1, .ref x0]) (t_J2_init γ l hl q1 g2) dX2_init_9 q195 q196 q112 q197 rfl (by decide +kernel) rfl h (Nat.le_of_ble_eq_true rfl) (Nat.le_of_ble_eq_true rfl) rfl (Nat.le_of_ble_eq_true rfl))) (fun g3 => ?_)
  refine r_putR (f := 8) (pc := 12) dX2_init_12 q265 (Or.inl rfl) (Or.inr ⟨rfl, rfl⟩) rfl (fun g4 => ?_)
  refine r_aload_n (pc := 15) dX2_init_15 rfl 0 rfl ?_
  refine r_new (c := 3) (pc := 16) dX2_init_16 q193 (by decide) (by decide) (fun q5 g6 => ?_)
  refine r_dup (pc := 19) dX2_init_19 rfl ?_
  refine r_cV (pc := 20) (rest := [.ref q5, .ref x0]) (RunOK_chk (fun h => run_I (n := 0) (As := []) (rest := [.ref q5, .ref x0]) (t_J2_init γ l hl q5 g6) dX2_init_20 q195 q196 q112 q197 rfl (by decide +kernel) rfl h (Nat.le_of_ble_eq_true rfl) (Nat.le_of_ble_eq_true rfl) rfl (Nat.le_of_ble_eq_true rfl))) (fun g7 => ?_)
  refine r_putR (f := 9) (pc := 23) dX2_init_23 q266 (Or.inl rfl) (Or.inr ⟨rfl, rfl⟩) rfl (fun g8 => ?_)
  refine r_aload_n (pc := 26) dX2_init_26 rfl 0 rfl ?_
  refine r_new (c := 4) (pc := 27) dX2_init_27 q226 (by decide) (by decide) (fun q9 g10 => ?_)
  refine r_dup (pc := 30) dX2_init_30 rfl ?_
  refine r_cV (pc := 31) (rest := [.ref q9, .ref x0]) (RunOK_chk (fun h => run_IN (n := 0) (As := []) (rest := [.ref q9, .ref x0]) (t_X4_init γ l hl q9 g10) dX2_init_31 mv228 q229 q114 q230 rfl (by decide +kernel) rfl h (Nat.le_of_ble_eq_true rfl) (Nat.le_of_ble_eq_true rfl) rfl (Nat.le_of_ble_eq_true rfl))) (fun g11 => ?_)
  refine r_putR (f := 10) (pc := 34) dX2_init_34 q267 (Or.inl rfl) (Or.inr ⟨rfl, rfl⟩) rfl (fun g12 => ?_)
  refine r_aload_n (pc := 37) dX2_init_37 rfl 0 rfl ?_
  refine r_new (c := 5) (pc := 38) dX2_init_38 q244 (by decide) (by decide) (fun q13 g14 => ?_)
  refine r_dup (pc := 41) dX2_init_41 rfl ?_
  refine r_cV (pc := 42) (rest := [.ref q13, .ref x0]) (RunOK_chk (fun h => run_I (n := 0) (As := []) (rest := [.ref q13, .ref x0]) (t_J4_init γ l hl q13 g14) dX2_init_42 q246 q247 q116 q248 rfl (by decide +kernel) rfl h (Nat.le_of_ble_eq_true rfl) (Nat.le_of_ble_eq_true rfl) rfl (Nat.le_of_ble_eq_true rfl))) (fun g15 => ?_)
  refine r_putR (f := 11) (pc := 45) dX2_init_45 q268 (Or.inl rfl) (Or.inr ⟨rfl, rfl⟩) rfl (fun g16 => ?_)
  exact r_vret (pc := 48) dX2_init_48 rfl
abbrev ck_X6_init : CK := ("BanquetVotes$Cook", prog_3_method_1_code, 2, none, "<init>", [], 6)
def f_X6_init (γ : GP) (x0 : Nat) (x1 : Int32) (g : AH) : Option (AH) := bV ((if x0 ≠ 0 then f_X3_init γ x0 g else none)) fun g1 => mA g1 101 (4 : Int32) fun q2 g3 => pR γ g3 x0 77 q2 fun g4 => mA g4 101 (4 : Int32) fun q5 g6 => pR γ g6 x0 78 q5 fun g7 => mA g7 101 (4 : Int32) fun q8 g9 => pR γ g9 x0 79 q8 fun g10 => pI γ g10 x0 76 x1 fun g11 => (some g11)
theorem t_X6_init (γ : GP) (l : Launch) (hl : l.stackTraces = false) (x0 : Nat) (x1 : Int32) (g : AH) : TrM ρV γ l ⟨"BanquetVotes$Cook", "<init>", "(I)V"⟩ (ws_ ⟨"BanquetVotes$Cook", "<init>", "(I)V"⟩ prog_3_method_1_code 2 none) 6 [.ref x0, .int x1] g (f_X6_init γ x0 x1 g) := by
  refine TrM_of (plainFor_of_name (by decide)) (Nat.le_of_ble_eq_true rfl) ?_
  unfold f_X6_init
  change AW ρV γ l ck_X6_init g 0 [(0, .ref x0), (1, .int x1)] [] g _
  refine r_aload_n (pc := 0) dX6_init_0 rfl 0 rfl ?_
  refine r_cV (pc := 1) (rest := []) (RunOK_chk (fun h => run_IN (n := 0) (As := []) (rest := []) (t_X3_init γ l hl x0 g) dX6_init_1 mv1235 q232 q113 q233 rfl (by decide +kernel) rfl h (Nat.le_of_ble_eq_true rfl) (Nat.le_of_ble_eq_true rfl) rfl (Nat.le_of_ble_eq_true rfl))) (fun g1 => ?_)
  refine r_aload_n (pc := 4) dX6_init_4 rfl 0 rfl ?_
  refine r_iconst (v := (4 : Int32)) (pc := 5) dX6_init_5 (by decide) ?_
  refine r_newa (kd := 101) (atype := .int) (pc := 6) dX6_init_6 q1251 (by decide) rfl (by decide) (fun _ _ => by rw [nA_av]; rfl) (by decide) (fun q2 g3 => ?_)
  refine r_putR (f := 77) (pc := 8) dX6_init_8 q1237 (Or.inl rfl) (Or.inr ⟨rfl, rfl⟩) rfl (fun g4 => ?_)
  refine r_aload_n (pc := 11) dX6_init_11 rfl 0 rfl ?_
  refine r_iconst (v := (4 : Int32)) (pc := 12) dX6_init_12 (by decide) ?_
  refine r_newa (kd := 101) (atype := .int) (pc := 13) dX6_init_13 q1251 (by decide) rfl (by decide) (fun _ _ => by rw [nA_av]; rfl) (by decide) (fun q5 g6 => ?_)
  refine r_putR (f := 78) (pc := 15) dX6_init_15 q1238 (Or.inl rfl) (Or.inr ⟨rfl, rfl⟩) rfl (fun g7 => ?_)
  refine r_aload_n (pc := 18) dX6_init_18 rfl 0 rfl ?_
  refine r_iconst (v := (4 : Int32)) (pc := 19) dX6_init_19 (by decide) ?_
  refine r_newa (kd := 101) (atype := .int) (pc := 20) dX6_init_20 q1251 (by decide) rfl (by decide) (fun _ _ => by rw [nA_av]; rfl) (by decide) (fun q8 g9 => ?_)
  refine r_putR (f := 79) (pc := 22) dX6_init_22 q1239 (Or.inl rfl) (Or.inr ⟨rfl, rfl⟩) rfl (fun g10 => ?_)
  refine r_aload_n (pc := 25) dX6_init_25 rfl 0 rfl ?_
  refine r_iload_n (pc := 26) dX6_init_26 rfl 1 rfl ?_
  refine r_putI (f := 76) (pc := 27) dX6_init_27 q1236 (Or.inl rfl) (Or.inr ⟨rfl, rfl⟩) rfl (fun g11 => ?_)
  exact r_vret (pc := 30) dX6_init_30 rfl
abbrev ck_X3_isLike : CK := ("BanquetVotes$Somebody", prog_20_method_6_code, 2, none, "isLike", [], 6)
def f_X3_isLike (γ : GP) (x0 : Nat) (x1 : Nat) (g : AH) : Option (AH) := gI g x1 17 fun v1 => pI γ g x0 17 v1 fun g2 => gR g2 x0 18 fun v3 => gR g2 x1 18 fun v4 => bI ((if hK g2 v3 = 3 then f_J2_addAll γ v3 v4 g2 else none)) fun v6 g5 => (some g5)
theorem t_X3_isLike (γ : GP) (l : Launch) (hl : l.stackTraces = false) (x0 : Nat) (x1 : Nat) (g : AH) : TrM ρV γ l ⟨"BanquetVotes$Somebody", "isLike", "(LBanquetVotes$Somebody;)V"⟩ (ws_ ⟨"BanquetVotes$Somebody", "isLike", "(LBanquetVotes$Somebody;)V"⟩ prog_20_method_6_code 2 none) 6 [.ref x0, .ref x1] g (f_X3_isLike γ x0 x1 g) := by
  refine TrM_of (plainFor_of_name (by decide)) (Nat.le_of_ble_eq_true rfl) ?_
  unfold f_X3_isLike
  change AW ρV γ l ck_X3_isLike g 0 [(0, .ref x0), (1, .ref x1)] [] g _
  refine r_aload_n (pc := 0) dX3_isLike_0 rfl 0 rfl ?_
  refine r_aload_n (pc := 1) dX3_isLike_1 rfl 1 rfl ?_
  refine r_getI (f := 17) (pc := 2) dX3_isLike_2 q237 (Or.inl rfl) rfl (fun v1 => ?_)
  refine r_putI (f := 17) (pc := 5) dX3_isLike_5 q237 (Or.inl rfl) (Or.inl rfl) rfl (fun g2 => ?_)
  refine r_aload_n (pc := 8) dX3_isLike_8 rfl 0 rfl ?_
  refine r_getR (f := 18) (pc := 9) dX3_isLike_9 q238 (Or.inl rfl) rfl (fun v3 => ?_)
  refine r_aload_n (pc := 12) dX3_isLike_12 rfl 1 rfl ?_
  refine r_getR (f := 18) (pc := 13) dX3_isLike_13 q238 (Or.inl rfl) rfl (fun v4 => ?_)
  refine r_cI (pc := 16) (rest := []) (RunOK_chk (fun h => run_F (n := 1) (c9 := 3) (As := [.ref v4]) (rest := []) (t_J2_addAll γ l hl v3 v4 g2) dX3_isLike_16 q1259 q1262 q1264 q112 q1266 (by decide +kernel) (by decide +kernel) rfl h ⟨by decide, by decide⟩ (Nat.le_of_ble_eq_true rfl) (Nat.le_of_ble_eq_true rfl) rfl (Nat.le_of_ble_eq_true rfl))) (fun v6 g5 => ?_)
  refine r_pop (pc := 21) dX3_isLike_21 rfl ?_
  exact r_vret (pc := 22) dX3_isLike_22 rfl
abbrev ck_X6_copy : CK := ("BanquetVotes$Cook", prog_3_method_2_code, 2, (some (.object "BanquetVotes$Cook")), "copy", [], 7)
def f_X6_copy (γ : GP) (x0 : Nat) (g : AH) : Option (Nat × AH) := mO g 16 fun q1 g2 => gI g2 x0 76 fun v3 => bV ((if q1 ≠ 0 then f_X6_init γ q1 v3 g2 else none)) fun g4 => bV ((if hK g4 q1 = 16 then f_X3_isLike γ q1 x0 g4 else none)) fun g5 => gR g5 x0 77 fun v6 => gR g5 q1 77 fun v7 => nCA γ g5 101 v6 (0 : Int32) v7 (0 : Int32) (4 : Int32) fun g8 => gR g8 x0 78 fun v9 => gR g8 q1 78 fun v10 => nCA γ g8 101 v9 (0 : Int32) v10 (0 : Int32) (4 : Int32) fun g11 => gR g11 x0 79 fun v12 => gR g11 q1 79 fun v13 => nCA γ g11 101 v12 (0 : Int32) v13 (0 : Int32) (4 : Int32) fun g14 => (some (q1, g14))
theorem t_X6_copy (γ : GP) (l : Launch) (hl : l.stackTraces = false) (x0 : Nat) (g : AH) : TrM ρR γ l ⟨"BanquetVotes$Cook", "copy", "()LBanquetVotes$Cook;"⟩ (ws_ ⟨"BanquetVotes$Cook", "copy", "()LBanquetVotes$Cook;"⟩ prog_3_method_2_code 2 (some (.object "BanquetVotes$Cook"))) 7 [.ref x0] g (f_X6_copy γ x0 g) := by
  refine TrM_of (plainFor_of_name (by decide)) (Nat.le_of_ble_eq_true rfl) ?_
  unfold f_X6_copy
  change AW ρR γ l ck_X6_copy g 0 [(0, .ref x0)] [] g _
  refine r_new (c := 16) (pc := 0) dX6_copy_0 q1230 (by decide) (by decide) (fun q1 g2 => ?_)
  refine r_dup (pc := 3) dX6_copy_3 rfl ?_
  refine r_aload_n (pc := 4) dX6_copy_4 rfl 0 rfl ?_
  refine r_getI (f := 76) (pc := 5) dX6_copy_5 q1236 (Or.inl rfl) rfl (fun v3 => ?_)
  refine r_cV (pc := 8) (rest := [.ref q1]) (RunOK_chk (fun h => run_I (n := 1) (As := [.int v3]) (rest := [.ref q1]) (t_X6_init γ l hl q1 v3 g2) dX6_copy_8 q1232 q1233 q144 q1234 rfl (by decide +kernel) rfl h (Nat.le_of_ble_eq_true rfl) (Nat.le_of_ble_eq_true rfl) rfl (Nat.le_of_ble_eq_true rfl))) (fun g4 => ?_)
  refine r_astore_n (pc := 11) dX6_copy_11 rfl (Nat.le_of_ble_eq_true rfl) rfl ?_
  refine r_aload_n (pc := 12) dX6_copy_12 rfl 0 rfl ?_
  refine r_aload_n (pc := 13) dX6_copy_13 rfl 1 rfl ?_
  refine r_cV (pc := 14) (rest := []) (RunOK_chk (fun h => run_U (n := 1) (c9 := 16) (As := [.ref x0]) (rest := []) (owner := "BanquetVotes$Somebody") (t_X3_isLike γ l hl q1 x0 g4) dX6_copy_14 q1252 q1253 q1255 q1256 q113 q1257 rfl ⟨by decide, by decide, by decide +kernel⟩ rfl h ⟨by decide, by decide⟩ (Nat.le_of_ble_eq_true rfl) (Nat.le_of_ble_eq_true rfl) rfl (Nat.le_of_ble_eq_true rfl))) (fun g5 => ?_)
  refine r_aload_n (pc := 17) dX6_copy_17 rfl 1 rfl ?_
  refine r_getR (f := 77) (pc := 18) dX6_copy_18 q1237 (Or.inl rfl) rfl (fun v6 => ?_)
  refine r_iconst (v := (0 : Int32)) (pc := 21) dX6_copy_21 (by decide) ?_
  refine r_aload_n (pc := 22) dX6_copy_22 rfl 0 rfl ?_
  refine r_getR (f := 77) (pc := 23) dX6_copy_23 q1237 (Or.inl rfl) rfl (fun v7 => ?_)
  refine r_iconst (v := (0 : Int32)) (pc := 26) dX6_copy_26 (by decide) ?_
  refine r_iconst (v := (4 : Int32)) (pc := 27) dX6_copy_27 (by decide) ?_
  refine r_copyA (kd := 101) (by decide) (pc := 28) dX6_copy_28 q1378 q506 q505 q131 (by decide) (Nat.le_of_ble_eq_true rfl) (fun g8 => ?_)
  refine r_aload_n (pc := 31) dX6_copy_31 rfl 1 rfl ?_
  refine r_getR (f := 78) (pc := 32) dX6_copy_32 q1238 (Or.inl rfl) rfl (fun v9 => ?_)
  refine r_iconst (v := (0 : Int32)) (pc := 35) dX6_copy_35 (by decide) ?_
  refine r_aload_n (pc := 36) dX6_copy_36 rfl 0 rfl ?_
  refine r_getR (f := 78) (pc := 37) dX6_copy_37 q1238 (Or.inl rfl) rfl (fun v10 => ?_)
  refine r_iconst (v := (0 : Int32)) (pc := 40) dX6_copy_40 (by decide) ?_
  refine r_iconst (v := (4 : Int32)) (pc := 41) dX6_copy_41 (by decide) ?_
  refine r_copyA (kd := 101) (by decide) (pc := 42) dX6_copy_42 q1378 q506 q505 q131 (by decide) (Nat.le_of_ble_eq_true rfl) (fun g11 => ?_)
  refine r_aload_n (pc := 45) dX6_copy_45 rfl 1 rfl ?_
  refine r_getR (f := 79) (pc := 46) dX6_copy_46 q1239 (Or.inl rfl) rfl (fun v12 => ?_)
  refine r_iconst (v := (0 : Int32)) (pc := 49) dX6_copy_49 (by decide) ?_
  refine r_aload_n (pc := 50) dX6_copy_50 rfl 0 rfl ?_
  refine r_getR (f := 79) (pc := 51) dX6_copy_51 q1239 (Or.inl rfl) rfl (fun v13 => ?_)
  refine r_iconst (v := (0 : Int32)) (pc := 54) dX6_copy_54 (by decide) ?_
  refine r_iconst (v := (4 : Int32)) (pc := 55) dX6_copy_55 (by decide) ?_
  refine r_copyA (kd := 101) (by decide) (pc := 56) dX6_copy_56 q1378 q506 q505 q131 (by decide) (Nat.le_of_ble_eq_true rfl) (fun g14 => ?_)
  refine r_aload_n (pc := 59) dX6_copy_59 rfl 0 rfl ?_
  exact r_aret (pc := 60) dX6_copy_60 rfl (by first | exact Or.inl ⟨_, rfl⟩ | exact Or.inr ⟨_, rfl⟩)
abbrev ck_X7_init : CK := ("BanquetVotes$Course", prog_4_method_1_code, 1, none, "<init>", [], 4)
def f_X7_init (γ : GP) (x0 : Nat) (g : AH) : Option (AH) := (if x0 ≠ 0 then mO g 15 fun q1 g2 => bV ((if q1 ≠ 0 then f_J28_init γ q1 g2 else none)) fun g3 => pR γ g3 x0 87 q1 fun g4 => pI γ g4 x0 89 (-1 : Int32) fun g5 => pI γ g5 x0 90 (-1 : Int32) fun g6 => (some g6) else none)
theorem t_X7_init (γ : GP) (l : Launch) (hl : l.stackTraces = false) (x0 : Nat) (g : AH) : TrM ρV γ l ⟨"BanquetVotes$Course", "<init>", "()V"⟩ (ws_ ⟨"BanquetVotes$Course", "<init>", "()V"⟩ prog_4_method_1_code 1 none) 4 [.ref x0] g (f_X7_init γ x0 g) := by
  refine TrM_of (plainFor_of_name (by decide)) (Nat.le_of_ble_eq_true rfl) ?_
  unfold f_X7_init
  change AW ρV γ l ck_X7_init g 0 [(0, .ref x0)] [] g _
  refine r_aload_n (pc := 0) dX7_init_0 rfl 0 rfl ?_
  refine r_objInit (pc := 1) dX7_init_1 q1414 q185 q186 (by decide) (Nat.le_of_ble_eq_true rfl) ?_
  refine r_aload_n (pc := 4) dX7_init_4 rfl 0 rfl ?_
  refine r_new (c := 15) (pc := 5) dX7_init_5 q1415 (by decide) (by decide) (fun q1 g2 => ?_)
  refine r_dup (pc := 8) dX7_init_8 rfl ?_
  refine r_cV (pc := 9) (rest := [.ref q1, .ref x0]) (RunOK_chk (fun h => run_I (n := 0) (As := []) (rest := [.ref q1, .ref x0]) (t_J28_init γ l hl q1 g2) dX7_init_9 q1417 q1418 q143 q1419 rfl (by decide +kernel) rfl h (Nat.le_of_ble_eq_true rfl) (Nat.le_of_ble_eq_true rfl) rfl (Nat.le_of_ble_eq_true rfl))) (fun g3 => ?_)
  refine r_putR (f := 87) (pc := 12) dX7_init_12 q1452 (Or.inl rfl) (Or.inr ⟨rfl, rfl⟩) rfl (fun g4 => ?_)
  refine r_aload_n (pc := 15) dX7_init_15 rfl 0 rfl ?_
  refine r_iconst (v := (-1 : Int32)) (pc := 16) dX7_init_16 (by decide) ?_
  refine r_putI (f := 89) (pc := 17) dX7_init_17 q1454 (Or.inl rfl) (Or.inl rfl) rfl (fun g5 => ?_)
  refine r_aload_n (pc := 20) dX7_init_20 rfl 0 rfl ?_
  refine r_iconst (v := (-1 : Int32)) (pc := 21) dX7_init_21 (by decide) ?_
  refine r_putI (f := 90) (pc := 22) dX7_init_22 q1455 (Or.inl rfl) (Or.inl rfl) rfl (fun g6 => ?_)
  exact r_vret (pc := 25) dX7_init_25 rfl
abbrev ck_X8_init : CK := ("BanquetVotes$Dish", prog_5_method_1_code, 3, none, "<init>", [], 2)
def f_X8_init (γ : GP) (x0 : Nat) (x1 : Int32) (x2 : Int32) (g : AH) : Option (AH) := (if x0 ≠ 0 then pR γ g x0 95 (γ.1 10) fun g1 => pI γ g1 x0 96 (-1 : Int32) fun g2 => pI γ g2 x0 93 x1 fun g3 => pI γ g3 x0 94 x2 fun g4 => (some g4) else none)
theorem t_X8_init (γ : GP) (l : Launch) (hl : l.stackTraces = false) (x0 : Nat) (x1 : Int32) (x2 : Int32) (g : AH) : TrM ρV γ l ⟨"BanquetVotes$Dish", "<init>", "(II)V"⟩ (ws_ ⟨"BanquetVotes$Dish", "<init>", "(II)V"⟩ prog_5_method_1_code 3 none) 2 [.ref x0, .int x1, .int x2] g (f_X8_init γ x0 x1 x2 g) := by
  refine TrM_of (plainFor_of_name (by decide)) (Nat.le_of_ble_eq_true rfl) ?_
  unfold f_X8_init
  change AW ρV γ l ck_X8_init g 0 [(0, .ref x0), (1, .int x1), (2, .int x2)] [] g _
  refine r_aload_n (pc := 0) dX8_init_0 rfl 0 rfl ?_
  refine r_objInit (pc := 1) dX8_init_1 q1785 q185 q186 (by decide) (Nat.le_of_ble_eq_true rfl) ?_
  refine r_aload_n (pc := 4) dX8_init_4 rfl 0 rfl ?_
  refine r_gets (i := 10) (pc := 5) dX8_init_5 q1786 (List.mem_of_getElem? (i := 10) rfl) rfl ?_
  refine r_putR (f := 95) (pc := 8) dX8_init_8 q1790 (Or.inl rfl) (Or.inl rfl) rfl (fun g1 => ?_)
  refine r_aload_n (pc := 11) dX8_init_11 rfl 0 rfl ?_
  refine r_iconst (v := (-1 : Int32)) (pc := 12) dX8_init_12 (by decide) ?_
  refine r_putI (f := 96) (pc := 13) dX8_init_13 q1791 (Or.inl rfl) (Or.inl rfl) rfl (fun g2 => ?_)
  refine r_aload_n (pc := 16) dX8_init_16 rfl 0 rfl ?_
  refine r_iload_n (pc := 17) dX8_init_17 rfl 1 rfl ?_
  refine r_putI (f := 93) (pc := 18) dX8_init_18 q1788 (Or.inl rfl) (Or.inr ⟨rfl, rfl⟩) rfl (fun g3 => ?_)
  refine r_aload_n (pc := 21) dX8_init_21 rfl 0 rfl ?_
  refine r_iload_n (pc := 22) dX8_init_22 rfl 2 rfl ?_
  refine r_putI (f := 94) (pc := 23) dX8_init_23 q1789 (Or.inl rfl) (Or.inr ⟨rfl, rfl⟩) rfl (fun g4 => ?_)
  exact r_vret (pc := 26) dX8_init_26 rfl
abbrev ck_X8_copy : CK := ("BanquetVotes$Dish", prog_5_method_2_code, 2, (some (.object "BanquetVotes$Dish")), "copy", [], 3)
def f_X8_copy (γ : GP) (x0 : Nat) (g : AH) : Option (Nat × AH) := mO g 22 fun q1 g2 => gI g2 x0 93 fun v3 => gI g2 x0 94 fun v4 => bV ((if q1 ≠ 0 then f_X8_init γ q1 v3 v4 g2 else none)) fun g5 => gR g5 x0 95 fun v6 => pR γ g5 q1 95 v6 fun g7 => gI g7 x0 96 fun v8 => pI γ g7 q1 96 v8 fun g9 => (some (q1, g9))
theorem t_X8_copy (γ : GP) (l : Launch) (hl : l.stackTraces = false) (x0 : Nat) (g : AH) : TrM ρR γ l ⟨"BanquetVotes$Dish", "copy", "()LBanquetVotes$Dish;"⟩ (ws_ ⟨"BanquetVotes$Dish", "copy", "()LBanquetVotes$Dish;"⟩ prog_5_method_2_code 2 (some (.object "BanquetVotes$Dish"))) 3 [.ref x0] g (f_X8_copy γ x0 g) := by
  refine TrM_of (plainFor_of_name (by decide)) (Nat.le_of_ble_eq_true rfl) ?_
  unfold f_X8_copy
  change AW ρR γ l ck_X8_copy g 0 [(0, .ref x0)] [] g _
  refine r_new (c := 22) (pc := 0) dX8_copy_0 q1780 (by decide) (by decide) (fun q1 g2 => ?_)
  refine r_dup (pc := 3) dX8_copy_3 rfl ?_
  refine r_aload_n (pc := 4) dX8_copy_4 rfl 0 rfl ?_
  refine r_getI (f := 93) (pc := 5) dX8_copy_5 q1788 (Or.inl rfl) rfl (fun v3 => ?_)
  refine r_aload_n (pc := 8) dX8_copy_8 rfl 0 rfl ?_
  refine r_getI (f := 94) (pc := 9) dX8_copy_9 q1789 (Or.inl rfl) rfl (fun v4 => ?_)
  refine r_cV (pc := 12) (rest := [.ref q1]) (RunOK_chk (fun h => run_I (n := 2) (As := [.int v3, .int v4]) (rest := [.ref q1]) (t_X8_init γ l hl q1 v3 v4 g2) dX8_copy_12 q1782 q1783 q157 q1784 rfl (by decide +kernel) rfl h (Nat.le_of_ble_eq_true rfl) (Nat.le_of_ble_eq_true rfl) rfl (Nat.le_of_ble_eq_true rfl))) (fun g5 => ?_)
  refine r_astore_n (pc := 15) dX8_copy_15 rfl (Nat.le_of_ble_eq_true rfl) rfl ?_
  refine r_aload_n (pc := 16) dX8_copy_16 rfl 0 rfl ?_
  refine r_aload_n (pc := 17) dX8_copy_17 rfl 1 rfl ?_
  refine r_getR (f := 95) (pc := 18) dX8_copy_18 q1790 (Or.inl rfl) rfl (fun v6 => ?_)
  refine r_putR (f := 95) (pc := 21) dX8_copy_21 q1790 (Or.inl rfl) (Or.inl rfl) rfl (fun g7 => ?_)
  refine r_aload_n (pc := 24) dX8_copy_24 rfl 0 rfl ?_
  refine r_aload_n (pc := 25) dX8_copy_25 rfl 1 rfl ?_
  refine r_getI (f := 96) (pc := 26) dX8_copy_26 q1791 (Or.inl rfl) rfl (fun v8 => ?_)
  refine r_putI (f := 96) (pc := 29) dX8_copy_29 q1791 (Or.inl rfl) (Or.inl rfl) rfl (fun g9 => ?_)
  refine r_aload_n (pc := 32) dX8_copy_32 rfl 0 rfl ?_
  exact r_aret (pc := 33) dX8_copy_33 rfl (by first | exact Or.inl ⟨_, rfl⟩ | exact Or.inr ⟨_, rfl⟩)
abbrev ck_X7_copy : CK := ("BanquetVotes$Course", prog_4_method_2_code, 4, (some (.object "BanquetVotes$Course")), "copy", [], 8)
def f_X7_copy_L21 (γ : GP) (x0 : Nat) (x1 : Nat) (x2 : Nat) (K75 : AH → Option (Nat × AH)) : Nat → AH → Option (Nat × AH)
  | 0, _ => none
  | n + 1, g => bI ((if hK g x2 = 10 then f_J13_hasNext γ x2 g else if hK g x2 = 13 then f_J24_hasNext γ x2 g else if hK g x2 = 17 then f_J29_hasNext γ x2 g else if hK g x2 = 18 then f_J29_hasNext γ x2 g else none)) fun v10 g9 => (if v10 = 0 then K75 g9 else bR ((if hK g9 x2 = 10 then f_J13_next γ x2 g9 else if hK g9 x2 = 13 then f_J24_next γ x2 g9 else if hK g9 x2 = 17 then f_J31_next γ x2 g9 else if hK g9 x2 = 18 then f_J32_next γ x2 g9 else none)) fun v12 g11 => gC g11 [12] v12 (bI ((if hK g11 v12 = 12 then f_J21_intValue γ v12 g11 else none)) fun v14 g13 => gR g13 x1 87 fun v15 => bR (f_J21_valueOf γ v14 g13) fun v17 g16 => gR g16 x0 87 fun v18 => bR (f_J21_valueOf γ v14 g16) fun v20 g19 => bR ((if hK g19 v18 = 15 then f_J28_get γ v18 v20 g19 else none)) fun v22 g21 => gC g21 [22] v22 (bR ((if hK g21 v22 = 22 then f_X8_copy γ v22 g21 else none)) fun v24 g23 => bR ((if hK g23 v15 = 15 then f_J28_put γ v15 v17 v24 g23 else none)) fun v26 g25 => f_X7_copy_L21 γ x0 x1 x2 K75 n g25)))
def f_X7_copy (γ : GP) (x0 : Nat) (g : AH) : Option (Nat × AH) := mO g 20 fun q1 g2 => bV ((if q1 ≠ 0 then f_X7_init γ q1 g2 else none)) fun g3 => gR g3 x0 87 fun v4 => bR ((if hK g3 v4 = 15 then f_J28_keySet γ v4 g3 else none)) fun v6 g5 => bR ((if hK g5 v6 = 21 then f_J35_iterator γ v6 g5 else none)) fun v8 g7 => f_X7_copy_L21 γ x0 q1 v8 (fun (g27 : AH) => gI g27 x0 88 fun v28 => pI γ g27 q1 88 v28 fun g29 => gI g29 x0 89 fun v30 => pI γ g29 q1 89 v30 fun g31 => gI g31 x0 90 fun v32 => pI γ g31 q1 90 v32 fun g33 => gI g33 x0 91 fun v34 => pI γ g33 q1 91 v34 fun g35 => (some (q1, g35))) FU g7
theorem f_X7_copy_L21_w (γ : GP) (l : Launch) (hl : l.stackTraces = false) (G0 : AH) (x0 : Nat) (x1 : Nat) (x2 : Nat) (K75 : AH → Option (Nat × AH)) (h_K75 : ∀ (g : AH), AW ρR γ l ck_X7_copy G0 75 [(0, .ref x0), (1, .ref x1)] [] g (K75 g)) : ∀ (n : Nat) (g : AH), AW ρR γ l ck_X7_copy G0 21 [(0, .ref x0), (1, .ref x1), (2, .ref x2)] [] g (f_X7_copy_L21 γ x0 x1 x2 K75 n g) := by
  intro n
  induction n with
  | zero => intro g; exact AW_none
  | succ n ih =>
    intro g
    unfold f_X7_copy_L21
    refine r_aload_n (pc := 21) dX7_copy_21 rfl 2 rfl ?_
    refine r_cI (pc := 22) (rest := []) (RunOK_if (fun h => run_F (n := 0) (c9 := 10) (As := []) (rest := []) (t_J13_hasNext γ l hl x2 g) dX7_copy_22 q1174 q800 q802 q126 q804 (by decide +kernel) (by decide +kernel) rfl h ⟨by decide, by decide⟩ (Nat.le_of_ble_eq_true rfl) (Nat.le_of_ble_eq_true rfl) rfl (Nat.le_of_ble_eq_true rfl)) (RunOK_if (fun h => run_F (n := 0) (c9 := 13) (As := []) (rest := []) (t_J24_hasNext γ l hl x2 g) dX7_copy_22 q1174 q809 q811 q139 q813 (by decide +kernel) (by decide +kernel) rfl h ⟨by decide, by decide⟩ (Nat.le_of_ble_eq_true rfl) (Nat.le_of_ble_eq_true rfl) rfl (Nat.le_of_ble_eq_true rfl)) (RunOK_if (fun h => run_F (n := 0) (c9 := 17) (As := []) (rest := []) (t_J29_hasNext γ l hl x2 g) dX7_copy_22 q1174 q821 q817 q145 q819 (by decide +kernel) (by decide +kernel) rfl h ⟨by decide, by decide⟩ (Nat.le_of_ble_eq_true rfl) (Nat.le_of_ble_eq_true rfl) rfl (Nat.le_of_ble_eq_true rfl)) (RunOK_chk (fun h => run_F (n := 0) (c9 := 18) (As := []) (rest := []) (t_J29_hasNext γ l hl x2 g) dX7_copy_22 q1174 q824 q817 q145 q819 (by decide +kernel) (by decide +kernel) rfl h ⟨by decide, by decide⟩ (Nat.le_of_ble_eq_true rfl) (Nat.le_of_ble_eq_true rfl) rfl (Nat.le_of_ble_eq_true rfl)))))) (fun v10 g9 => ?_)
    refine r_if_eq (tgt := 75) (pc := 27) dX7_copy_27 (by decide) ?_ ?_
    · skip
      refine AW_sub [0, 1] rfl ?_
      exact h_K75 g9
    · skip
      refine r_aload_n (pc := 30) dX7_copy_30 rfl 2 rfl ?_
      refine r_cR (pc := 31) (rest := []) (RunOK_if (fun h => run_F (n := 0) (c9 := 10) (As := []) (rest := []) (t_J13_next γ l hl x2 g9) dX7_copy_31 q1176 q991 q993 q126 q995 (by decide +kernel) (by decide +kernel) rfl h ⟨by decide, by decide⟩ (Nat.le_of_ble_eq_true rfl) (Nat.le_of_ble_eq_true rfl) rfl (Nat.le_of_ble_eq_true rfl)) (RunOK_if (fun h => run_F (n := 0) (c9 := 13) (As := []) (rest := []) (t_J24_next γ l hl x2 g9) dX7_copy_31 q1176 q1015 q1017 q139 q1019 (by decide +kernel) (by decide +kernel) rfl h ⟨by decide, by decide⟩ (Nat.le_of_ble_eq_true rfl) (Nat.le_of_ble_eq_true rfl) rfl (Nat.le_of_ble_eq_true rfl)) (RunOK_if (fun h => run_F (n := 0) (c9 := 17) (As := []) (rest := []) (t_J31_next γ l hl x2 g9) dX7_copy_31 q1176 q1047 q1049 q147 q1051 (by decide +kernel) (by decide +kernel) rfl h ⟨by decide, by decide⟩ (Nat.le_of_ble_eq_true rfl) (Nat.le_of_ble_eq_true rfl) rfl (Nat.le_of_ble_eq_true rfl)) (RunOK_chk (fun h => run_F (n := 0) (c9 := 18) (As := []) (rest := []) (t_J32_next γ l hl x2 g9) dX7_copy_31 q1176 q1055 q1057 q148 q1059 (by decide +kernel) (by decide +kernel) rfl h ⟨by decide, by decide⟩ (Nat.le_of_ble_eq_true rfl) (Nat.le_of_ble_eq_true rfl) rfl (Nat.le_of_ble_eq_true rfl)))))) (fun v12 g11 => ?_)
      refine r_cast_ (L := [12]) (pc := 36) dX7_copy_36 q1497 (List.forall_mem_cons.mpr ⟨⟨by decide, by decide, Or.inl rfl⟩, (fun _ h => absurd h List.not_mem_nil)⟩) ?_
      refine r_cI (pc := 39) (rest := []) (RunOK_chk (fun h => run_V (n := 0) (c9 := 12) (As := []) (rest := []) (t_J21_intValue γ l hl v12 g11) dX7_copy_39 q1498 q1499 q1500 q135 q1501 (by decide +kernel) rfl h ⟨rfl, by decide, by decide⟩ (Nat.le_of_ble_eq_true rfl) (Nat.le_of_ble_eq_true rfl) rfl (Nat.le_of_ble_eq_true rfl))) (fun v14 g13 => ?_)
      refine r_istore_n (pc := 42) dX7_copy_42 rfl (Nat.le_of_ble_eq_true rfl) rfl ?_
      refine r_aload_n (pc := 43) dX7_copy_43 rfl 2 rfl ?_
      refine r_getR (f := 87) (pc := 44) dX7_copy_44 q1452 (Or.inl rfl) rfl (fun v15 => ?_)
      refine r_iload_n (pc := 47) dX7_copy_47 rfl 0 rfl ?_
      refine r_cR (pc := 48) (rest := [.ref v15]) (run_S (n := 1) (As := [.int v14]) (rest := [.ref v15]) (t_J21_valueOf γ l hl v14 g13) dX7_copy_48 q1502 q1503 q135 q1504 (by decide +kernel) rfl (Nat.le_of_ble_eq_true rfl) (Nat.le_of_ble_eq_true rfl) rfl (Nat.le_of_ble_eq_true rfl)) (fun v17 g16 => ?_)
      refine r_aload_n (pc := 51) dX7_copy_51 rfl 1 rfl ?_
      refine r_getR (f := 87) (pc := 52) dX7_copy_52 q1452 (Or.inl rfl) rfl (fun v18 => ?_)
      refine r_iload_n (pc := 55) dX7_copy_55 rfl 0 rfl ?_
      refine r_cR (pc := 56) (rest := [.ref v18, .ref v17, .ref v15]) (run_S (n := 1) (As := [.int v14]) (rest := [.ref v18, .ref v17, .ref v15]) (t_J21_valueOf γ l hl v14 g16) dX7_copy_56 q1502 q1503 q135 q1504 (by decide +kernel) rfl (Nat.le_of_ble_eq_true rfl) (Nat.le_of_ble_eq_true rfl) rfl (Nat.le_of_ble_eq_true rfl)) (fun v20 g19 => ?_)
      refine r_cR (pc := 59) (rest := [.ref v17, .ref v15]) (RunOK_chk (fun h => run_V (n := 1) (c9 := 15) (As := [.ref v20]) (rest := [.ref v17, .ref v15]) (t_J28_get γ l hl v18 v20 g19) dX7_copy_59 q1522 q1523 q1524 q143 q1525 (by decide +kernel) rfl h ⟨rfl, by decide, by decide⟩ (Nat.le_of_ble_eq_true rfl) (Nat.le_of_ble_eq_true rfl) rfl (Nat.le_of_ble_eq_true rfl))) (fun v22 g21 => ?_)
      refine r_cast_ (L := [22]) (pc := 62) dX7_copy_62 q1177 (List.forall_mem_cons.mpr ⟨⟨by decide, by decide, Or.inl rfl⟩, (fun _ h => absurd h List.not_mem_nil)⟩) ?_
      refine r_cR (pc := 65) (rest := [.ref v17, .ref v15]) (RunOK_chk (fun h => run_V (n := 0) (c9 := 22) (As := []) (rest := [.ref v17, .ref v15]) (t_X8_copy γ l hl v22 g21) dX7_copy_65 q1776 q1777 q1778 q157 q1779 (by decide +kernel) rfl h ⟨rfl, by decide, by decide⟩ (Nat.le_of_ble_eq_true rfl) (Nat.le_of_ble_eq_true rfl) rfl (Nat.le_of_ble_eq_true rfl))) (fun v24 g23 => ?_)
      refine r_cR (pc := 68) (rest := []) (RunOK_chk (fun h => run_V (n := 2) (c9 := 15) (As := [.ref v17, .ref v24]) (rest := []) (t_J28_put γ l hl v15 v17 v24 g23) dX7_copy_68 q1801 q1802 q1803 q143 q1804 (by decide +kernel) rfl h ⟨rfl, by decide, by decide⟩ (Nat.le_of_ble_eq_true rfl) (Nat.le_of_ble_eq_true rfl) rfl (Nat.le_of_ble_eq_true rfl))) (fun v26 g25 => ?_)
      refine r_pop (pc := 71) dX7_copy_71 rfl ?_
      refine r_goto (tgt := 21) (pc := 72) dX7_copy_72 (by decide) ?_
      refine AW_sub [1, 2, 3] rfl ?_
      exact ih g25
theorem t_X7_copy (γ : GP) (l : Launch) (hl : l.stackTraces = false) (x0 : Nat) (g : AH) : TrM ρR γ l ⟨"BanquetVotes$Course", "copy", "()LBanquetVotes$Course;"⟩ (ws_ ⟨"BanquetVotes$Course", "copy", "()LBanquetVotes$Course;"⟩ prog_4_method_2_code 4 (some (.object "BanquetVotes$Course"))) 8 [.ref x0] g (f_X7_copy γ x0 g) := by
  refine TrM_of (plainFor_of_name (by decide)) (Nat.le_of_ble_eq_true rfl) ?_
  unfold f_X7_copy
  change AW ρR γ l ck_X7_copy g 0 [(0, .ref x0)] [] g _
  refine r_new (c := 20) (pc := 0) dX7_copy_0 q1409 (by decide) (by decide) (fun q1 g2 => ?_)
  refine r_dup (pc := 3) dX7_copy_3 rfl ?_
  refine r_cV (pc := 4) (rest := [.ref q1]) (RunOK_chk (fun h => run_I (n := 0) (As := []) (rest := [.ref q1]) (t_X7_init γ l hl q1 g2) dX7_copy_4 q1411 q1412 q150 q1413 rfl (by decide +kernel) rfl h (Nat.le_of_ble_eq_true rfl) (Nat.le_of_ble_eq_true rfl) rfl (Nat.le_of_ble_eq_true rfl))) (fun g3 => ?_)
  refine r_astore_n (pc := 7) dX7_copy_7 rfl (Nat.le_of_ble_eq_true rfl) rfl ?_
  refine r_aload_n (pc := 8) dX7_copy_8 rfl 1 rfl ?_
  refine r_getR (f := 87) (pc := 9) dX7_copy_9 q1452 (Or.inl rfl) rfl (fun v4 => ?_)
  refine r_cR (pc := 12) (rest := []) (RunOK_chk (fun h => run_V (n := 0) (c9 := 15) (As := []) (rest := []) (t_J28_keySet γ l hl v4 g3) dX7_copy_12 q1468 q1469 q1470 q143 q1471 (by decide +kernel) rfl h ⟨rfl, by decide, by decide⟩ (Nat.le_of_ble_eq_true rfl) (Nat.le_of_ble_eq_true rfl) rfl (Nat.le_of_ble_eq_true rfl))) (fun v6 g5 => ?_)
  refine r_cR (pc := 15) (rest := []) (RunOK_chk (fun h => run_F (n := 0) (c9 := 21) (As := []) (rest := []) (t_J35_iterator γ l hl v6 g5) dX7_copy_15 q1490 q1496 q1131 q152 q1133 (by decide +kernel) (by decide +kernel) rfl h ⟨by decide, by decide⟩ (Nat.le_of_ble_eq_true rfl) (Nat.le_of_ble_eq_true rfl) rfl (Nat.le_of_ble_eq_true rfl))) (fun v8 g7 => ?_)
  refine r_astore_n (pc := 20) dX7_copy_20 rfl (Nat.le_of_ble_eq_true rfl) rfl ?_
  refine AW_sub [2, 1, 0] rfl ?_
  refine f_X7_copy_L21_w γ l hl _ x0 q1 v8 _ ?_ FU g7
  · intro g27
    refine r_aload_n (pc := 75) dX7_copy_75 rfl 1 rfl ?_
    refine r_aload_n (pc := 76) dX7_copy_76 rfl 0 rfl ?_
    refine r_getI (f := 88) (pc := 77) dX7_copy_77 q1453 (Or.inl rfl) rfl (fun v28 => ?_)
    refine r_putI (f := 88) (pc := 80) dX7_copy_80 q1453 (Or.inl rfl) (Or.inl rfl) rfl (fun g29 => ?_)
    refine r_aload_n (pc := 83) dX7_copy_83 rfl 1 rfl ?_
    refine r_aload_n (pc := 84) dX7_copy_84 rfl 0 rfl ?_
    refine r_getI (f := 89) (pc := 85) dX7_copy_85 q1454 (Or.inl rfl) rfl (fun v30 => ?_)
    refine r_putI (f := 89) (pc := 88) dX7_copy_88 q1454 (Or.inl rfl) (Or.inl rfl) rfl (fun g31 => ?_)
    refine r_aload_n (pc := 91) dX7_copy_91 rfl 1 rfl ?_
    refine r_aload_n (pc := 92) dX7_copy_92 rfl 0 rfl ?_
    refine r_getI (f := 90) (pc := 93) dX7_copy_93 q1455 (Or.inl rfl) rfl (fun v32 => ?_)
    refine r_putI (f := 90) (pc := 96) dX7_copy_96 q1455 (Or.inl rfl) (Or.inl rfl) rfl (fun g33 => ?_)
    refine r_aload_n (pc := 99) dX7_copy_99 rfl 1 rfl ?_
    refine r_aload_n (pc := 100) dX7_copy_100 rfl 0 rfl ?_
    refine r_getI (f := 91) (pc := 101) dX7_copy_101 q1456 (Or.inl rfl) rfl (fun v34 => ?_)
    refine r_putI (f := 91) (pc := 104) dX7_copy_104 q1456 (Or.inl rfl) (Or.inl rfl) rfl (fun g35 => ?_)
    refine r_aload_n (pc := 107) dX7_copy_107 rfl 1 rfl ?_
    exact r_aret (pc := 108) dX7_copy_108 rfl (by first | exact Or.inl ⟨_, rfl⟩ | exact Or.inr ⟨_, rfl⟩)
abbrev ck_X2_copy : CK := ("BanquetVotes$Kitchen", prog_14_method_2_code, 4, (some (.object "BanquetVotes$Kitchen")), "copy", [], 9)
def f_X2_copy_L18 (γ : GP) (x0 : Nat) (x1 : Nat) (x2 : Nat) (K54 : AH → Option (Nat × AH)) : Nat → AH → Option (Nat × AH)
  | 0, _ => none
  | n + 1, g => bI ((if hK g x2 = 10 then f_J13_hasNext γ x2 g else if hK g x2 = 13 then f_J24_hasNext γ x2 g else if hK g x2 = 17 then f_J29_hasNext γ x2 g else if hK g x2 = 18 then f_J29_hasNext γ x2 g else none)) fun v8 g7 => (if v8 = 0 then K54 g7 else bR ((if hK g7 x2 = 10 then f_J13_next γ x2 g7 else if hK g7 x2 = 13 then f_J24_next γ x2 g7 else if hK g7 x2 = 17 then f_J31_next γ x2 g7 else if hK g7 x2 = 18 then f_J32_next γ x2 g7 else none)) fun v10 g9 => gC g9 [16] v10 (gR g9 x1 8 fun v11 => bR ((if hK g9 v10 = 16 then f_X6_copy γ v10 g9 else none)) fun v13 g12 => bI ((if hK g12 v11 = 3 then f_J2_add γ v11 v13 g12 else none)) fun v15 g14 => f_X2_copy_L18 γ x0 x1 x2 K54 n g14))
def f_X2_copy_L64 (γ : GP) (x0 : Nat) (x1 : Nat) (x2 : Nat) (K100 : AH → Option (Nat × AH)) : Nat → AH → Option (Nat × AH)
  | 0, _ => none
  | n + 1, g => bI ((if hK g x2 = 10 then f_J13_hasNext γ x2 g else if hK g x2 = 13 then f_J24_hasNext γ x2 g else if hK g x2 = 17 then f_J29_hasNext γ x2 g else if hK g x2 = 18 then f_J29_hasNext γ x2 g else none)) fun v21 g20 => (if v21 = 0 then K100 g20 else bR ((if hK g20 x2 = 10 then f_J13_next γ x2 g20 else if hK g20 x2 = 13 then f_J24_next γ x2 g20 else if hK g20 x2 = 17 then f_J31_next γ x2 g20 else if hK g20 x2 = 18 then f_J32_next γ x2 g20 else none)) fun v23 g22 => gC g22 [20] v23 (gR g22 x1 9 fun v24 => bR ((if hK g22 v23 = 20 then f_X7_copy γ v23 g22 else none)) fun v26 g25 => bI ((if hK g25 v24 = 3 then f_J2_add γ v24 v26 g25 else none)) fun v28 g27 => f_X2_copy_L64 γ x0 x1 x2 K100 n g27))
def f_X2_copy (γ : GP) (x0 : Nat) (g : AH) : Option (Nat × AH) := mO g 2 fun q1 g2 => bV ((if q1 ≠ 0 then f_X2_init γ q1 g2 else none)) fun g3 => gR g3 x0 8 fun v4 => bR ((if hK g3 v4 = 3 then f_J2_iterator γ v4 g3 else none)) fun v6 g5 => f_X2_copy_L18 γ x0 q1 v6 (fun (g16 : AH) => gR g16 x0 9 fun v17 => bR ((if hK g16 v17 = 3 then f_J2_iterator γ v17 g16 else none)) fun v19 g18 => f_X2_copy_L64 γ x0 q1 v19 (fun (g29 : AH) => gR g29 q1 10 fun v30 => gR g29 x0 10 fun v31 => bV ((if hK g29 v30 = 4 then f_X3_isLike γ v30 v31 g29 else none)) fun g32 => gR g32 q1 11 fun v33 => gR g32 x0 11 fun v34 => bI ((if hK g32 v33 = 5 then f_J4_addAll γ v33 v34 g32 else none)) fun v36 g35 => gI g35 x0 12 fun v37 => pI γ g35 q1 12 v37 fun g38 => gI g38 x0 13 fun v39 => pI γ g38 q1 13 v39 fun g40 => (some (q1, g40))) FU g18) FU g5
theorem f_X2_copy_L18_w (γ : GP) (l : Launch) (hl : l.stackTraces = false) (G0 : AH) (x0 : Nat) (x1 : Nat) (x2 : Nat) (K54 : AH → Option (Nat × AH)) (h_K54 : ∀ (g : AH), AW ρR γ l ck_X2_copy G0 54 [(0, .ref x0), (1, .ref x1)] [] g (K54 g)) : ∀ (n : Nat) (g : AH), AW ρR γ l ck_X2_copy G0 18 [(0, .ref x0), (1, .ref x1), (2, .ref x2)] [] g (f_X2_copy_L18 γ x0 x1 x2 K54 n g) := by
  intro n
  induction n with
  | zero => intro g; exact AW_none
  | succ n ih =>
    intro g
    unfold f_X2_copy_L18
    refine r_aload_n (pc := 18) dX2_copy_18 rfl 2 rfl ?_
    refine r_cI (pc := 19) (rest := []) (RunOK_if (fun h => run_F (n := 0) (c9 := 10) (As := []) (rest := []) (t_J13_hasNext γ l hl x2 g) dX2_copy_19 q781 q800 q802 q126 q804 (by decide +kernel) (by decide +kernel) rfl h ⟨by decide, by decide⟩ (Nat.le_of_ble_eq_true rfl) (Nat.le_of_ble_eq_true rfl) rfl (Nat.le_of_ble_eq_true rfl)) (RunOK_if (fun h => run_F (n := 0) (c9 := 13) (As := []) (rest := []) (t_J24_hasNext γ l hl x2 g) dX2_copy_19 q781 q809 q811 q139 q813 (by decide +kernel) (by decide +kernel) rfl h ⟨by decide, by decide⟩ (Nat.le_of_ble_eq_true rfl) (Nat.le_of_ble_eq_true rfl) rfl (Nat.le_of_ble_eq_true rfl)) (RunOK_if (fun h => run_F (n := 0) (c9 := 17) (As := []) (rest := []) (t_J29_hasNext γ l hl x2 g) dX2_copy_19 q781 q821 q817 q145 q819 (by decide +kernel) (by decide +kernel) rfl h ⟨by decide, by decide⟩ (Nat.le_of_ble_eq_true rfl) (Nat.le_of_ble_eq_true rfl) rfl (Nat.le_of_ble_eq_true rfl)) (RunOK_chk (fun h => run_F (n := 0) (c9 := 18) (As := []) (rest := []) (t_J29_hasNext γ l hl x2 g) dX2_copy_19 q781 q824 q817 q145 q819 (by decide +kernel) (by decide +kernel) rfl h ⟨by decide, by decide⟩ (Nat.le_of_ble_eq_true rfl) (Nat.le_of_ble_eq_true rfl) rfl (Nat.le_of_ble_eq_true rfl)))))) (fun v8 g7 => ?_)
    refine r_if_eq (tgt := 54) (pc := 24) dX2_copy_24 (by decide) ?_ ?_
    · skip
      refine AW_sub [0, 1] rfl ?_
      exact h_K54 g7
    · skip
      refine r_aload_n (pc := 27) dX2_copy_27 rfl 2 rfl ?_
      refine r_cR (pc := 28) (rest := []) (RunOK_if (fun h => run_F (n := 0) (c9 := 10) (As := []) (rest := []) (t_J13_next γ l hl x2 g7) dX2_copy_28 q827 q991 q993 q126 q995 (by decide +kernel) (by decide +kernel) rfl h ⟨by decide, by decide⟩ (Nat.le_of_ble_eq_true rfl) (Nat.le_of_ble_eq_true rfl) rfl (Nat.le_of_ble_eq_true rfl)) (RunOK_if (fun h => run_F (n := 0) (c9 := 13) (As := []) (rest := []) (t_J24_next γ l hl x2 g7) dX2_copy_28 q827 q1015 q1017 q139 q1019 (by decide +kernel) (by decide +kernel) rfl h ⟨by decide, by decide⟩ (Nat.le_of_ble_eq_true rfl) (Nat.le_of_ble_eq_true rfl) rfl (Nat.le_of_ble_eq_true rfl)) (RunOK_if (fun h => run_F (n := 0) (c9 := 17) (As := []) (rest := []) (t_J31_next γ l hl x2 g7) dX2_copy_28 q827 q1047 q1049 q147 q1051 (by decide +kernel) (by decide +kernel) rfl h ⟨by decide, by decide⟩ (Nat.le_of_ble_eq_true rfl) (Nat.le_of_ble_eq_true rfl) rfl (Nat.le_of_ble_eq_true rfl)) (RunOK_chk (fun h => run_F (n := 0) (c9 := 18) (As := []) (rest := []) (t_J32_next γ l hl x2 g7) dX2_copy_28 q827 q1055 q1057 q148 q1059 (by decide +kernel) (by decide +kernel) rfl h ⟨by decide, by decide⟩ (Nat.le_of_ble_eq_true rfl) (Nat.le_of_ble_eq_true rfl) rfl (Nat.le_of_ble_eq_true rfl)))))) (fun v10 g9 => ?_)
      refine r_cast_ (L := [16]) (pc := 33) dX2_copy_33 q1225 (List.forall_mem_cons.mpr ⟨⟨by decide, by decide, Or.inl rfl⟩, (fun _ h => absurd h List.not_mem_nil)⟩) ?_
      refine r_astore_n (pc := 36) dX2_copy_36 rfl (Nat.le_of_ble_eq_true rfl) rfl ?_
      refine r_aload_n (pc := 37) dX2_copy_37 rfl 2 rfl ?_
      refine r_getR (f := 8) (pc := 38) dX2_copy_38 q265 (Or.inl rfl) rfl (fun v11 => ?_)
      refine r_aload_n (pc := 41) dX2_copy_41 rfl 0 rfl ?_
      refine r_cR (pc := 42) (rest := [.ref v11]) (RunOK_chk (fun h => run_V (n := 0) (c9 := 16) (As := []) (rest := [.ref v11]) (t_X6_copy γ l hl v10 g9) dX2_copy_42 q1226 q1227 q1228 q144 q1229 (by decide +kernel) rfl h ⟨rfl, by decide, by decide⟩ (Nat.le_of_ble_eq_true rfl) (Nat.le_of_ble_eq_true rfl) rfl (Nat.le_of_ble_eq_true rfl))) (fun v13 g12 => ?_)
      refine r_cI (pc := 45) (rest := []) (RunOK_chk (fun h => run_F (n := 1) (c9 := 3) (As := [.ref v13]) (rest := []) (t_J2_add γ l hl v11 v13 g12) dX2_copy_45 q1380 q1383 q1385 q112 q1387 (by decide +kernel) (by decide +kernel) rfl h ⟨by decide, by decide⟩ (Nat.le_of_ble_eq_true rfl) (Nat.le_of_ble_eq_true rfl) rfl (Nat.le_of_ble_eq_true rfl))) (fun v15 g14 => ?_)
      refine r_pop (pc := 50) dX2_copy_50 rfl ?_
      refine r_goto (tgt := 18) (pc := 51) dX2_copy_51 (by decide) ?_
      refine AW_sub [1, 2, 3] rfl ?_
      exact ih g14
theorem f_X2_copy_L64_w (γ : GP) (l : Launch) (hl : l.stackTraces = false) (G0 : AH) (x0 : Nat) (x1 : Nat) (x2 : Nat) (K100 : AH → Option (Nat × AH)) (h_K100 : ∀ (g : AH), AW ρR γ l ck_X2_copy G0 100 [(0, .ref x0), (1, .ref x1)] [] g (K100 g)) : ∀ (n : Nat) (g : AH), AW ρR γ l ck_X2_copy G0 64 [(0, .ref x0), (1, .ref x1), (2, .ref x2)] [] g (f_X2_copy_L64 γ x0 x1 x2 K100 n g) := by
  intro n
  induction n with
  | zero => intro g; exact AW_none
  | succ n ih =>
    intro g
    unfold f_X2_copy_L64
    refine r_aload_n (pc := 64) dX2_copy_64 rfl 2 rfl ?_
    refine r_cI (pc := 65) (rest := []) (RunOK_if (fun h => run_F (n := 0) (c9 := 10) (As := []) (rest := []) (t_J13_hasNext γ l hl x2 g) dX2_copy_65 q781 q800 q802 q126 q804 (by decide +kernel) (by decide +kernel) rfl h ⟨by decide, by decide⟩ (Nat.le_of_ble_eq_true rfl) (Nat.le_of_ble_eq_true rfl) rfl (Nat.le_of_ble_eq_true rfl)) (RunOK_if (fun h => run_F (n := 0) (c9 := 13) (As := []) (rest := []) (t_J24_hasNext γ l hl x2 g) dX2_copy_65 q781 q809 q811 q139 q813 (by decide +kernel) (by decide +kernel) rfl h ⟨by decide, by decide⟩ (Nat.le_of_ble_eq_true rfl) (Nat.le_of_ble_eq_true rfl) rfl (Nat.le_of_ble_eq_true rfl)) (RunOK_if (fun h => run_F (n := 0) (c9 := 17) (As := []) (rest := []) (t_J29_hasNext γ l hl x2 g) dX2_copy_65 q781 q821 q817 q145 q819 (by decide +kernel) (by decide +kernel) rfl h ⟨by decide, by decide⟩ (Nat.le_of_ble_eq_true rfl) (Nat.le_of_ble_eq_true rfl) rfl (Nat.le_of_ble_eq_true rfl)) (RunOK_chk (fun h => run_F (n := 0) (c9 := 18) (As := []) (rest := []) (t_J29_hasNext γ l hl x2 g) dX2_copy_65 q781 q824 q817 q145 q819 (by decide +kernel) (by decide +kernel) rfl h ⟨by decide, by decide⟩ (Nat.le_of_ble_eq_true rfl) (Nat.le_of_ble_eq_true rfl) rfl (Nat.le_of_ble_eq_true rfl)))))) (fun v21 g20 => ?_)
    refine r_if_eq (tgt := 100) (pc := 70) dX2_copy_70 (by decide) ?_ ?_
    · skip
      refine AW_sub [0, 1] rfl ?_
      exact h_K100 g20
    · skip
      refine r_aload_n (pc := 73) dX2_copy_73 rfl 2 rfl ?_
      refine r_cR (pc := 74) (rest := []) (RunOK_if (fun h => run_F (n := 0) (c9 := 10) (As := []) (rest := []) (t_J13_next γ l hl x2 g20) dX2_copy_74 q827 q991 q993 q126 q995 (by decide +kernel) (by decide +kernel) rfl h ⟨by decide, by decide⟩ (Nat.le_of_ble_eq_true rfl) (Nat.le_of_ble_eq_true rfl) rfl (Nat.le_of_ble_eq_true rfl)) (RunOK_if (fun h => run_F (n := 0) (c9 := 13) (As := []) (rest := []) (t_J24_next γ l hl x2 g20) dX2_copy_74 q827 q1015 q1017 q139 q1019 (by decide +kernel) (by decide +kernel) rfl h ⟨by decide, by decide⟩ (Nat.le_of_ble_eq_true rfl) (Nat.le_of_ble_eq_true rfl) rfl (Nat.le_of_ble_eq_true rfl)) (RunOK_if (fun h => run_F (n := 0) (c9 := 17) (As := []) (rest := []) (t_J31_next γ l hl x2 g20) dX2_copy_74 q827 q1047 q1049 q147 q1051 (by decide +kernel) (by decide +kernel) rfl h ⟨by decide, by decide⟩ (Nat.le_of_ble_eq_true rfl) (Nat.le_of_ble_eq_true rfl) rfl (Nat.le_of_ble_eq_true rfl)) (RunOK_chk (fun h => run_F (n := 0) (c9 := 18) (As := []) (rest := []) (t_J32_next γ l hl x2 g20) dX2_copy_74 q827 q1055 q1057 q148 q1059 (by decide +kernel) (by decide +kernel) rfl h ⟨by decide, by decide⟩ (Nat.le_of_ble_eq_true rfl) (Nat.le_of_ble_eq_true rfl) rfl (Nat.le_of_ble_eq_true rfl)))))) (fun v23 g22 => ?_)
      refine r_cast_ (L := [20]) (pc := 79) dX2_copy_79 q1063 (List.forall_mem_cons.mpr ⟨⟨by decide, by decide, Or.inl rfl⟩, (fun _ h => absurd h List.not_mem_nil)⟩) ?_
      refine r_astore_n (pc := 82) dX2_copy_82 rfl (Nat.le_of_ble_eq_true rfl) rfl ?_
      refine r_aload_n (pc := 83) dX2_copy_83 rfl 2 rfl ?_
      refine r_getR (f := 9) (pc := 84) dX2_copy_84 q266 (Or.inl rfl) rfl (fun v24 => ?_)
      refine r_aload_n (pc := 87) dX2_copy_87 rfl 0 rfl ?_
      refine r_cR (pc := 88) (rest := [.ref v24]) (RunOK_chk (fun h => run_V (n := 0) (c9 := 20) (As := []) (rest := [.ref v24]) (t_X7_copy γ l hl v23 g22) dX2_copy_88 q1405 q1406 q1407 q150 q1408 (by decide +kernel) rfl h ⟨rfl, by decide, by decide⟩ (Nat.le_of_ble_eq_true rfl) (Nat.le_of_ble_eq_true rfl) rfl (Nat.le_of_ble_eq_true rfl))) (fun v26 g25 => ?_)
      refine r_cI (pc := 91) (rest := []) (RunOK_chk (fun h => run_F (n := 1) (c9 := 3) (As := [.ref v26]) (rest := []) (t_J2_add γ l hl v24 v26 g25) dX2_copy_91 q1380 q1383 q1385 q112 q1387 (by decide +kernel) (by decide +kernel) rfl h ⟨by decide, by decide⟩ (Nat.le_of_ble_eq_true rfl) (Nat.le_of_ble_eq_true rfl) rfl (Nat.le_of_ble_eq_true rfl))) (fun v28 g27 => ?_)
      refine r_pop (pc := 96) dX2_copy_96 rfl ?_
      refine r_goto (tgt := 64) (pc := 97) dX2_copy_97 (by decide) ?_
      refine AW_sub [1, 2, 3] rfl ?_
      exact ih g27
theorem t_X2_copy (γ : GP) (l : Launch) (hl : l.stackTraces = false) (x0 : Nat) (g : AH) : TrM ρR γ l ⟨"BanquetVotes$Kitchen", "copy", "()LBanquetVotes$Kitchen;"⟩ (ws_ ⟨"BanquetVotes$Kitchen", "copy", "()LBanquetVotes$Kitchen;"⟩ prog_14_method_2_code 4 (some (.object "BanquetVotes$Kitchen"))) 9 [.ref x0] g (f_X2_copy γ x0 g) := by
  refine TrM_of (plainFor_of_name (by decide)) (Nat.le_of_ble_eq_true rfl) ?_
  unfold f_X2_copy
  change AW ρR γ l ck_X2_copy g 0 [(0, .ref x0)] [] g _
  refine r_new (c := 2) (pc := 0) dX2_copy_0 q1223 (by decide) (by decide) (fun q1 g2 => ?_)
  refine r_dup (pc := 3) dX2_copy_3 rfl ?_
  refine r_cV (pc := 4) (rest := [.ref q1]) (RunOK_chk (fun h => run_I (n := 0) (As := []) (rest := [.ref q1]) (t_X2_init γ l hl q1 g2) dX2_copy_4 q1224 q190 q109 q191 rfl (by decide +kernel) rfl h (Nat.le_of_ble_eq_true rfl) (Nat.le_of_ble_eq_true rfl) rfl (Nat.le_of_ble_eq_true rfl))) (fun g3 => ?_)
  refine r_astore_n (pc := 7) dX2_copy_7 rfl (Nat.le_of_ble_eq_true rfl) rfl ?_
  refine r_aload_n (pc := 8) dX2_copy_8 rfl 1 rfl ?_
  refine r_getR (f := 8) (pc := 9) dX2_copy_9 q265 (Or.inl rfl) rfl (fun v4 => ?_)
  refine r_cR (pc := 12) (rest := []) (RunOK_chk (fun h => run_F (n := 0) (c9 := 3) (As := []) (rest := []) (t_J2_iterator γ l hl v4 g3) dX2_copy_12 q354 q358 q360 q112 q362 (by decide +kernel) (by decide +kernel) rfl h ⟨by decide, by decide⟩ (Nat.le_of_ble_eq_true rfl) (Nat.le_of_ble_eq_true rfl) rfl (Nat.le_of_ble_eq_true rfl))) (fun v6 g5 => ?_)
  refine r_astore_n (pc := 17) dX2_copy_17 rfl (Nat.le_of_ble_eq_true rfl) rfl ?_
  refine AW_sub [2, 1, 0] rfl ?_
  refine f_X2_copy_L18_w γ l hl _ x0 q1 v6 _ ?_ FU g5
  · intro g16
    refine r_aload_n (pc := 54) dX2_copy_54 rfl 0 rfl ?_
    refine r_getR (f := 9) (pc := 55) dX2_copy_55 q266 (Or.inl rfl) rfl (fun v17 => ?_)
    refine r_cR (pc := 58) (rest := []) (RunOK_chk (fun h => run_F (n := 0) (c9 := 3) (As := []) (rest := []) (t_J2_iterator γ l hl v17 g16) dX2_copy_58 q354 q358 q360 q112 q362 (by decide +kernel) (by decide +kernel) rfl h ⟨by decide, by decide⟩ (Nat.le_of_ble_eq_true rfl) (Nat.le_of_ble_eq_true rfl) rfl (Nat.le_of_ble_eq_true rfl))) (fun v19 g18 => ?_)
    refine r_astore_n (pc := 63) dX2_copy_63 rfl (Nat.le_of_ble_eq_true rfl) rfl ?_
    refine AW_sub [1, 2, 0] rfl ?_
    refine f_X2_copy_L64_w γ l hl _ x0 q1 v19 _ ?_ FU g18
    · intro g29
      refine r_aload_n (pc := 100) dX2_copy_100 rfl 1 rfl ?_
      refine r_getR (f := 10) (pc := 101) dX2_copy_101 q267 (Or.inl rfl) rfl (fun v30 => ?_)
      refine r_aload_n (pc := 104) dX2_copy_104 rfl 0 rfl ?_
      refine r_getR (f := 10) (pc := 105) dX2_copy_105 q267 (Or.inl rfl) rfl (fun v31 => ?_)
      refine r_cV (pc := 108) (rest := []) (RunOK_chk (fun h => run_U (n := 1) (c9 := 4) (As := [.ref v31]) (rest := []) (owner := "BanquetVotes$Somebody") (t_X3_isLike γ l hl v30 v31 g29) dX2_copy_108 q1879 q1880 q1881 q1256 q113 q1257 rfl ⟨by decide, by decide, by decide +kernel⟩ rfl h ⟨by decide, by decide⟩ (Nat.le_of_ble_eq_true rfl) (Nat.le_of_ble_eq_true rfl) rfl (Nat.le_of_ble_eq_true rfl))) (fun g32 => ?_)
      refine r_aload_n (pc := 111) dX2_copy_111 rfl 1 rfl ?_
      refine r_getR (f := 11) (pc := 112) dX2_copy_112 q268 (Or.inl rfl) rfl (fun v33 => ?_)
      refine r_aload_n (pc := 115) dX2_copy_115 rfl 0 rfl ?_
      refine r_getR (f := 11) (pc := 116) dX2_copy_116 q268 (Or.inl rfl) rfl (fun v34 => ?_)
      refine r_cI (pc := 119) (rest := []) (RunOK_chk (fun h => run_V (n := 1) (c9 := 5) (As := [.ref v34]) (rest := []) (t_J4_addAll γ l hl v33 v34 g32) dX2_copy_119 q1882 q1348 q3898 q116 q1350 (by decide +kernel) rfl h ⟨rfl, by decide, by decide⟩ (Nat.le_of_ble_eq_true rfl) (Nat.le_of_ble_eq_true rfl) rfl (Nat.le_of_ble_eq_true rfl))) (fun v36 g35 => ?_)
      refine r_pop (pc := 122) dX2_copy_122 rfl ?_
      refine r_aload_n (pc := 123) dX2_copy_123 rfl 1 rfl ?_
      refine r_aload_n (pc := 124) dX2_copy_124 rfl 0 rfl ?_
      refine r_getI (f := 12) (pc := 125) dX2_copy_125 q269 (Or.inl rfl) rfl (fun v37 => ?_)
      refine r_putI (f := 12) (pc := 128) dX2_copy_128 q269 (Or.inl rfl) (Or.inl rfl) rfl (fun g38 => ?_)
      refine r_aload_n (pc := 131) dX2_copy_131 rfl 1 rfl ?_
      refine r_aload_n (pc := 132) dX2_copy_132 rfl 0 rfl ?_
      refine r_getI (f := 13) (pc := 133) dX2_copy_133 q270 (Or.inl rfl) rfl (fun v39 => ?_)
      refine r_putI (f := 13) (pc := 136) dX2_copy_136 q270 (Or.inl rfl) (Or.inl rfl) rfl (fun g40 => ?_)
      refine r_aload_n (pc := 139) dX2_copy_139 rfl 1 rfl ?_
      exact r_aret (pc := 140) dX2_copy_140 rfl (by first | exact Or.inl ⟨_, rfl⟩ | exact Or.inr ⟨_, rfl⟩)
abbrev ck_X10_init : CK := ("BanquetVotes$Refusal", prog_19_method_1_code, 3, none, "<init>", [], 6)
def f_X10_init (γ : GP) (x0 : Nat) (x1 : Int32) (x2 : Int32) (g : AH) : Option (AH) := bV ((if x0 ≠ 0 then f_J10_init_4 γ x0 0 0 g else none)) fun g1 => pI γ g1 x0 103 x1 fun g2 => pI γ g2 x0 104 x2 fun g3 => (some g3)
theorem t_X10_init (γ : GP) (l : Launch) (hl : l.stackTraces = false) (x0 : Nat) (x1 : Int32) (x2 : Int32) (g : AH) : TrM ρV γ l ⟨"BanquetVotes$Refusal", "<init>", "(II)V"⟩ (ws_ ⟨"BanquetVotes$Refusal", "<init>", "(II)V"⟩ prog_19_method_1_code 3 none) 6 [.ref x0, .int x1, .int x2] g (f_X10_init γ x0 x1 x2 g) := by
  refine TrM_of (plainFor_of_name (by decide)) (Nat.le_of_ble_eq_true rfl) ?_
  unfold f_X10_init
  change AW ρV γ l ck_X10_init g 0 [(0, .ref x0), (1, .int x1), (2, .int x2)] [] g _
  refine r_aload_n (pc := 0) dX10_init_0 rfl 0 rfl ?_
  refine r_null (pc := 1) dX10_init_1 ?_
  refine r_null (pc := 2) dX10_init_2 ?_
  refine r_cV (pc := 3) (rest := []) (RunOK_chk (fun h => run_I (n := 2) (As := [.ref 0, .ref 0]) (rest := []) (t_J10_init_4 γ l hl x0 0 0 g) dX10_init_3 q1911 q1912 q123 q1913 rfl (by decide +kernel) rfl h (Nat.le_of_ble_eq_true rfl) (Nat.le_of_ble_eq_true rfl) rfl (Nat.le_of_ble_eq_true rfl))) (fun g1 => ?_)
  refine r_aload_n (pc := 6) dX10_init_6 rfl 0 rfl ?_
  refine r_iload_n (pc := 7) dX10_init_7 rfl 1 rfl ?_
  refine r_putI (f := 103) (pc := 8) dX10_init_8 q1917 (Or.inl rfl) (Or.inr ⟨rfl, rfl⟩) rfl (fun g2 => ?_)
  refine r_aload_n (pc := 11) dX10_init_11 rfl 0 rfl ?_
  refine r_iload_n (pc := 12) dX10_init_12 rfl 2 rfl ?_
  refine r_putI (f := 104) (pc := 13) dX10_init_13 q1918 (Or.inl rfl) (Or.inr ⟨rfl, rfl⟩) rfl (fun g3 => ?_)
  exact r_vret (pc := 16) dX10_init_16 rfl
abbrev ck_X1_meet : CK := ("BanquetVotes", prog_1_method_1_code, 3, none, "meet", [], 7)
def f_X1_meet (γ : GP) (x0 : Int32) (x1 : Int32) (x2 : Int32) (g : AH) : Option ((AH) ⊕ (Nat × AH)) := (if x0 = 0 then mO g 24 fun q1 g2 => bV ((if q1 ≠ 0 then f_X10_init γ q1 x1 x2 g2 else none)) fun g3 => (tw γ g3 q1 (thr q1 g3)) else (some (.inl g)))
theorem t_X1_meet (γ : GP) (l : Launch) (hl : l.stackTraces = false) (x0 : Int32) (x1 : Int32) (x2 : Int32) (g : AH) : TrM (ρX ρV) γ l ⟨"BanquetVotes", "meet", "(ZII)V"⟩ (ws_ ⟨"BanquetVotes", "meet", "(ZII)V"⟩ prog_1_method_1_code 3 none) 7 [.int x0, .int x1, .int x2] g (f_X1_meet γ x0 x1 x2 g) := by
  refine TrM_of (plainFor_of_name (by decide)) (Nat.le_of_ble_eq_true rfl) ?_
  unfold f_X1_meet
  change AW (ρX ρV) γ l ck_X1_meet g 0 [(0, .int x0), (1, .int x1), (2, .int x2)] [] g _
  refine r_iload_n (pc := 0) dX1_meet_0 rfl 0 rfl ?_
  refine r_if_ne (tgt := 14) (pc := 1) dX1_meet_1 (by decide) ?_ ?_
  · skip
    refine r_new (c := 24) (pc := 4) dX1_meet_4 q1207 (by decide) (by decide) (fun q1 g2 => ?_)
    refine r_dup (pc := 7) dX1_meet_7 rfl ?_
    refine r_iload_n (pc := 8) dX1_meet_8 rfl 1 rfl ?_
    refine r_iload_n (pc := 9) dX1_meet_9 rfl 2 rfl ?_
    refine r_cV (pc := 10) (rest := [.ref q1]) (RunOK_chk (fun h => run_I (n := 2) (As := [.int x1, .int x2]) (rest := [.ref q1]) (t_X10_init γ l hl q1 x1 x2 g2) dX1_meet_10 q1908 q1909 q161 q1910 rfl (by decide +kernel) rfl h (Nat.le_of_ble_eq_true rfl) (Nat.le_of_ble_eq_true rfl) rfl (Nat.le_of_ble_eq_true rfl))) (fun g3 => ?_)
    refine r_athrow (pc := 13) dX1_meet_13 ?_
    exact x_out (by decide)
  · skip
    exact r_inl (fun _ => rfl) (r_vret (pc := 14) dX1_meet_14 rfl)
abbrev ck_X2_hires : CK := ("BanquetVotes$Kitchen", prog_14_method_11_code, 2, (some .int), "hires", [], 8)
def f_X2_hires (γ : GP) (x0 : Nat) (x1 : Int32) (g : AH) : Option ((Int32 × AH) ⊕ (Nat × AH)) := gR g x0 8 fun v1 => bI ((if hK g v1 = 3 then f_J2_size γ v1 g else if hK g v1 = 5 then f_J4_size γ v1 g else none)) fun v3 g2 => jn (fun (z4 : Int32) (g5 : AH) => bXV (f_X1_meet γ z4 (1 : Int32) (6 : Int32) g5) (fun e8 g9 => (thr e8 g9)) fun g7 => gR g7 x0 8 fun v10 => mO g7 16 fun q11 g12 => bV ((if q11 ≠ 0 then f_X6_init γ q11 x1 g12 else none)) fun g13 => bI ((if hK g13 v10 = 3 then f_J2_add γ v10 q11 g13 else none)) fun v15 g14 => gR g14 x0 8 fun v16 => bI ((if hK g14 v16 = 3 then f_J2_size γ v16 g14 else if hK g14 v16 = 5 then f_J4_size γ v16 g14 else none)) fun v18 g17 => (some (.inl ((v18 - (1 : Int32)), g17)))) (fun (j6 : Int32 → AH → Option ((Int32 × AH) ⊕ (Nat × AH))) => (if (6 : Int32) ≤ v3 then j6 (0 : Int32) g2 else j6 (1 : Int32) g2))
theorem t_X2_hires (γ : GP) (l : Launch) (hl : l.stackTraces = false) (x0 : Nat) (x1 : Int32) (g : AH) : TrM (ρX ρI) γ l ⟨"BanquetVotes$Kitchen", "hires", "(I)I"⟩ (ws_ ⟨"BanquetVotes$Kitchen", "hires", "(I)I"⟩ prog_14_method_11_code 2 (some .int)) 8 [.ref x0, .int x1] g (f_X2_hires γ x0 x1 g) := by
  refine TrM_of (plainFor_of_name (by decide)) (Nat.le_of_ble_eq_true rfl) ?_
  unfold f_X2_hires
  change AW (ρX ρI) γ l ck_X2_hires g 0 [(0, .ref x0), (1, .int x1)] [] g _
  refine r_aload_n (pc := 0) dX2_hires_0 rfl 0 rfl ?_
  refine r_getR (f := 8) (pc := 1) dX2_hires_1 q265 (Or.inl rfl) rfl (fun v1 => ?_)
  refine r_cI (pc := 4) (rest := []) (RunOK_if (fun h => run_F (n := 0) (c9 := 3) (As := []) (rest := []) (t_J2_size γ l hl v1 g) dX2_hires_4 q1888 q1891 q794 q112 q795 (by decide +kernel) (by decide +kernel) rfl h ⟨by decide, by decide⟩ (Nat.le_of_ble_eq_true rfl) (Nat.le_of_ble_eq_true rfl) rfl (Nat.le_of_ble_eq_true rfl)) (RunOK_chk (fun h => run_F (n := 0) (c9 := 5) (As := []) (rest := []) (t_J4_size γ l hl v1 g) dX2_hires_4 q1888 q1894 q797 q116 q798 (by decide +kernel) (by decide +kernel) rfl h ⟨by decide, by decide⟩ (Nat.le_of_ble_eq_true rfl) (Nat.le_of_ble_eq_true rfl) rfl (Nat.le_of_ble_eq_true rfl)))) (fun v3 g2 => ?_)
  refine r_bipush (v := (6 : Int32)) (pc := 9) dX2_hires_9 (by decide) ?_
  refine AW_jn (P := fun (j : Int32 → AH → Option ((Int32 × AH) ⊕ (Nat × AH))) => ∀ (z4 : Int32) (g5 : AH), AW (ρX ρI) γ l ck_X2_hires g 19 [(0, .ref x0), (1, .int x1)] [.int z4] g5 (j z4 g5)) (fun z4 g5 => ?_) (fun j6 h_j6 => ?_)
  · skip
    refine r_iconst (v := (1 : Int32)) (pc := 19) dX2_hires_19 (by decide) ?_
    refine r_bipush (v := (6 : Int32)) (pc := 20) dX2_hires_20 (by decide) ?_
    refine r_cXV (pc := 22) (rest := []) (run_SN (n := 3) (As := [.int z4, .int (1 : Int32), .int (6 : Int32)]) (rest := []) (t_X1_meet γ l hl z4 (1 : Int32) (6 : Int32) g5) dX2_hires_22 mv1897 q1898 q108 q1899 (by decide +kernel) rfl (Nat.le_of_ble_eq_true rfl) (Nat.le_of_ble_eq_true rfl) rfl (Nat.le_of_ble_eq_true rfl)) (fun e8 g9 => ?_) (fun g7 => ?_)
    · skip
      exact x_out (by decide)
    · skip
      refine r_aload_n (pc := 25) dX2_hires_25 rfl 0 rfl ?_
      refine r_getR (f := 8) (pc := 26) dX2_hires_26 q265 (Or.inl rfl) rfl (fun v10 => ?_)
      refine r_new (c := 16) (pc := 29) dX2_hires_29 q1225 (by decide) (by decide) (fun q11 g12 => ?_)
      refine r_dup (pc := 32) dX2_hires_32 rfl ?_
      refine r_iload_n (pc := 33) dX2_hires_33 rfl 1 rfl ?_
      refine r_cV (pc := 34) (rest := [.ref q11, .ref v10]) (RunOK_chk (fun h => run_I (n := 1) (As := [.int x1]) (rest := [.ref q11, .ref v10]) (t_X6_init γ l hl q11 x1 g12) dX2_hires_34 q1925 q1233 q144 q1234 rfl (by decide +kernel) rfl h (Nat.le_of_ble_eq_true rfl) (Nat.le_of_ble_eq_true rfl) rfl (Nat.le_of_ble_eq_true rfl))) (fun g13 => ?_)
      refine r_cI (pc := 37) (rest := []) (RunOK_chk (fun h => run_F (n := 1) (c9 := 3) (As := [.ref q11]) (rest := []) (t_J2_add γ l hl v10 q11 g13) dX2_hires_37 q1380 q1383 q1385 q112 q1387 (by decide +kernel) (by decide +kernel) rfl h ⟨by decide, by decide⟩ (Nat.le_of_ble_eq_true rfl) (Nat.le_of_ble_eq_true rfl) rfl (Nat.le_of_ble_eq_true rfl))) (fun v15 g14 => ?_)
      refine r_pop (pc := 42) dX2_hires_42 rfl ?_
      refine r_aload_n (pc := 43) dX2_hires_43 rfl 0 rfl ?_
      refine r_getR (f := 8) (pc := 44) dX2_hires_44 q265 (Or.inl rfl) rfl (fun v16 => ?_)
      refine r_cI (pc := 47) (rest := []) (RunOK_if (fun h => run_F (n := 0) (c9 := 3) (As := []) (rest := []) (t_J2_size γ l hl v16 g14) dX2_hires_47 q1888 q1891 q794 q112 q795 (by decide +kernel) (by decide +kernel) rfl h ⟨by decide, by decide⟩ (Nat.le_of_ble_eq_true rfl) (Nat.le_of_ble_eq_true rfl) rfl (Nat.le_of_ble_eq_true rfl)) (RunOK_chk (fun h => run_F (n := 0) (c9 := 5) (As := []) (rest := []) (t_J4_size γ l hl v16 g14) dX2_hires_47 q1888 q1894 q797 q116 q798 (by decide +kernel) (by decide +kernel) rfl h ⟨by decide, by decide⟩ (Nat.le_of_ble_eq_true rfl) (Nat.le_of_ble_eq_true rfl) rfl (Nat.le_of_ble_eq_true rfl)))) (fun v18 g17 => ?_)
      refine r_iconst (v := (1 : Int32)) (pc := 52) dX2_hires_52 (by decide) ?_
      refine r_isub (pc := 53) dX2_hires_53 ?_
      exact r_inl (fun _ => rfl) (r_iret (pc := 54) dX2_hires_54 rfl)
  · skip
    refine r_icmp_ge (tgt := 18) (pc := 11) dX2_hires_11 (by decide) ?_ ?_
    · skip
      refine r_iconst (v := (0 : Int32)) (pc := 18) dX2_hires_18 (by decide) ?_
      exact h_j6 (0 : Int32) g2
    · skip
      refine r_iconst (v := (1 : Int32)) (pc := 14) dX2_hires_14 (by decide) ?_
      refine r_goto (tgt := 19) (pc := 15) dX2_hires_15 (by decide) ?_
      exact h_j6 (1 : Int32) g2
abbrev ck_X1_become : CK := ("BanquetVotes", prog_1_method_13_code, 3, (some .int), "become", [], 5)
def f_X1_become (γ : GP) (x0 : Nat) (x1 : Nat) (x2 : Int32) (g : AH) : Option (Int32 × AH) := gR g x0 2 fun v1 => bI ((if hK g v1 = 5 then f_J4_size γ v1 g else none)) fun v3 g2 => jn (fun (g4 : AH) => gR g4 x0 2 fun v6 => gR g4 x0 0 fun v7 => bV ((if hK g4 v6 = 5 then f_J4_addLast γ v6 v7 g4 else none)) fun g8 => pR γ g8 x0 0 x1 fun g9 => (some (x2, g9))) (fun (j5 : AH → Option (Int32 × AH)) => (if v3 = (8 : Int32) then gR g2 x0 2 fun v10 => bR ((if hK g2 v10 = 5 then f_J4_removeFirst γ v10 g2 else none)) fun v12 g11 => j5 g11 else j5 g2))
theorem t_X1_become (γ : GP) (l : Launch) (hl : l.stackTraces = false) (x0 : Nat) (x1 : Nat) (x2 : Int32) (g : AH) : TrM ρI γ l ⟨"BanquetVotes", "become", "(LBanquetVotes$Kitchen;I)I"⟩ (ws_ ⟨"BanquetVotes", "become", "(LBanquetVotes$Kitchen;I)I"⟩ prog_1_method_13_code 3 (some .int)) 5 [.ref x0, .ref x1, .int x2] g (f_X1_become γ x0 x1 x2 g) := by
  refine TrM_of (plainFor_of_name (by decide)) (Nat.le_of_ble_eq_true rfl) ?_
  unfold f_X1_become
  change AW ρI γ l ck_X1_become g 0 [(0, .ref x0), (1, .ref x1), (2, .int x2)] [] g _
  refine r_aload_n (pc := 0) dX1_become_0 rfl 0 rfl ?_
  refine r_getR (f := 2) (pc := 1) dX1_become_1 q322 (Or.inl rfl) rfl (fun v1 => ?_)
  refine r_cI (pc := 4) (rest := []) (RunOK_chk (fun h => run_V (n := 0) (c9 := 5) (As := []) (rest := []) (t_J4_size γ l hl v1 g) dX1_become_4 q1930 q797 q3899 q116 q798 (by decide +kernel) rfl h ⟨rfl, by decide, by decide⟩ (Nat.le_of_ble_eq_true rfl) (Nat.le_of_ble_eq_true rfl) rfl (Nat.le_of_ble_eq_true rfl))) (fun v3 g2 => ?_)
  refine r_bipush (v := (8 : Int32)) (pc := 7) dX1_become_7 (by decide) ?_
  refine AW_jn (P := fun (j : AH → Option (Int32 × AH)) => ∀ (g4 : AH), AW ρI γ l ck_X1_become g 20 [(0, .ref x0), (1, .ref x1), (2, .int x2)] [] g4 (j g4)) (fun g4 => ?_) (fun j5 h_j5 => ?_)
  · skip
    refine r_aload_n (pc := 20) dX1_become_20 rfl 0 rfl ?_
    refine r_getR (f := 2) (pc := 21) dX1_become_21 q322 (Or.inl rfl) rfl (fun v6 => ?_)
    refine r_aload_n (pc := 24) dX1_become_24 rfl 0 rfl ?_
    refine r_getR (f := 0) (pc := 25) dX1_become_25 q320 (Or.inl rfl) rfl (fun v7 => ?_)
    refine r_cV (pc := 28) (rest := []) (RunOK_chk (fun h => run_V (n := 1) (c9 := 5) (As := [.ref v7]) (rest := []) (t_J4_addLast γ l hl v6 v7 g4) dX1_become_28 q1941 q1942 q1943 q116 q1944 (by decide +kernel) rfl h ⟨rfl, by decide, by decide⟩ (Nat.le_of_ble_eq_true rfl) (Nat.le_of_ble_eq_true rfl) rfl (Nat.le_of_ble_eq_true rfl))) (fun g8 => ?_)
    refine r_aload_n (pc := 31) dX1_become_31 rfl 0 rfl ?_
    refine r_aload_n (pc := 32) dX1_become_32 rfl 1 rfl ?_
    refine r_putR (f := 0) (pc := 33) dX1_become_33 q320 (Or.inl rfl) (Or.inl rfl) rfl (fun g9 => ?_)
    refine r_iload_n (pc := 36) dX1_become_36 rfl 2 rfl ?_
    exact r_iret (pc := 37) dX1_become_37 rfl
  · skip
    refine r_icmp_ne (tgt := 20) (pc := 9) dX1_become_9 (by decide) ?_ ?_
    · skip
      refine r_aload_n (pc := 12) dX1_become_12 rfl 0 rfl ?_
      refine r_getR (f := 2) (pc := 13) dX1_become_13 q322 (Or.inl rfl) rfl (fun v10 => ?_)
      refine r_cR (pc := 16) (rest := []) (RunOK_chk (fun h => run_V (n := 0) (c9 := 5) (As := []) (rest := []) (t_J4_removeFirst γ l hl v10 g2) dX1_become_16 q1931 q1932 q1933 q116 q1934 (by decide +kernel) rfl h ⟨rfl, by decide, by decide⟩ (Nat.le_of_ble_eq_true rfl) (Nat.le_of_ble_eq_true rfl) rfl (Nat.le_of_ble_eq_true rfl))) (fun v12 g11 => ?_)
      refine r_pop (pc := 19) dX1_become_19 rfl ?_
      exact h_j5 g11
    · skip
      exact h_j5 g2
abbrev ck_X10_reason : CK := ("BanquetVotes$Refusal", prog_19_method_2_code, 1, (some .int), "reason", [], 1)
def f_X10_reason (γ : GP) (x0 : Nat) (g : AH) : Option (Int32 × AH) := gI g x0 103 fun v1 => (some (v1, g))
theorem t_X10_reason (γ : GP) (l : Launch) (hl : l.stackTraces = false) (x0 : Nat) (g : AH) : TrM ρI γ l ⟨"BanquetVotes$Refusal", "reason", "()I"⟩ (ws_ ⟨"BanquetVotes$Refusal", "reason", "()I"⟩ prog_19_method_2_code 1 (some .int)) 1 [.ref x0] g (f_X10_reason γ x0 g) := by
  refine TrM_of (plainFor_of_name (by decide)) (Nat.le_of_ble_eq_true rfl) ?_
  unfold f_X10_reason
  change AW ρI γ l ck_X10_reason g 0 [(0, .ref x0)] [] g _
  refine r_aload_n (pc := 0) dX10_reason_0 rfl 0 rfl ?_
  refine r_getI (f := 103) (pc := 1) dX10_reason_1 q1917 (Or.inl rfl) rfl (fun v1 => ?_)
  exact r_iret (pc := 4) dX10_reason_4 rfl
abbrev ck_X10_detail : CK := ("BanquetVotes$Refusal", prog_19_method_3_code, 1, (some .int), "detail", [], 1)
def f_X10_detail (γ : GP) (x0 : Nat) (g : AH) : Option (Int32 × AH) := gI g x0 104 fun v1 => (some (v1, g))
theorem t_X10_detail (γ : GP) (l : Launch) (hl : l.stackTraces = false) (x0 : Nat) (g : AH) : TrM ρI γ l ⟨"BanquetVotes$Refusal", "detail", "()I"⟩ (ws_ ⟨"BanquetVotes$Refusal", "detail", "()I"⟩ prog_19_method_3_code 1 (some .int)) 1 [.ref x0] g (f_X10_detail γ x0 g) := by
  refine TrM_of (plainFor_of_name (by decide)) (Nat.le_of_ble_eq_true rfl) ?_
  unfold f_X10_detail
  change AW ρI γ l ck_X10_detail g 0 [(0, .ref x0)] [] g _
  refine r_aload_n (pc := 0) dX10_detail_0 rfl 0 rfl ?_
  refine r_getI (f := 104) (pc := 1) dX10_detail_1 q1918 (Or.inl rfl) rfl (fun v1 => ?_)
  exact r_iret (pc := 4) dX10_detail_4 rfl
abbrev ck_X1_refused : CK := ("BanquetVotes", prog_1_method_14_code, 2, (some (.object "java/lang/UnsupportedOperationException")), "refused", [], 8)
def f_X1_refused (γ : GP) (x0 : Nat) (x1 : Nat) (g : AH) : Option (Nat × AH) := bI ((if hK g x1 = 24 then f_X10_reason γ x1 g else none)) fun v2 g1 => pI γ g1 x0 5 v2 fun g3 => bI ((if hK g3 x1 = 24 then f_X10_detail γ x1 g3 else none)) fun v5 g4 => pI γ g4 x0 6 v5 fun g6 => mO g6 25 fun q7 g8 => bV ((if q7 ≠ 0 then f_J40_init γ q7 g8 else none)) fun g9 => (some (q7, g9))
theorem t_X1_refused (γ : GP) (l : Launch) (hl : l.stackTraces = false) (x0 : Nat) (x1 : Nat) (g : AH) : TrM ρR γ l ⟨"BanquetVotes", "refused", "(LBanquetVotes$Refusal;)Ljava/lang/UnsupportedOperationException;"⟩ (ws_ ⟨"BanquetVotes", "refused", "(LBanquetVotes$Refusal;)Ljava/lang/UnsupportedOperationException;"⟩ prog_1_method_14_code 2 (some (.object "java/lang/UnsupportedOperationException"))) 8 [.ref x0, .ref x1] g (f_X1_refused γ x0 x1 g) := by
  refine TrM_of (plainFor_of_name (by decide)) (Nat.le_of_ble_eq_true rfl) ?_
  unfold f_X1_refused
  change AW ρR γ l ck_X1_refused g 0 [(0, .ref x0), (1, .ref x1)] [] g _
  refine r_aload_n (pc := 0) dX1_refused_0 rfl 0 rfl ?_
  refine r_aload_n (pc := 1) dX1_refused_1 rfl 1 rfl ?_
  refine r_cI (pc := 2) (rest := [.ref x0]) (RunOK_chk (fun h => run_V (n := 0) (c9 := 24) (As := []) (rest := [.ref x0]) (t_X10_reason γ l hl x1 g) dX1_refused_2 q1949 q1950 q1951 q161 q1952 (by decide +kernel) rfl h ⟨rfl, by decide, by decide⟩ (Nat.le_of_ble_eq_true rfl) (Nat.le_of_ble_eq_true rfl) rfl (Nat.le_of_ble_eq_true rfl))) (fun v2 g1 => ?_)
  refine r_putI (f := 5) (pc := 5) dX1_refused_5 q325 (Or.inl rfl) (Or.inl rfl) rfl (fun g3 => ?_)
  refine r_aload_n (pc := 8) dX1_refused_8 rfl 0 rfl ?_
  refine r_aload_n (pc := 9) dX1_refused_9 rfl 1 rfl ?_
  refine r_cI (pc := 10) (rest := [.ref x0]) (RunOK_chk (fun h => run_V (n := 0) (c9 := 24) (As := []) (rest := [.ref x0]) (t_X10_detail γ l hl x1 g3) dX1_refused_10 q1953 q1954 q1955 q161 q1956 (by decide +kernel) rfl h ⟨rfl, by decide, by decide⟩ (Nat.le_of_ble_eq_true rfl) (Nat.le_of_ble_eq_true rfl) rfl (Nat.le_of_ble_eq_true rfl))) (fun v5 g4 => ?_)
  refine r_putI (f := 6) (pc := 13) dX1_refused_13 q326 (Or.inl rfl) (Or.inl rfl) rfl (fun g6 => ?_)
  refine r_new (c := 25) (pc := 16) dX1_refused_16 q1957 (by decide) (by decide) (fun q7 g8 => ?_)
  refine r_dup (pc := 19) dX1_refused_19 rfl ?_
  refine r_cV (pc := 20) (rest := [.ref q7]) (RunOK_chk (fun h => run_I (n := 0) (As := []) (rest := [.ref q7]) (t_J40_init γ l hl q7 g8) dX1_refused_20 q1966 q1967 q162 q1968 rfl (by decide +kernel) rfl h (Nat.le_of_ble_eq_true rfl) (Nat.le_of_ble_eq_true rfl) rfl (Nat.le_of_ble_eq_true rfl))) (fun g9 => ?_)
  exact r_aret (pc := 23) dX1_refused_23 rfl (by first | exact Or.inl ⟨_, rfl⟩ | exact Or.inr ⟨_, rfl⟩)
abbrev ck_X1_cook : CK := ("BanquetVotes", prog_1_method_16_code, 4, (some .int), "cook", [(17, 27, 28, 1)], 10)
def f_X1_cook (γ : GP) (x0 : Nat) (x1 : Int32) (g : AH) : Option ((Int32 × AH) ⊕ (Nat × AH)) := bI (f_X1_isIn γ x1 (1 : Int32) (5 : Int32) g) fun v2 g1 => bXV (f_X1_require γ v2 g1) (fun e4 g5 => (thr e4 g5)) fun g3 => gR g3 x0 0 fun v6 => bR ((if hK g3 v6 = 2 then f_X2_copy γ v6 g3 else none)) fun v8 g7 => bXI ((if hK g7 v8 = 2 then f_X2_hires γ v8 x1 g7 else none)) (fun e11 g12 => (if hK g12 e11 = 24 then bR ((if hK g12 x0 = 1 then f_X1_refused γ x0 e11 g12 else none)) fun v14 g13 => (tw γ g13 v14 (thr v14 g13)) else none)) fun v10 g9 => bI ((if hK g9 x0 = 1 then f_X1_become γ x0 v8 v10 g9 else none)) fun v16 g15 => (some (.inl (v16, g15)))
theorem t_X1_cook (γ : GP) (l : Launch) (hl : l.stackTraces = false) (x0 : Nat) (x1 : Int32) (g : AH) : TrM (ρX ρI) γ l ⟨"BanquetVotes", "cook", "(I)I"⟩ (wsW_ ⟨"BanquetVotes", "cook", "(I)I"⟩ prog_1_method_16_code 4 (some .int) [(17, 27, 28, 1)]) 10 [.ref x0, .int x1] g (f_X1_cook γ x0 x1 g) := by
  refine TrM_ofH (by decide) (Nat.le_of_ble_eq_true rfl) ?_
  unfold f_X1_cook
  change AW (ρX ρI) γ l ck_X1_cook g 0 [(0, .ref x0), (1, .int x1)] [] g _
  refine r_iload_n (pc := 0) dX1_cook_0 rfl 1 rfl ?_
  refine r_iconst (v := (1 : Int32)) (pc := 1) dX1_cook_1 (by decide) ?_
  refine r_iconst (v := (5 : Int32)) (pc := 2) dX1_cook_2 (by decide) ?_
  refine r_cI (pc := 3) (rest := []) (run_S (n := 3) (As := [.int x1, .int (1 : Int32), .int (5 : Int32)]) (rest := []) (t_X1_isIn γ l hl x1 (1 : Int32) (5 : Int32) g) dX1_cook_3 q1208 q1209 q108 q1210 (by decide +kernel) rfl (Nat.le_of_ble_eq_true rfl) (Nat.le_of_ble_eq_true rfl) rfl (Nat.le_of_ble_eq_true rfl)) (fun v2 g1 => ?_)
  refine r_cXV (pc := 6) (rest := []) (run_S (n := 1) (As := [.int v2]) (rest := []) (t_X1_require γ l hl v2 g1) dX1_cook_6 q1211 q1212 q108 q1213 (by decide +kernel) rfl (Nat.le_of_ble_eq_true rfl) (Nat.le_of_ble_eq_true rfl) rfl (Nat.le_of_ble_eq_true rfl)) (fun e4 g5 => ?_) (fun g3 => ?_)
  · skip
    exact x_out (by decide)
  · skip
    refine r_aload_n (pc := 9) dX1_cook_9 rfl 0 rfl ?_
    refine r_getR (f := 0) (pc := 10) dX1_cook_10 q320 (Or.inl rfl) rfl (fun v6 => ?_)
    refine r_cR (pc := 13) (rest := []) (RunOK_chk (fun h => run_V (n := 0) (c9 := 2) (As := []) (rest := []) (t_X2_copy γ l hl v6 g3) dX1_cook_13 q1219 q1220 q1221 q109 q1222 (by decide +kernel) rfl h ⟨rfl, by decide, by decide⟩ (Nat.le_of_ble_eq_true rfl) (Nat.le_of_ble_eq_true rfl) rfl (Nat.le_of_ble_eq_true rfl))) (fun v8 g7 => ?_)
    refine r_astore_n (pc := 16) dX1_cook_16 rfl (Nat.le_of_ble_eq_true rfl) rfl ?_
    refine r_aload_n (pc := 17) dX1_cook_17 rfl 1 rfl ?_
    refine r_aload_n (pc := 18) dX1_cook_18 rfl 0 rfl ?_
    refine r_aload_n (pc := 19) dX1_cook_19 rfl 0 rfl ?_
    refine r_iload_n (pc := 20) dX1_cook_20 rfl 2 rfl ?_
    refine r_cXI (pc := 21) (rest := [.ref v8, .ref x0]) (RunOK_chk (fun h => run_V (n := 1) (c9 := 2) (As := [.int x1]) (rest := [.ref v8, .ref x0]) (t_X2_hires γ l hl v8 x1 g7) dX1_cook_21 q1883 q1884 q1885 q109 q1886 (by decide +kernel) rfl h ⟨rfl, by decide, by decide⟩ (Nat.le_of_ble_eq_true rfl) (Nat.le_of_ble_eq_true rfl) rfl (Nat.le_of_ble_eq_true rfl))) (fun e11 g12 => ?_) (fun v10 g9 => ?_)
    · skip
      refine AX_if (fun hc => ?_) (fun _ => ?_)
      · refine x_catch [] (17, 27, 28, 1) [] rfl hc ((fun _ h => absurd h List.not_mem_nil)) (by decide) (by decide) q1207 mv1901 ?_
        refine r_astore_n (pc := 28) dX1_cook_28 rfl (Nat.le_of_ble_eq_true rfl) rfl ?_
        refine r_aload_n (pc := 29) dX1_cook_29 rfl 2 rfl ?_
        refine r_aload_n (pc := 30) dX1_cook_30 rfl 0 rfl ?_
        refine r_cR (pc := 31) (rest := []) (RunOK_chk (fun h => run_V (n := 1) (c9 := 1) (As := [.ref e11]) (rest := []) (t_X1_refused γ l hl x0 e11 g12) dX1_cook_31 q1945 q1947 qs19 q108 q1948 (by decide +kernel) rfl h ⟨rfl, by decide, by decide⟩ (Nat.le_of_ble_eq_true rfl) (Nat.le_of_ble_eq_true rfl) rfl (Nat.le_of_ble_eq_true rfl))) (fun v14 g13 => ?_)
        refine r_athrow (pc := 34) dX1_cook_34 ?_
        exact x_out (by decide)
      · skip
        exact fun r h => by cases h
    · skip
      refine r_cI (pc := 24) (rest := []) (RunOK_chk (fun h => run_V (n := 2) (c9 := 1) (As := [.ref v8, .int v10]) (rest := []) (t_X1_become γ l hl x0 v8 v10 g9) dX1_cook_24 q1926 q1928 qs17 q108 q1929 (by decide +kernel) rfl h ⟨rfl, by decide, by decide⟩ (Nat.le_of_ble_eq_true rfl) (Nat.le_of_ble_eq_true rfl) rfl (Nat.le_of_ble_eq_true rfl))) (fun v16 g15 => ?_)
      exact r_inl (fun _ => rfl) (r_iret (pc := 27) dX1_cook_27 rfl)
abbrev ck_X2_cooks : CK := ("BanquetVotes$Kitchen", prog_14_method_3_code, 1, (some (.object "java/util/List")), "cooks", [], 1)
def f_X2_cooks (γ : GP) (x0 : Nat) (g : AH) : Option (Nat × AH) := gR g x0 8 fun v1 => (some (v1, g))
theorem t_X2_cooks (γ : GP) (l : Launch) (hl : l.stackTraces = false) (x0 : Nat) (g : AH) : TrM ρR γ l ⟨"BanquetVotes$Kitchen", "cooks", "()Ljava/util/List;"⟩ (ws_ ⟨"BanquetVotes$Kitchen", "cooks", "()Ljava/util/List;"⟩ prog_14_method_3_code 1 (some (.object "java/util/List"))) 1 [.ref x0] g (f_X2_cooks γ x0 g) := by
  refine TrM_of (plainFor_of_name (by decide)) (Nat.le_of_ble_eq_true rfl) ?_
  unfold f_X2_cooks
  change AW ρR γ l ck_X2_cooks g 0 [(0, .ref x0)] [] g _
  refine r_aload_n (pc := 0) dX2_cooks_0 rfl 0 rfl ?_
  refine r_getR (f := 8) (pc := 1) dX2_cooks_1 q265 (Or.inl rfl) rfl (fun v1 => ?_)
  exact r_aret (pc := 4) dX2_cooks_4 rfl (by first | exact Or.inl ⟨_, rfl⟩ | exact Or.inr ⟨_, rfl⟩)
abbrev ck_X1_requireIndex : CK := ("BanquetVotes", prog_1_method_8_code, 3, none, "requireIndex", [], 8)
def f_X1_requireIndex (γ : GP) (x0 : Int32) (x1 : Int32) (x2 : Int32) (g : AH) : Option ((AH) ⊕ (Nat × AH)) := bI (f_X1_isIn γ x0 x1 (x2 - (1 : Int32)) g) fun v2 g1 => (if v2 = 0 then mO g1 11 fun q3 g4 => bV ((if q3 ≠ 0 then f_J14_init_2 γ q3 g4 else none)) fun g5 => (tw γ g5 q3 (thr q3 g5)) else (some (.inl g1)))
theorem t_X1_requireIndex (γ : GP) (l : Launch) (hl : l.stackTraces = false) (x0 : Int32) (x1 : Int32) (x2 : Int32) (g : AH) : TrM (ρX ρV) γ l ⟨"BanquetVotes", "requireIndex", "(III)V"⟩ (ws_ ⟨"BanquetVotes", "requireIndex", "(III)V"⟩ prog_1_method_8_code 3 none) 8 [.int x0, .int x1, .int x2] g (f_X1_requireIndex γ x0 x1 x2 g) := by
  refine TrM_of (plainFor_of_name (by decide)) (Nat.le_of_ble_eq_true rfl) ?_
  unfold f_X1_requireIndex
  change AW (ρX ρV) γ l ck_X1_requireIndex g 0 [(0, .int x0), (1, .int x1), (2, .int x2)] [] g _
  refine r_iload_n (pc := 0) dX1_requireIndex_0 rfl 0 rfl ?_
  refine r_iload_n (pc := 1) dX1_requireIndex_1 rfl 1 rfl ?_
  refine r_iload_n (pc := 2) dX1_requireIndex_2 rfl 2 rfl ?_
  refine r_iconst (v := (1 : Int32)) (pc := 3) dX1_requireIndex_3 (by decide) ?_
  refine r_isub (pc := 4) dX1_requireIndex_4 ?_
  refine r_cI (pc := 5) (rest := []) (run_S (n := 3) (As := [.int x0, .int x1, .int (x2 - (1 : Int32))]) (rest := []) (t_X1_isIn γ l hl x0 x1 (x2 - (1 : Int32)) g) dX1_requireIndex_5 q1208 q1209 q108 q1210 (by decide +kernel) rfl (Nat.le_of_ble_eq_true rfl) (Nat.le_of_ble_eq_true rfl) rfl (Nat.le_of_ble_eq_true rfl)) (fun v2 g1 => ?_)
  refine r_if_ne (tgt := 19) (pc := 8) dX1_requireIndex_8 (by decide) ?_ ?_
  · skip
    refine r_new (c := 11) (pc := 11) dX1_requireIndex_11 q2008 (by decide) (by decide) (fun q3 g4 => ?_)
    refine r_dup (pc := 14) dX1_requireIndex_14 rfl ?_
    refine r_cV (pc := 15) (rest := [.ref q3]) (RunOK_chk (fun h => run_I (n := 0) (As := []) (rest := [.ref q3]) (t_J14_init_2 γ l hl q3 g4) dX1_requireIndex_15 q2009 q2010 q127 q2011 rfl (by decide +kernel) rfl h (Nat.le_of_ble_eq_true rfl) (Nat.le_of_ble_eq_true rfl) rfl (Nat.le_of_ble_eq_true rfl))) (fun g5 => ?_)
    refine r_athrow (pc := 18) dX1_requireIndex_18 ?_
    exact x_out (by decide)
  · skip
    exact r_inl (fun _ => rfl) (r_vret (pc := 19) dX1_requireIndex_19 rfl)
abbrev ck_X1_requireCook : CK := ("BanquetVotes", prog_1_method_9_code, 2, none, "requireCook", [], 9)
def f_X1_requireCook (γ : GP) (x0 : Nat) (x1 : Int32) (g : AH) : Option ((AH) ⊕ (Nat × AH)) := gR g x0 0 fun v1 => bR ((if hK g v1 = 2 then f_X2_cooks γ v1 g else none)) fun v3 g2 => bI ((if hK g2 v3 = 3 then f_J2_size γ v3 g2 else if hK g2 v3 = 5 then f_J4_size γ v3 g2 else none)) fun v5 g4 => bXV (f_X1_requireIndex γ x1 (0 : Int32) v5 g4) (fun e7 g8 => (thr e7 g8)) fun g6 => (some (.inl g6))
theorem t_X1_requireCook (γ : GP) (l : Launch) (hl : l.stackTraces = false) (x0 : Nat) (x1 : Int32) (g : AH) : TrM (ρX ρV) γ l ⟨"BanquetVotes", "requireCook", "(I)V"⟩ (ws_ ⟨"BanquetVotes", "requireCook", "(I)V"⟩ prog_1_method_9_code 2 none) 9 [.ref x0, .int x1] g (f_X1_requireCook γ x0 x1 g) := by
  refine TrM_of (plainFor_of_name (by decide)) (Nat.le_of_ble_eq_true rfl) ?_
  unfold f_X1_requireCook
  change AW (ρX ρV) γ l ck_X1_requireCook g 0 [(0, .ref x0), (1, .int x1)] [] g _
  refine r_iload_n (pc := 0) dX1_requireCook_0 rfl 1 rfl ?_
  refine r_iconst (v := (0 : Int32)) (pc := 1) dX1_requireCook_1 (by decide) ?_
  refine r_aload_n (pc := 2) dX1_requireCook_2 rfl 0 rfl ?_
  refine r_getR (f := 0) (pc := 3) dX1_requireCook_3 q320 (Or.inl rfl) rfl (fun v1 => ?_)
  refine r_cR (pc := 6) (rest := [.int (0 : Int32), .int x1]) (RunOK_chk (fun h => run_V (n := 0) (c9 := 2) (As := []) (rest := [.int (0 : Int32), .int x1]) (t_X2_cooks γ l hl v1 g) dX1_requireCook_6 q1999 q2000 q2001 q109 q2002 (by decide +kernel) rfl h ⟨rfl, by decide, by decide⟩ (Nat.le_of_ble_eq_true rfl) (Nat.le_of_ble_eq_true rfl) rfl (Nat.le_of_ble_eq_true rfl))) (fun v3 g2 => ?_)
  refine r_cI (pc := 9) (rest := [.int (0 : Int32), .int x1]) (RunOK_if (fun h => run_F (n := 0) (c9 := 3) (As := []) (rest := [.int (0 : Int32), .int x1]) (t_J2_size γ l hl v3 g2) dX1_requireCook_9 q2004 q1891 q794 q112 q795 (by decide +kernel) (by decide +kernel) rfl h ⟨by decide, by decide⟩ (Nat.le_of_ble_eq_true rfl) (Nat.le_of_ble_eq_true rfl) rfl (Nat.le_of_ble_eq_true rfl)) (RunOK_chk (fun h => run_F (n := 0) (c9 := 5) (As := []) (rest := [.int (0 : Int32), .int x1]) (t_J4_size γ l hl v3 g2) dX1_requireCook_9 q2004 q1894 q797 q116 q798 (by decide +kernel) (by decide +kernel) rfl h ⟨by decide, by decide⟩ (Nat.le_of_ble_eq_true rfl) (Nat.le_of_ble_eq_true rfl) rfl (Nat.le_of_ble_eq_true rfl)))) (fun v5 g4 => ?_)
  refine r_cXV (pc := 14) (rest := []) (run_S (n := 3) (As := [.int x1, .int (0 : Int32), .int v5]) (rest := []) (t_X1_requireIndex γ l hl x1 (0 : Int32) v5 g4) dX1_requireCook_14 q2005 q2006 q108 q2007 (by decide +kernel) rfl (Nat.le_of_ble_eq_true rfl) (Nat.le_of_ble_eq_true rfl) rfl (Nat.le_of_ble_eq_true rfl)) (fun e7 g8 => ?_) (fun g6 => ?_)
  · skip
    exact x_out (by decide)
  · skip
    exact r_inl (fun _ => rfl) (r_vret (pc := 17) dX1_requireCook_17 rfl)
abbrev ck_X1_requireIngredient : CK := ("BanquetVotes", prog_1_method_12_code, 1, none, "requireIngredient", [], 9)
def f_X1_requireIngredient (γ : GP) (x0 : Int32) (g : AH) : Option ((AH) ⊕ (Nat × AH)) := bI (f_X1_isIn γ x0 (0 : Int32) (3 : Int32) g) fun v2 g1 => bXV (f_X1_require γ v2 g1) (fun e4 g5 => (thr e4 g5)) fun g3 => (some (.inl g3))
theorem t_X1_requireIngredient (γ : GP) (l : Launch) (hl : l.stackTraces = false) (x0 : Int32) (g : AH) : TrM (ρX ρV) γ l ⟨"BanquetVotes", "requireIngredient", "(I)V"⟩ (ws_ ⟨"BanquetVotes", "requireIngredient", "(I)V"⟩ prog_1_method_12_code 1 none) 9 [.int x0] g (f_X1_requireIngredient γ x0 g) := by
  refine TrM_of (plainFor_of_name (by decide)) (Nat.le_of_ble_eq_true rfl) ?_
  unfold f_X1_requireIngredient
  change AW (ρX ρV) γ l ck_X1_requireIngredient g 0 [(0, .int x0)] [] g _
  refine r_iload_n (pc := 0) dX1_requireIngredient_0 rfl 0 rfl ?_
  refine r_iconst (v := (0 : Int32)) (pc := 1) dX1_requireIngredient_1 (by decide) ?_
  refine r_iconst (v := (3 : Int32)) (pc := 2) dX1_requireIngredient_2 (by decide) ?_
  refine r_cI (pc := 3) (rest := []) (run_S (n := 3) (As := [.int x0, .int (0 : Int32), .int (3 : Int32)]) (rest := []) (t_X1_isIn γ l hl x0 (0 : Int32) (3 : Int32) g) dX1_requireIngredient_3 q1208 q1209 q108 q1210 (by decide +kernel) rfl (Nat.le_of_ble_eq_true rfl) (Nat.le_of_ble_eq_true rfl) rfl (Nat.le_of_ble_eq_true rfl)) (fun v2 g1 => ?_)
  refine r_cXV (pc := 6) (rest := []) (run_S (n := 1) (As := [.int v2]) (rest := []) (t_X1_require γ l hl v2 g1) dX1_requireIngredient_6 q1211 q1212 q108 q1213 (by decide +kernel) rfl (Nat.le_of_ble_eq_true rfl) (Nat.le_of_ble_eq_true rfl) rfl (Nat.le_of_ble_eq_true rfl)) (fun e4 g5 => ?_) (fun g3 => ?_)
  · skip
    exact x_out (by decide)
  · skip
    exact r_inl (fun _ => rfl) (r_vret (pc := 9) dX1_requireIngredient_9 rfl)
abbrev ck_X2_cook : CK := ("BanquetVotes$Kitchen", prog_14_method_4_code, 2, (some (.object "BanquetVotes$Cook")), "cook", [], 4)
def f_X2_cook (γ : GP) (x0 : Nat) (x1 : Int32) (g : AH) : Option (Nat × AH) := gR g x0 8 fun v1 => bR ((if hK g v1 = 3 then f_J2_get γ v1 x1 g else if hK g v1 = 5 then f_J4_get γ v1 x1 g else none)) fun v3 g2 => gC g2 [16] v3 ((some (v3, g2)))
theorem t_X2_cook (γ : GP) (l : Launch) (hl : l.stackTraces = false) (x0 : Nat) (x1 : Int32) (g : AH) : TrM ρR γ l ⟨"BanquetVotes$Kitchen", "cook", "(I)LBanquetVotes$Cook;"⟩ (ws_ ⟨"BanquetVotes$Kitchen", "cook", "(I)LBanquetVotes$Cook;"⟩ prog_14_method_4_code 2 (some (.object "BanquetVotes$Cook"))) 4 [.ref x0, .int x1] g (f_X2_cook γ x0 x1 g) := by
  refine TrM_of (plainFor_of_name (by decide)) (Nat.le_of_ble_eq_true rfl) ?_
  unfold f_X2_cook
  change AW ρR γ l ck_X2_cook g 0 [(0, .ref x0), (1, .int x1)] [] g _
  refine r_aload_n (pc := 0) dX2_cook_0 rfl 0 rfl ?_
  refine r_getR (f := 8) (pc := 1) dX2_cook_1 q265 (Or.inl rfl) rfl (fun v1 => ?_)
  refine r_iload_n (pc := 4) dX2_cook_4 rfl 1 rfl ?_
  refine r_cR (pc := 5) (rest := []) (RunOK_if (fun h => run_F (n := 1) (c9 := 3) (As := [.int x1]) (rest := []) (t_J2_get γ l hl v1 x1 g) dX2_cook_5 q2025 q2028 q844 q112 q845 (by decide +kernel) (by decide +kernel) rfl h ⟨by decide, by decide⟩ (Nat.le_of_ble_eq_true rfl) (Nat.le_of_ble_eq_true rfl) rfl (Nat.le_of_ble_eq_true rfl)) (RunOK_chk (fun h => run_F (n := 1) (c9 := 5) (As := [.int x1]) (rest := []) (t_J4_get γ l hl v1 x1 g) dX2_cook_5 q2025 q2031 q857 q116 q858 (by decide +kernel) (by decide +kernel) rfl h ⟨by decide, by decide⟩ (Nat.le_of_ble_eq_true rfl) (Nat.le_of_ble_eq_true rfl) rfl (Nat.le_of_ble_eq_true rfl)))) (fun v3 g2 => ?_)
  refine r_cast_ (L := [16]) (pc := 10) dX2_cook_10 q1225 (List.forall_mem_cons.mpr ⟨⟨by decide, by decide, Or.inl rfl⟩, (fun _ h => absurd h List.not_mem_nil)⟩) ?_
  exact r_aret (pc := 13) dX2_cook_13 rfl (by first | exact Or.inl ⟨_, rfl⟩ | exact Or.inr ⟨_, rfl⟩)
abbrev ck_X6_stock : CK := ("BanquetVotes$Cook", prog_3_method_4_code, 2, (some .int), "stock", [], 1)
def f_X6_stock (γ : GP) (x0 : Nat) (x1 : Int32) (g : AH) : Option (Int32 × AH) := gR g x0 77 fun v1 => gA g 101 v1 x1 fun v2 => (some (v2, g))
theorem t_X6_stock (γ : GP) (l : Launch) (hl : l.stackTraces = false) (x0 : Nat) (x1 : Int32) (g : AH) : TrM ρI γ l ⟨"BanquetVotes$Cook", "stock", "(I)I"⟩ (ws_ ⟨"BanquetVotes$Cook", "stock", "(I)I"⟩ prog_3_method_4_code 2 (some .int)) 1 [.ref x0, .int x1] g (f_X6_stock γ x0 x1 g) := by
  refine TrM_of (plainFor_of_name (by decide)) (Nat.le_of_ble_eq_true rfl) ?_
  unfold f_X6_stock
  change AW ρI γ l ck_X6_stock g 0 [(0, .ref x0), (1, .int x1)] [] g _
  refine r_aload_n (pc := 0) dX6_stock_0 rfl 0 rfl ?_
  refine r_getR (f := 77) (pc := 1) dX6_stock_1 q1237 (Or.inl rfl) rfl (fun v1 => ?_)
  refine r_iload_n (pc := 4) dX6_stock_4 rfl 1 rfl ?_
  refine r_iald (pc := 5) dX6_stock_5 (fun v2 => ?_)
  exact r_iret (pc := 6) dX6_stock_6 rfl
abbrev ck_X6_gets : CK := ("BanquetVotes$Cook", prog_3_method_6_code, 3, none, "gets", [], 1)
def f_X6_gets (γ : GP) (x0 : Nat) (x1 : Int32) (x2 : Int32) (g : AH) : Option (AH) := gR g x0 77 fun v1 => gA g 101 v1 x1 fun v2 => pA γ g 101 v1 x1 (v2 + x2) fun g3 => gR g3 x0 78 fun v4 => gA g3 101 v4 x1 fun v5 => pA γ g3 101 v4 x1 (v5 + x2) fun g6 => (some g6)
theorem t_X6_gets (γ : GP) (l : Launch) (hl : l.stackTraces = false) (x0 : Nat) (x1 : Int32) (x2 : Int32) (g : AH) : TrM ρV γ l ⟨"BanquetVotes$Cook", "gets", "(II)V"⟩ (ws_ ⟨"BanquetVotes$Cook", "gets", "(II)V"⟩ prog_3_method_6_code 3 none) 1 [.ref x0, .int x1, .int x2] g (f_X6_gets γ x0 x1 x2 g) := by
  refine TrM_of (plainFor_of_name (by decide)) (Nat.le_of_ble_eq_true rfl) ?_
  unfold f_X6_gets
  change AW ρV γ l ck_X6_gets g 0 [(0, .ref x0), (1, .int x1), (2, .int x2)] [] g _
  refine r_aload_n (pc := 0) dX6_gets_0 rfl 0 rfl ?_
  refine r_getR (f := 77) (pc := 1) dX6_gets_1 q1237 (Or.inl rfl) rfl (fun v1 => ?_)
  refine r_iload_n (pc := 4) dX6_gets_4 rfl 1 rfl ?_
  refine r_dup2 (pc := 5) dX6_gets_5 rfl rfl ?_
  refine r_iald (pc := 6) dX6_gets_6 (fun v2 => ?_)
  refine r_iload_n (pc := 7) dX6_gets_7 rfl 2 rfl ?_
  refine r_iadd (pc := 8) dX6_gets_8 ?_
  refine r_iast (pc := 9) dX6_gets_9 (fun g3 => ?_)
  refine r_aload_n (pc := 10) dX6_gets_10 rfl 0 rfl ?_
  refine r_getR (f := 78) (pc := 11) dX6_gets_11 q1238 (Or.inl rfl) rfl (fun v4 => ?_)
  refine r_iload_n (pc := 14) dX6_gets_14 rfl 1 rfl ?_
  refine r_dup2 (pc := 15) dX6_gets_15 rfl rfl ?_
  refine r_iald (pc := 16) dX6_gets_16 (fun v5 => ?_)
  refine r_iload_n (pc := 17) dX6_gets_17 rfl 2 rfl ?_
  refine r_iadd (pc := 18) dX6_gets_18 ?_
  refine r_iast (pc := 19) dX6_gets_19 (fun g6 => ?_)
  exact r_vret (pc := 20) dX6_gets_20 rfl
abbrev ck_X2_brings : CK := ("BanquetVotes$Kitchen", prog_14_method_12_code, 5, (some .int), "brings", [], 8)
def f_X2_brings (γ : GP) (x0 : Nat) (x1 : Int32) (x2 : Int32) (x3 : Int32) (g : AH) : Option ((Int32 × AH) ⊕ (Nat × AH)) := bR ((if hK g x0 = 2 then f_X2_cook γ x0 x1 g else none)) fun v2 g1 => bI ((if hK g1 v2 = 16 then f_X6_stock γ v2 x2 g1 else none)) fun v4 g3 => jn (fun (z5 : Int32) (g6 : AH) => bXV (f_X1_meet γ z5 (2 : Int32) (v4 + x3) g6) (fun e9 g10 => (thr e9 g10)) fun g8 => bR ((if hK g8 x0 = 2 then f_X2_cook γ x0 x1 g8 else none)) fun v12 g11 => bV ((if hK g11 v12 = 16 then f_X6_gets γ v12 x2 x3 g11 else none)) fun g13 => (some (.inl ((v4 + x3), g13)))) (fun (j7 : Int32 → AH → Option ((Int32 × AH) ⊕ (Nat × AH))) => (if (50 : Int32) < (v4 + x3) then j7 (0 : Int32) g3 else j7 (1 : Int32) g3))
theorem t_X2_brings (γ : GP) (l : Launch) (hl : l.stackTraces = false) (x0 : Nat) (x1 : Int32) (x2 : Int32) (x3 : Int32) (g : AH) : TrM (ρX ρI) γ l ⟨"BanquetVotes$Kitchen", "brings", "(III)I"⟩ (ws_ ⟨"BanquetVotes$Kitchen", "brings", "(III)I"⟩ prog_14_method_12_code 5 (some .int)) 8 [.ref x0, .int x1, .int x2, .int x3] g (f_X2_brings γ x0 x1 x2 x3 g) := by
  refine TrM_of (plainFor_of_name (by decide)) (Nat.le_of_ble_eq_true rfl) ?_
  unfold f_X2_brings
  change AW (ρX ρI) γ l ck_X2_brings g 0 [(0, .ref x0), (1, .int x1), (2, .int x2), (3, .int x3)] [] g _
  refine r_aload_n (pc := 0) dX2_brings_0 rfl 0 rfl ?_
  refine r_iload_n (pc := 1) dX2_brings_1 rfl 1 rfl ?_
  refine r_cR (pc := 2) (rest := []) (RunOK_chk (fun h => run_V (n := 1) (c9 := 2) (As := [.int x1]) (rest := []) (t_X2_cook γ l hl x0 x1 g) dX2_brings_2 q2020 q2021 q2022 q109 q2023 (by decide +kernel) rfl h ⟨rfl, by decide, by decide⟩ (Nat.le_of_ble_eq_true rfl) (Nat.le_of_ble_eq_true rfl) rfl (Nat.le_of_ble_eq_true rfl))) (fun v2 g1 => ?_)
  refine r_iload_n (pc := 5) dX2_brings_5 rfl 2 rfl ?_
  refine r_cI (pc := 6) (rest := []) (RunOK_chk (fun h => run_V (n := 1) (c9 := 16) (As := [.int x2]) (rest := []) (t_X6_stock γ l hl v2 x2 g1) dX2_brings_6 q2034 q2035 q2036 q144 q2037 (by decide +kernel) rfl h ⟨rfl, by decide, by decide⟩ (Nat.le_of_ble_eq_true rfl) (Nat.le_of_ble_eq_true rfl) rfl (Nat.le_of_ble_eq_true rfl))) (fun v4 g3 => ?_)
  refine r_iload_n (pc := 9) dX2_brings_9 rfl 3 rfl ?_
  refine r_iadd (pc := 10) dX2_brings_10 ?_
  refine r_istore (pc := 11) dX2_brings_11 (Nat.le_of_ble_eq_true rfl) rfl ?_
  refine r_iload (pc := 13) dX2_brings_13 0 rfl ?_
  refine r_bipush (v := (50 : Int32)) (pc := 15) dX2_brings_15 (by decide) ?_
  refine AW_jn (P := fun (j : Int32 → AH → Option ((Int32 × AH) ⊕ (Nat × AH))) => ∀ (z5 : Int32) (g6 : AH), AW (ρX ρI) γ l ck_X2_brings g 25 [(0, .ref x0), (1, .int x1), (2, .int x2), (3, .int x3), (4, .int (v4 + x3))] [.int z5] g6 (j z5 g6)) (fun z5 g6 => ?_) (fun j7 h_j7 => ?_)
  · skip
    refine r_iconst (v := (2 : Int32)) (pc := 25) dX2_brings_25 (by decide) ?_
    refine r_iload (pc := 26) dX2_brings_26 4 rfl ?_
    refine r_cXV (pc := 28) (rest := []) (run_SN (n := 3) (As := [.int z5, .int (2 : Int32), .int (v4 + x3)]) (rest := []) (t_X1_meet γ l hl z5 (2 : Int32) (v4 + x3) g6) dX2_brings_28 mv1897 q1898 q108 q1899 (by decide +kernel) rfl (Nat.le_of_ble_eq_true rfl) (Nat.le_of_ble_eq_true rfl) rfl (Nat.le_of_ble_eq_true rfl)) (fun e9 g10 => ?_) (fun g8 => ?_)
    · skip
      exact x_out (by decide)
    · skip
      refine r_aload_n (pc := 31) dX2_brings_31 rfl 0 rfl ?_
      refine r_iload_n (pc := 32) dX2_brings_32 rfl 1 rfl ?_
      refine r_cR (pc := 33) (rest := []) (RunOK_chk (fun h => run_V (n := 1) (c9 := 2) (As := [.int x1]) (rest := []) (t_X2_cook γ l hl x0 x1 g8) dX2_brings_33 q2020 q2021 q2022 q109 q2023 (by decide +kernel) rfl h ⟨rfl, by decide, by decide⟩ (Nat.le_of_ble_eq_true rfl) (Nat.le_of_ble_eq_true rfl) rfl (Nat.le_of_ble_eq_true rfl))) (fun v12 g11 => ?_)
      refine r_iload_n (pc := 36) dX2_brings_36 rfl 2 rfl ?_
      refine r_iload_n (pc := 37) dX2_brings_37 rfl 3 rfl ?_
      refine r_cV (pc := 38) (rest := []) (RunOK_chk (fun h => run_V (n := 2) (c9 := 16) (As := [.int x2, .int x3]) (rest := []) (t_X6_gets γ l hl v12 x2 x3 g11) dX2_brings_38 q2038 q2039 q2040 q144 q2041 (by decide +kernel) rfl h ⟨rfl, by decide, by decide⟩ (Nat.le_of_ble_eq_true rfl) (Nat.le_of_ble_eq_true rfl) rfl (Nat.le_of_ble_eq_true rfl))) (fun g13 => ?_)
      refine r_iload (pc := 41) dX2_brings_41 4 rfl ?_
      exact r_inl (fun _ => rfl) (r_iret (pc := 43) dX2_brings_43 rfl)
  · skip
    refine r_icmp_gt (tgt := 24) (pc := 17) dX2_brings_17 (by decide) ?_ ?_
    · skip
      refine r_iconst (v := (0 : Int32)) (pc := 24) dX2_brings_24 (by decide) ?_
      refine AW_sub [1, 2, 3, 4, 0] rfl ?_
      exact h_j7 (0 : Int32) g3
    · skip
      refine r_iconst (v := (1 : Int32)) (pc := 20) dX2_brings_20 (by decide) ?_
      refine r_goto (tgt := 25) (pc := 21) dX2_brings_21 (by decide) ?_
      refine AW_sub [1, 2, 3, 4, 0] rfl ?_
      exact h_j7 (1 : Int32) g3
abbrev ck_X1_stock : CK := ("BanquetVotes", prog_1_method_17_code, 6, (some .int), "stock", [(28, 42, 43, 1)], 10)
def f_X1_stock (γ : GP) (x0 : Nat) (x1 : Int32) (x2 : Int32) (x3 : Int32) (g : AH) : Option ((Int32 × AH) ⊕ (Nat × AH)) := bXV ((if hK g x0 = 1 then f_X1_requireCook γ x0 x1 g else none)) (fun e2 g3 => (thr e2 g3)) fun g1 => bXV (f_X1_requireIngredient γ x2 g1) (fun e5 g6 => (thr e5 g6)) fun g4 => bI (f_X1_isIn γ x3 (1 : Int32) (50 : Int32) g4) fun v8 g7 => bXV (f_X1_require γ v8 g7) (fun e10 g11 => (thr e10 g11)) fun g9 => gR g9 x0 0 fun v12 => bR ((if hK g9 v12 = 2 then f_X2_copy γ v12 g9 else none)) fun v14 g13 => bXI ((if hK g13 v14 = 2 then f_X2_brings γ v14 x1 x2 x3 g13 else none)) (fun e17 g18 => (if hK g18 e17 = 24 then bR ((if hK g18 x0 = 1 then f_X1_refused γ x0 e17 g18 else none)) fun v20 g19 => (tw γ g19 v20 (thr v20 g19)) else none)) fun v16 g15 => bI ((if hK g15 x0 = 1 then f_X1_become γ x0 v14 v16 g15 else none)) fun v22 g21 => (some (.inl (v22, g21)))
theorem t_X1_stock (γ : GP) (l : Launch) (hl : l.stackTraces = false) (x0 : Nat) (x1 : Int32) (x2 : Int32) (x3 : Int32) (g : AH) : TrM (ρX ρI) γ l ⟨"BanquetVotes", "stock", "(III)I"⟩ (wsW_ ⟨"BanquetVotes", "stock", "(III)I"⟩ prog_1_method_17_code 6 (some .int) [(28, 42, 43, 1)]) 10 [.ref x0, .int x1, .int x2, .int x3] g (f_X1_stock γ x0 x1 x2 x3 g) := by
  refine TrM_ofH (by decide) (Nat.le_of_ble_eq_true rfl) ?_
  unfold f_X1_stock
  change AW (ρX ρI) γ l ck_X1_stock g 0 [(0, .ref x0), (1, .int x1), (2, .int x2), (3, .int x3)] [] g _
  refine r_aload_n (pc := 0) dX1_stock_0 rfl 0 rfl ?_
  refine r_iload_n (pc := 1) dX1_stock_1 rfl 1 rfl ?_
  refine r_cXV (pc := 2) (rest := []) (RunOK_chk (fun h => run_V (n := 1) (c9 := 1) (As := [.int x1]) (rest := []) (t_X1_requireCook γ l hl x0 x1 g) dX1_stock_2 q1995 q1997 qs20 q108 q1998 (by decide +kernel) rfl h ⟨rfl, by decide, by decide⟩ (Nat.le_of_ble_eq_true rfl) (Nat.le_of_ble_eq_true rfl) rfl (Nat.le_of_ble_eq_true rfl))) (fun e2 g3 => ?_) (fun g1 => ?_)
  · skip
    exact x_out (by decide)
  · skip
    refine r_iload_n (pc := 5) dX1_stock_5 rfl 2 rfl ?_
    refine r_cXV (pc := 6) (rest := []) (run_S (n := 1) (As := [.int x2]) (rest := []) (t_X1_requireIngredient γ l hl x2 g1) dX1_stock_6 q2013 q2014 q108 q2015 (by decide +kernel) rfl (Nat.le_of_ble_eq_true rfl) (Nat.le_of_ble_eq_true rfl) rfl (Nat.le_of_ble_eq_true rfl)) (fun e5 g6 => ?_) (fun g4 => ?_)
    · skip
      exact x_out (by decide)
    · skip
      refine r_iload_n (pc := 9) dX1_stock_9 rfl 3 rfl ?_
      refine r_iconst (v := (1 : Int32)) (pc := 10) dX1_stock_10 (by decide) ?_
      refine r_bipush (v := (50 : Int32)) (pc := 11) dX1_stock_11 (by decide) ?_
      refine r_cI (pc := 13) (rest := []) (run_S (n := 3) (As := [.int x3, .int (1 : Int32), .int (50 : Int32)]) (rest := []) (t_X1_isIn γ l hl x3 (1 : Int32) (50 : Int32) g4) dX1_stock_13 q1208 q1209 q108 q1210 (by decide +kernel) rfl (Nat.le_of_ble_eq_true rfl) (Nat.le_of_ble_eq_true rfl) rfl (Nat.le_of_ble_eq_true rfl)) (fun v8 g7 => ?_)
      refine r_cXV (pc := 16) (rest := []) (run_S (n := 1) (As := [.int v8]) (rest := []) (t_X1_require γ l hl v8 g7) dX1_stock_16 q1211 q1212 q108 q1213 (by decide +kernel) rfl (Nat.le_of_ble_eq_true rfl) (Nat.le_of_ble_eq_true rfl) rfl (Nat.le_of_ble_eq_true rfl)) (fun e10 g11 => ?_) (fun g9 => ?_)
      · skip
        exact x_out (by decide)
      · skip
        refine r_aload_n (pc := 19) dX1_stock_19 rfl 0 rfl ?_
        refine r_getR (f := 0) (pc := 20) dX1_stock_20 q320 (Or.inl rfl) rfl (fun v12 => ?_)
        refine r_cR (pc := 23) (rest := []) (RunOK_chk (fun h => run_V (n := 0) (c9 := 2) (As := []) (rest := []) (t_X2_copy γ l hl v12 g9) dX1_stock_23 q1219 q1220 q1221 q109 q1222 (by decide +kernel) rfl h ⟨rfl, by decide, by decide⟩ (Nat.le_of_ble_eq_true rfl) (Nat.le_of_ble_eq_true rfl) rfl (Nat.le_of_ble_eq_true rfl))) (fun v14 g13 => ?_)
        refine r_astore (pc := 26) dX1_stock_26 (Nat.le_of_ble_eq_true rfl) rfl ?_
        refine r_aload_n (pc := 28) dX1_stock_28 rfl 1 rfl ?_
        refine r_aload (pc := 29) dX1_stock_29 0 rfl ?_
        refine r_aload (pc := 31) dX1_stock_31 0 rfl ?_
        refine r_iload_n (pc := 33) dX1_stock_33 rfl 2 rfl ?_
        refine r_iload_n (pc := 34) dX1_stock_34 rfl 3 rfl ?_
        refine r_iload_n (pc := 35) dX1_stock_35 rfl 4 rfl ?_
        refine r_cXI (pc := 36) (rest := [.ref v14, .ref x0]) (RunOK_chk (fun h => run_V (n := 3) (c9 := 2) (As := [.int x1, .int x2, .int x3]) (rest := [.ref v14, .ref x0]) (t_X2_brings γ l hl v14 x1 x2 x3 g13) dX1_stock_36 q2016 q2017 q2018 q109 q2019 (by decide +kernel) rfl h ⟨rfl, by decide, by decide⟩ (Nat.le_of_ble_eq_true rfl) (Nat.le_of_ble_eq_true rfl) rfl (Nat.le_of_ble_eq_true rfl))) (fun e17 g18 => ?_) (fun v16 g15 => ?_)
        · skip
          refine AX_if (fun hc => ?_) (fun _ => ?_)
          · refine x_catch [] (28, 42, 43, 1) [] rfl hc ((fun _ h => absurd h List.not_mem_nil)) (by decide) (by decide) q1207 mv1901 ?_
            refine r_astore (pc := 43) dX1_stock_43 (Nat.le_of_ble_eq_true rfl) rfl ?_
            refine r_aload_n (pc := 45) dX1_stock_45 rfl 2 rfl ?_
            refine r_aload (pc := 46) dX1_stock_46 0 rfl ?_
            refine r_cR (pc := 48) (rest := []) (RunOK_chk (fun h => run_V (n := 1) (c9 := 1) (As := [.ref e17]) (rest := []) (t_X1_refused γ l hl x0 e17 g18) dX1_stock_48 q1945 q1947 qs19 q108 q1948 (by decide +kernel) rfl h ⟨rfl, by decide, by decide⟩ (Nat.le_of_ble_eq_true rfl) (Nat.le_of_ble_eq_true rfl) rfl (Nat.le_of_ble_eq_true rfl))) (fun v20 g19 => ?_)
            refine r_athrow (pc := 51) dX1_stock_51 ?_
            exact x_out (by decide)
          · skip
            exact fun r h => by cases h
        · skip
          refine r_cI (pc := 39) (rest := []) (RunOK_chk (fun h => run_V (n := 2) (c9 := 1) (As := [.ref v14, .int v16]) (rest := []) (t_X1_become γ l hl x0 v14 v16 g15) dX1_stock_39 q1926 q1928 qs17 q108 q1929 (by decide +kernel) rfl h ⟨rfl, by decide, by decide⟩ (Nat.le_of_ble_eq_true rfl) (Nat.le_of_ble_eq_true rfl) rfl (Nat.le_of_ble_eq_true rfl))) (fun v22 g21 => ?_)
          exact r_inl (fun _ => rfl) (r_iret (pc := 42) dX1_stock_42 rfl)
abbrev ck_X6_distance : CK := ("BanquetVotes$Cook", prog_3_method_3_code, 1, (some .int), "distance", [], 1)
def f_X6_distance (γ : GP) (x0 : Nat) (g : AH) : Option (Int32 × AH) := gI g x0 76 fun v1 => (some (v1, g))
theorem t_X6_distance (γ : GP) (l : Launch) (hl : l.stackTraces = false) (x0 : Nat) (g : AH) : TrM ρI γ l ⟨"BanquetVotes$Cook", "distance", "()I"⟩ (ws_ ⟨"BanquetVotes$Cook", "distance", "()I"⟩ prog_3_method_3_code 1 (some .int)) 1 [.ref x0] g (f_X6_distance γ x0 g) := by
  refine TrM_of (plainFor_of_name (by decide)) (Nat.le_of_ble_eq_true rfl) ?_
  unfold f_X6_distance
  change AW ρI γ l ck_X6_distance g 0 [(0, .ref x0)] [] g _
  refine r_aload_n (pc := 0) dX6_distance_0 rfl 0 rfl ?_
  refine r_getI (f := 76) (pc := 1) dX6_distance_1 q1236 (Or.inl rfl) rfl (fun v1 => ?_)
  exact r_iret (pc := 4) dX6_distance_4 rfl
abbrev ck_X3_hasFainted : CK := ("BanquetVotes$Somebody", prog_20_method_2_code, 1, (some .boolean), "hasFainted", [], 1)
def f_X3_hasFainted (γ : GP) (x0 : Nat) (g : AH) : Option (Int32 × AH) := gI g x0 17 fun v1 => (rtN .boolean v1 g)
theorem t_X3_hasFainted (γ : GP) (l : Launch) (hl : l.stackTraces = false) (x0 : Nat) (g : AH) : TrM ρI γ l ⟨"BanquetVotes$Somebody", "hasFainted", "()Z"⟩ (ws_ ⟨"BanquetVotes$Somebody", "hasFainted", "()Z"⟩ prog_20_method_2_code 1 (some .boolean)) 1 [.ref x0] g (f_X3_hasFainted γ x0 g) := by
  refine TrM_of (plainFor_of_name (by decide)) (Nat.le_of_ble_eq_true rfl) ?_
  unfold f_X3_hasFainted
  change AW ρI γ l ck_X3_hasFainted g 0 [(0, .ref x0)] [] g _
  refine r_aload_n (pc := 0) dX3_hasFainted_0 rfl 0 rfl ?_
  refine r_getI (f := 17) (pc := 1) dX3_hasFainted_1 q237 (Or.inl rfl) rfl (fun v1 => ?_)
  exact r_zret (ty := .boolean) (pc := 4) dX3_hasFainted_4 rfl
abbrev ck_X7_of : CK := ("BanquetVotes$Course", prog_4_method_4_code, 2, (some (.object "BanquetVotes$Dish")), "of", [], 6)
def f_X7_of (γ : GP) (x0 : Nat) (x1 : Int32) (g : AH) : Option (Nat × AH) := gR g x0 87 fun v1 => bR (f_J21_valueOf γ x1 g) fun v3 g2 => bR ((if hK g2 v1 = 15 then f_J28_get γ v1 v3 g2 else none)) fun v5 g4 => gC g4 [22] v5 ((some (v5, g4)))
theorem t_X7_of (γ : GP) (l : Launch) (hl : l.stackTraces = false) (x0 : Nat) (x1 : Int32) (g : AH) : TrM ρR γ l ⟨"BanquetVotes$Course", "of", "(I)LBanquetVotes$Dish;"⟩ (ws_ ⟨"BanquetVotes$Course", "of", "(I)LBanquetVotes$Dish;"⟩ prog_4_method_4_code 2 (some (.object "BanquetVotes$Dish"))) 6 [.ref x0, .int x1] g (f_X7_of γ x0 x1 g) := by
  refine TrM_of (plainFor_of_name (by decide)) (Nat.le_of_ble_eq_true rfl) ?_
  unfold f_X7_of
  change AW ρR γ l ck_X7_of g 0 [(0, .ref x0), (1, .int x1)] [] g _
  refine r_aload_n (pc := 0) dX7_of_0 rfl 0 rfl ?_
  refine r_getR (f := 87) (pc := 1) dX7_of_1 q1452 (Or.inl rfl) rfl (fun v1 => ?_)
  refine r_iload_n (pc := 4) dX7_of_4 rfl 1 rfl ?_
  refine r_cR (pc := 5) (rest := [.ref v1]) (run_S (n := 1) (As := [.int x1]) (rest := [.ref v1]) (t_J21_valueOf γ l hl x1 g) dX7_of_5 q1502 q1503 q135 q1504 (by decide +kernel) rfl (Nat.le_of_ble_eq_true rfl) (Nat.le_of_ble_eq_true rfl) rfl (Nat.le_of_ble_eq_true rfl)) (fun v3 g2 => ?_)
  refine r_cR (pc := 8) (rest := []) (RunOK_chk (fun h => run_V (n := 1) (c9 := 15) (As := [.ref v3]) (rest := []) (t_J28_get γ l hl v1 v3 g2) dX7_of_8 q1522 q1523 q1524 q143 q1525 (by decide +kernel) rfl h ⟨rfl, by decide, by decide⟩ (Nat.le_of_ble_eq_true rfl) (Nat.le_of_ble_eq_true rfl) rfl (Nat.le_of_ble_eq_true rfl))) (fun v5 g4 => ?_)
  refine r_cast_ (L := [22]) (pc := 11) dX7_of_11 q1177 (List.forall_mem_cons.mpr ⟨⟨by decide, by decide, Or.inl rfl⟩, (fun _ h => absurd h List.not_mem_nil)⟩) ?_
  exact r_aret (pc := 14) dX7_of_14 rfl (by first | exact Or.inl ⟨_, rfl⟩ | exact Or.inr ⟨_, rfl⟩)
abbrev ck_X8_how : CK := ("BanquetVotes$Dish", prog_5_method_5_code, 1, (some (.object "BanquetVotes$How")), "how", [], 1)
def f_X8_how (γ : GP) (x0 : Nat) (g : AH) : Option (Nat × AH) := gR g x0 95 fun v1 => (some (v1, g))
theorem t_X8_how (γ : GP) (l : Launch) (hl : l.stackTraces = false) (x0 : Nat) (g : AH) : TrM ρR γ l ⟨"BanquetVotes$Dish", "how", "()LBanquetVotes$How;"⟩ (ws_ ⟨"BanquetVotes$Dish", "how", "()LBanquetVotes$How;"⟩ prog_5_method_5_code 1 (some (.object "BanquetVotes$How"))) 1 [.ref x0] g (f_X8_how γ x0 g) := by
  refine TrM_of (plainFor_of_name (by decide)) (Nat.le_of_ble_eq_true rfl) ?_
  unfold f_X8_how
  change AW ρR γ l ck_X8_how g 0 [(0, .ref x0)] [] g _
  refine r_aload_n (pc := 0) dX8_how_0 rfl 0 rfl ?_
  refine r_getR (f := 95) (pc := 1) dX8_how_1 q1790 (Or.inl rfl) rfl (fun v1 => ?_)
  exact r_aret (pc := 4) dX8_how_4 rfl (by first | exact Or.inl ⟨_, rfl⟩ | exact Or.inr ⟨_, rfl⟩)
abbrev ck_X9_isOff : CK := ("BanquetVotes$How", prog_7_method_6_code, 1, (some .boolean), "isOff", [], 1)
def f_X9_isOff (γ : GP) (x0 : Nat) (g : AH) : Option (Int32 × AH) := (rtN .boolean (0 : Int32) g)
theorem t_X9_isOff (γ : GP) (l : Launch) (hl : l.stackTraces = false) (x0 : Nat) (g : AH) : TrM ρI γ l ⟨"BanquetVotes$How", "isOff", "()Z"⟩ (ws_ ⟨"BanquetVotes$How", "isOff", "()Z"⟩ prog_7_method_6_code 1 (some .boolean)) 1 [.ref x0] g (f_X9_isOff γ x0 g) := by
  refine TrM_of (plainFor_of_name (by decide)) (Nat.le_of_ble_eq_true rfl) ?_
  unfold f_X9_isOff
  change AW ρI γ l ck_X9_isOff g 0 [(0, .ref x0)] [] g _
  refine r_iconst (v := (0 : Int32)) (pc := 0) dX9_isOff_0 (by decide) ?_
  exact r_zret (ty := .boolean) (pc := 1) dX9_isOff_1 rfl
abbrev ck_X2_dishesOf : CK := ("BanquetVotes$Kitchen", prog_14_method_48_code, 8, (some .int), "dishesOf", [], 7)
def f_X2_dishesOf_L14 (γ : GP) (x1 : Int32) (x2 : Nat) (x3 : Int32) (x5 : Nat) : Nat → Int32 → AH → Option (Int32 × AH)
  | 0, _, _ => none
  | n + 1, x4, g => bI ((if hK g x5 = 10 then f_J13_hasNext γ x5 g else if hK g x5 = 13 then f_J24_hasNext γ x5 g else if hK g x5 = 17 then f_J29_hasNext γ x5 g else if hK g x5 = 18 then f_J29_hasNext γ x5 g else none)) fun v5 g4 => (if v5 = 0 then (some (x4, g4)) else bR ((if hK g4 x5 = 10 then f_J13_next γ x5 g4 else if hK g4 x5 = 13 then f_J24_next γ x5 g4 else if hK g4 x5 = 17 then f_J31_next γ x5 g4 else if hK g4 x5 = 18 then f_J32_next γ x5 g4 else none)) fun v7 g6 => gC g6 [20] v7 (bR ((if hK g6 v7 = 20 then f_X7_of γ v7 x1 g6 else none)) fun v9 g8 => (if v9 = 0 then f_X2_dishesOf_L14 γ x1 x2 x3 x5 n (x4 + (0 : Int32)) g8 else (if x3 = 0 then bR ((if hK g8 v9 = 22 then f_X8_how γ v9 g8 else none)) fun v11 g10 => (if v11 = x2 then f_X2_dishesOf_L14 γ x1 x2 x3 x5 n (x4 + (1 : Int32)) g10 else f_X2_dishesOf_L14 γ x1 x2 x3 x5 n (x4 + (0 : Int32)) g10) else bR ((if hK g8 v9 = 22 then f_X8_how γ v9 g8 else none)) fun v13 g12 => bI ((if hK g12 v13 = 37 then f_X9_isOff γ v13 g12 else if hK g12 v13 = 38 then f_X9_isOff γ v13 g12 else if hK g12 v13 = 39 then some ((1 : Int32), g12) else if hK g12 v13 = 40 then f_X9_isOff γ v13 g12 else if hK g12 v13 = 41 then some ((1 : Int32), g12) else none)) fun v15 g14 => (if v15 = 0 then f_X2_dishesOf_L14 γ x1 x2 x3 x5 n (x4 + (0 : Int32)) g14 else f_X2_dishesOf_L14 γ x1 x2 x3 x5 n (x4 + (1 : Int32)) g14)))))
def f_X2_dishesOf (γ : GP) (x0 : Nat) (x1 : Int32) (x2 : Nat) (x3 : Int32) (g : AH) : Option (Int32 × AH) := gR g x0 9 fun v1 => bR ((if hK g v1 = 3 then f_J2_iterator γ v1 g else none)) fun v3 g2 => f_X2_dishesOf_L14 γ x1 x2 x3 v3 FU (0 : Int32) g2
theorem f_X2_dishesOf_L14_w (γ : GP) (l : Launch) (hl : l.stackTraces = false) (G0 : AH) (x1 : Int32) (x2 : Nat) (x3 : Int32) (x5 : Nat) : ∀ (n : Nat) (x4 : Int32) (g : AH), AW ρI γ l ck_X2_dishesOf G0 14 [(1, .int x1), (2, .ref x2), (3, .int x3), (4, .int x4), (5, .ref x5)] [] g (f_X2_dishesOf_L14 γ x1 x2 x3 x5 n x4 g) := by
  intro n
  induction n with
  | zero => intro x4 g; exact AW_none
  | succ n ih =>
    intro x4 g
    unfold f_X2_dishesOf_L14
    refine r_aload (pc := 14) dX2_dishesOf_14 4 rfl ?_
    refine r_cI (pc := 16) (rest := []) (RunOK_if (fun h => run_F (n := 0) (c9 := 10) (As := []) (rest := []) (t_J13_hasNext γ l hl x5 g) dX2_dishesOf_16 q781 q800 q802 q126 q804 (by decide +kernel) (by decide +kernel) rfl h ⟨by decide, by decide⟩ (Nat.le_of_ble_eq_true rfl) (Nat.le_of_ble_eq_true rfl) rfl (Nat.le_of_ble_eq_true rfl)) (RunOK_if (fun h => run_F (n := 0) (c9 := 13) (As := []) (rest := []) (t_J24_hasNext γ l hl x5 g) dX2_dishesOf_16 q781 q809 q811 q139 q813 (by decide +kernel) (by decide +kernel) rfl h ⟨by decide, by decide⟩ (Nat.le_of_ble_eq_true rfl) (Nat.le_of_ble_eq_true rfl) rfl (Nat.le_of_ble_eq_true rfl)) (RunOK_if (fun h => run_F (n := 0) (c9 := 17) (As := []) (rest := []) (t_J29_hasNext γ l hl x5 g) dX2_dishesOf_16 q781 q821 q817 q145 q819 (by decide +kernel) (by decide +kernel) rfl h ⟨by decide, by decide⟩ (Nat.le_of_ble_eq_true rfl) (Nat.le_of_ble_eq_true rfl) rfl (Nat.le_of_ble_eq_true rfl)) (RunOK_chk (fun h => run_F (n := 0) (c9 := 18) (As := []) (rest := []) (t_J29_hasNext γ l hl x5 g) dX2_dishesOf_16 q781 q824 q817 q145 q819 (by decide +kernel) (by decide +kernel) rfl h ⟨by decide, by decide⟩ (Nat.le_of_ble_eq_true rfl) (Nat.le_of_ble_eq_true rfl) rfl (Nat.le_of_ble_eq_true rfl)))))) (fun v5 g4 => ?_)
    refine r_if_eq (tgt := 89) (pc := 21) dX2_dishesOf_21 (by decide) ?_ ?_
    · skip
      refine r_iload (pc := 89) dX2_dishesOf_89 3 rfl ?_
      exact r_iret (pc := 91) dX2_dishesOf_91 rfl
    · skip
      refine r_aload (pc := 24) dX2_dishesOf_24 4 rfl ?_
      refine r_cR (pc := 26) (rest := []) (RunOK_if (fun h => run_F (n := 0) (c9 := 10) (As := []) (rest := []) (t_J13_next γ l hl x5 g4) dX2_dishesOf_26 q827 q991 q993 q126 q995 (by decide +kernel) (by decide +kernel) rfl h ⟨by decide, by decide⟩ (Nat.le_of_ble_eq_true rfl) (Nat.le_of_ble_eq_true rfl) rfl (Nat.le_of_ble_eq_true rfl)) (RunOK_if (fun h => run_F (n := 0) (c9 := 13) (As := []) (rest := []) (t_J24_next γ l hl x5 g4) dX2_dishesOf_26 q827 q1015 q1017 q139 q1019 (by decide +kernel) (by decide +kernel) rfl h ⟨by decide, by decide⟩ (Nat.le_of_ble_eq_true rfl) (Nat.le_of_ble_eq_true rfl) rfl (Nat.le_of_ble_eq_true rfl)) (RunOK_if (fun h => run_F (n := 0) (c9 := 17) (As := []) (rest := []) (t_J31_next γ l hl x5 g4) dX2_dishesOf_26 q827 q1047 q1049 q147 q1051 (by decide +kernel) (by decide +kernel) rfl h ⟨by decide, by decide⟩ (Nat.le_of_ble_eq_true rfl) (Nat.le_of_ble_eq_true rfl) rfl (Nat.le_of_ble_eq_true rfl)) (RunOK_chk (fun h => run_F (n := 0) (c9 := 18) (As := []) (rest := []) (t_J32_next γ l hl x5 g4) dX2_dishesOf_26 q827 q1055 q1057 q148 q1059 (by decide +kernel) (by decide +kernel) rfl h ⟨by decide, by decide⟩ (Nat.le_of_ble_eq_true rfl) (Nat.le_of_ble_eq_true rfl) rfl (Nat.le_of_ble_eq_true rfl)))))) (fun v7 g6 => ?_)
      refine r_cast_ (L := [20]) (pc := 31) dX2_dishesOf_31 q1063 (List.forall_mem_cons.mpr ⟨⟨by decide, by decide, Or.inl rfl⟩, (fun _ h => absurd h List.not_mem_nil)⟩) ?_
      refine r_astore (pc := 34) dX2_dishesOf_34 (Nat.le_of_ble_eq_true rfl) rfl ?_
      refine r_aload (pc := 36) dX2_dishesOf_36 0 rfl ?_
      refine r_iload_n (pc := 38) dX2_dishesOf_38 rfl 1 rfl ?_
      refine r_cR (pc := 39) (rest := []) (RunOK_chk (fun h => run_V (n := 1) (c9 := 20) (As := [.int x1]) (rest := []) (t_X7_of γ l hl v7 x1 g6) dX2_dishesOf_39 q2066 q2067 q2068 q150 q2069 (by decide +kernel) rfl h ⟨rfl, by decide, by decide⟩ (Nat.le_of_ble_eq_true rfl) (Nat.le_of_ble_eq_true rfl) rfl (Nat.le_of_ble_eq_true rfl))) (fun v9 g8 => ?_)
      refine r_astore (pc := 42) dX2_dishesOf_42 (Nat.le_of_ble_eq_true rfl) rfl ?_
      refine r_iload (pc := 44) dX2_dishesOf_44 5 rfl ?_
      refine r_aload (pc := 46) dX2_dishesOf_46 0 rfl ?_
      refine r_ifnull (tgt := 82) (pc := 48) dX2_dishesOf_48 (by decide) ?_ ?_
      · skip
        refine r_iconst (v := (0 : Int32)) (pc := 82) dX2_dishesOf_82 (by decide) ?_
        refine r_iadd (pc := 83) dX2_dishesOf_83 ?_
        refine r_istore (pc := 84) dX2_dishesOf_84 (Nat.le_of_ble_eq_true rfl) rfl ?_
        refine r_goto (tgt := 14) (pc := 86) dX2_dishesOf_86 (by decide) ?_
        refine AW_sub [3, 4, 5, 0, 6] rfl ?_
        exact ih (x4 + (0 : Int32)) g8
      · skip
        refine r_iload_n (pc := 51) dX2_dishesOf_51 rfl 4 rfl ?_
        refine r_if_eq (tgt := 69) (pc := 52) dX2_dishesOf_52 (by decide) ?_ ?_
        · skip
          refine r_aload (pc := 69) dX2_dishesOf_69 0 rfl ?_
          refine r_cR (pc := 71) (rest := [.int x4]) (RunOK_chk (fun h => run_V (n := 0) (c9 := 22) (As := []) (rest := [.int x4]) (t_X8_how γ l hl v9 g8) dX2_dishesOf_71 q2070 q1179 q1180 q157 q1181 (by decide +kernel) rfl h ⟨rfl, by decide, by decide⟩ (Nat.le_of_ble_eq_true rfl) (Nat.le_of_ble_eq_true rfl) rfl (Nat.le_of_ble_eq_true rfl))) (fun v11 g10 => ?_)
          refine r_aload_n (pc := 74) dX2_dishesOf_74 rfl 3 rfl ?_
          refine r_acmp_ne (tgt := 82) (pc := 75) dX2_dishesOf_75 (by decide) ?_ ?_
          · skip
            refine r_iconst (v := (1 : Int32)) (pc := 78) dX2_dishesOf_78 (by decide) ?_
            refine r_goto (tgt := 83) (pc := 79) dX2_dishesOf_79 (by decide) ?_
            refine r_iadd (pc := 83) dX2_dishesOf_83 ?_
            refine r_istore (pc := 84) dX2_dishesOf_84 (Nat.le_of_ble_eq_true rfl) rfl ?_
            refine r_goto (tgt := 14) (pc := 86) dX2_dishesOf_86 (by decide) ?_
            refine AW_sub [3, 4, 5, 0, 6] rfl ?_
            exact ih (x4 + (1 : Int32)) g10
          · skip
            refine r_iconst (v := (0 : Int32)) (pc := 82) dX2_dishesOf_82 (by decide) ?_
            refine r_iadd (pc := 83) dX2_dishesOf_83 ?_
            refine r_istore (pc := 84) dX2_dishesOf_84 (Nat.le_of_ble_eq_true rfl) rfl ?_
            refine r_goto (tgt := 14) (pc := 86) dX2_dishesOf_86 (by decide) ?_
            refine AW_sub [3, 4, 5, 0, 6] rfl ?_
            exact ih (x4 + (0 : Int32)) g10
        · skip
          refine r_aload (pc := 55) dX2_dishesOf_55 0 rfl ?_
          refine r_cR (pc := 57) (rest := [.int x4]) (RunOK_chk (fun h => run_V (n := 0) (c9 := 22) (As := []) (rest := [.int x4]) (t_X8_how γ l hl v9 g8) dX2_dishesOf_57 q2070 q1179 q1180 q157 q1181 (by decide +kernel) rfl h ⟨rfl, by decide, by decide⟩ (Nat.le_of_ble_eq_true rfl) (Nat.le_of_ble_eq_true rfl) rfl (Nat.le_of_ble_eq_true rfl))) (fun v13 g12 => ?_)
          refine r_cI (pc := 60) (rest := [.int x4]) (RunOK_if (fun h => run_U (n := 0) (c9 := 37) (As := []) (rest := [.int x4]) (owner := "BanquetVotes$How") (t_X9_isOff γ l hl v13 g12) dX2_dishesOf_60 q2071 q2073 q2074 q2072 q159 q2083 rfl ⟨by decide, by decide, by decide +kernel⟩ rfl h ⟨by decide, by decide⟩ (Nat.le_of_ble_eq_true rfl) (Nat.le_of_ble_eq_true rfl) rfl (Nat.le_of_ble_eq_true rfl)) (RunOK_if (fun h => run_U (n := 0) (c9 := 38) (As := []) (rest := [.int x4]) (owner := "BanquetVotes$How") (t_X9_isOff γ l hl v13 g12) dX2_dishesOf_60 q2071 q2073 q2075 q2072 q159 q2083 rfl ⟨by decide, by decide, by decide +kernel⟩ rfl h ⟨by decide, by decide⟩ (Nat.le_of_ble_eq_true rfl) (Nat.le_of_ble_eq_true rfl) rfl (Nat.le_of_ble_eq_true rfl)) (RunOK_if (fun h => run_K (n9 := 0) (c9 := 39) (As := []) (rest := [.int x4]) (owner := "BanquetVotes$How") dX2_dishesOf_60 q2071 q2073 q2076 q2077 q2078 (Or.inl ⟨_, _, _, q2072, q2083⟩) (by decide +kernel) dX21_isOff_0 (Or.inl ⟨rfl, by decide⟩) dX21_isOff_1 (by decide) ⟨by decide, by decide, by decide +kernel⟩ rfl h ⟨by decide, by decide⟩ (Nat.le_of_ble_eq_true rfl) (Nat.le_of_ble_eq_true rfl) rfl (Nat.le_of_ble_eq_true rfl)) (RunOK_if (fun h => run_U (n := 0) (c9 := 40) (As := []) (rest := [.int x4]) (owner := "BanquetVotes$How") (t_X9_isOff γ l hl v13 g12) dX2_dishesOf_60 q2071 q2073 q2079 q2072 q159 q2083 rfl ⟨by decide, by decide, by decide +kernel⟩ rfl h ⟨by decide, by decide⟩ (Nat.le_of_ble_eq_true rfl) (Nat.le_of_ble_eq_true rfl) rfl (Nat.le_of_ble_eq_true rfl)) (RunOK_chk (fun h => run_K (n9 := 0) (c9 := 41) (As := []) (rest := [.int x4]) (owner := "BanquetVotes$How") dX2_dishesOf_60 q2071 q2073 q2080 q2081 q2082 (Or.inl ⟨_, _, _, q2072, q2083⟩) (by decide +kernel) dX23_isOff_0 (Or.inl ⟨rfl, by decide⟩) dX23_isOff_1 (by decide) ⟨by decide, by decide, by decide +kernel⟩ rfl h ⟨by decide, by decide⟩ (Nat.le_of_ble_eq_true rfl) (Nat.le_of_ble_eq_true rfl) rfl (Nat.le_of_ble_eq_true rfl))))))) (fun v15 g14 => ?_)
          refine r_if_eq (tgt := 82) (pc := 63) dX2_dishesOf_63 (by decide) ?_ ?_
          · skip
            refine r_iconst (v := (0 : Int32)) (pc := 82) dX2_dishesOf_82 (by decide) ?_
            refine r_iadd (pc := 83) dX2_dishesOf_83 ?_
            refine r_istore (pc := 84) dX2_dishesOf_84 (Nat.le_of_ble_eq_true rfl) rfl ?_
            refine r_goto (tgt := 14) (pc := 86) dX2_dishesOf_86 (by decide) ?_
            refine AW_sub [3, 4, 5, 0, 6] rfl ?_
            exact ih (x4 + (0 : Int32)) g14
          · skip
            refine r_goto (tgt := 78) (pc := 66) dX2_dishesOf_66 (by decide) ?_
            refine r_iconst (v := (1 : Int32)) (pc := 78) dX2_dishesOf_78 (by decide) ?_
            refine r_goto (tgt := 83) (pc := 79) dX2_dishesOf_79 (by decide) ?_
            refine r_iadd (pc := 83) dX2_dishesOf_83 ?_
            refine r_istore (pc := 84) dX2_dishesOf_84 (Nat.le_of_ble_eq_true rfl) rfl ?_
            refine r_goto (tgt := 14) (pc := 86) dX2_dishesOf_86 (by decide) ?_
            refine AW_sub [3, 4, 5, 0, 6] rfl ?_
            exact ih (x4 + (1 : Int32)) g14
theorem t_X2_dishesOf (γ : GP) (l : Launch) (hl : l.stackTraces = false) (x0 : Nat) (x1 : Int32) (x2 : Nat) (x3 : Int32) (g : AH) : TrM ρI γ l ⟨"BanquetVotes$Kitchen", "dishesOf", "(ILBanquetVotes$How;Z)I"⟩ (ws_ ⟨"BanquetVotes$Kitchen", "dishesOf", "(ILBanquetVotes$How;Z)I"⟩ prog_14_method_48_code 8 (some .int)) 7 [.ref x0, .int x1, .ref x2, .int x3] g (f_X2_dishesOf γ x0 x1 x2 x3 g) := by
  refine TrM_of (plainFor_of_name (by decide)) (Nat.le_of_ble_eq_true rfl) ?_
  unfold f_X2_dishesOf
  change AW ρI γ l ck_X2_dishesOf g 0 [(0, .ref x0), (1, .int x1), (2, .ref x2), (3, .int x3)] [] g _
  refine r_iconst (v := (0 : Int32)) (pc := 0) dX2_dishesOf_0 (by decide) ?_
  refine r_istore (pc := 1) dX2_dishesOf_1 (Nat.le_of_ble_eq_true rfl) rfl ?_
  refine r_aload_n (pc := 3) dX2_dishesOf_3 rfl 1 rfl ?_
  refine r_getR (f := 9) (pc := 4) dX2_dishesOf_4 q266 (Or.inl rfl) rfl (fun v1 => ?_)
  refine r_cR (pc := 7) (rest := []) (RunOK_chk (fun h => run_F (n := 0) (c9 := 3) (As := []) (rest := []) (t_J2_iterator γ l hl v1 g) dX2_dishesOf_7 q354 q358 q360 q112 q362 (by decide +kernel) (by decide +kernel) rfl h ⟨by decide, by decide⟩ (Nat.le_of_ble_eq_true rfl) (Nat.le_of_ble_eq_true rfl) rfl (Nat.le_of_ble_eq_true rfl))) (fun v3 g2 => ?_)
  refine r_astore (pc := 12) dX2_dishesOf_12 (Nat.le_of_ble_eq_true rfl) rfl ?_
  refine AW_sub [3, 4, 5, 1, 0] rfl ?_
  refine f_X2_dishesOf_L14_w γ l hl _ x1 x2 x3 v3 FU (0 : Int32) g2
abbrev ck_X6_served : CK := ("BanquetVotes$Cook", prog_3_method_8_code, 6, (some .int), "served", [], 1)
def f_X6_served_L13 (γ : GP) (x2 : Nat) (x3 : Int32) : Nat → Int32 → Int32 → AH → Option (Int32 × AH)
  | 0, _, _, _ => none
  | n + 1, x1, x4, g => (if x3 ≤ x4 then (some (x1, g)) else gA g 101 x2 x4 fun v3 => f_X6_served_L13 γ x2 x3 n (x1 + v3) (x4 + (1 : Int32)) g)
def f_X6_served (γ : GP) (x0 : Nat) (g : AH) : Option (Int32 × AH) := gR g x0 79 fun v1 => gL g v1 fun v2 => f_X6_served_L13 γ v1 v2 FU (0 : Int32) (0 : Int32) g
theorem f_X6_served_L13_w (γ : GP) (l : Launch) (hl : l.stackTraces = false) (G0 : AH) (x2 : Nat) (x3 : Int32) : ∀ (n : Nat) (x1 : Int32) (x4 : Int32) (g : AH), AW ρI γ l ck_X6_served G0 13 [(1, .int x1), (2, .ref x2), (3, .int x3), (4, .int x4)] [] g (f_X6_served_L13 γ x2 x3 n x1 x4 g) := by
  intro n
  induction n with
  | zero => intro x1 x4 g; exact AW_none
  | succ n ih =>
    intro x1 x4 g
    unfold f_X6_served_L13
    refine r_iload (pc := 13) dX6_served_13 3 rfl ?_
    refine r_iload_n (pc := 15) dX6_served_15 rfl 2 rfl ?_
    refine r_icmp_ge (tgt := 36) (pc := 16) dX6_served_16 (by decide) ?_ ?_
    · skip
      refine r_iload_n (pc := 36) dX6_served_36 rfl 0 rfl ?_
      exact r_iret (pc := 37) dX6_served_37 rfl
    · skip
      refine r_aload_n (pc := 19) dX6_served_19 rfl 1 rfl ?_
      refine r_iload (pc := 20) dX6_served_20 3 rfl ?_
      refine r_iald (pc := 22) dX6_served_22 (fun v3 => ?_)
      refine r_istore (pc := 23) dX6_served_23 (Nat.le_of_ble_eq_true rfl) rfl ?_
      refine r_iload_n (pc := 25) dX6_served_25 rfl 1 rfl ?_
      refine r_iload (pc := 26) dX6_served_26 0 rfl ?_
      refine r_iadd (pc := 28) dX6_served_28 ?_
      refine r_istore_n (pc := 29) dX6_served_29 rfl (Nat.le_of_ble_eq_true rfl) rfl ?_
      refine r_iinc (j := 4) (v := (x4 + (1 : Int32))) (pc := 30) dX6_served_30 rfl rfl (Nat.le_of_ble_eq_true rfl) rfl ?_
      refine r_goto (tgt := 13) (pc := 33) dX6_served_33 (by decide) ?_
      refine AW_sub [1, 3, 4, 0] rfl ?_
      exact ih (x1 + v3) (x4 + (1 : Int32)) g
theorem t_X6_served (γ : GP) (l : Launch) (hl : l.stackTraces = false) (x0 : Nat) (g : AH) : TrM ρI γ l ⟨"BanquetVotes$Cook", "served", "()I"⟩ (ws_ ⟨"BanquetVotes$Cook", "served", "()I"⟩ prog_3_method_8_code 6 (some .int)) 1 [.ref x0] g (f_X6_served γ x0 g) := by
  refine TrM_of (plainFor_of_name (by decide)) (Nat.le_of_ble_eq_true rfl) ?_
  unfold f_X6_served
  change AW ρI γ l ck_X6_served g 0 [(0, .ref x0)] [] g _
  refine r_iconst (v := (0 : Int32)) (pc := 0) dX6_served_0 (by decide) ?_
  refine r_istore_n (pc := 1) dX6_served_1 rfl (Nat.le_of_ble_eq_true rfl) rfl ?_
  refine r_aload_n (pc := 2) dX6_served_2 rfl 1 rfl ?_
  refine r_getR (f := 79) (pc := 3) dX6_served_3 q1239 (Or.inl rfl) rfl (fun v1 => ?_)
  refine r_astore_n (pc := 6) dX6_served_6 rfl (Nat.le_of_ble_eq_true rfl) rfl ?_
  refine r_aload_n (pc := 7) dX6_served_7 rfl 0 rfl ?_
  refine r_alen (pc := 8) dX6_served_8 (fun v2 => ?_)
  refine r_istore_n (pc := 9) dX6_served_9 rfl (Nat.le_of_ble_eq_true rfl) rfl ?_
  refine r_iconst (v := (0 : Int32)) (pc := 10) dX6_served_10 (by decide) ?_
  refine r_istore (pc := 11) dX6_served_11 (Nat.le_of_ble_eq_true rfl) rfl ?_
  refine AW_sub [3, 2, 1, 0] rfl ?_
  refine f_X6_served_L13_w γ l hl _ v1 v2 FU (0 : Int32) (0 : Int32) g
abbrev ck_X3_log : CK := ("BanquetVotes$Somebody", prog_20_method_4_code, 1, (some (.object "java/util/List")), "log", [], 1)
def f_X3_log (γ : GP) (x0 : Nat) (g : AH) : Option (Nat × AH) := gR g x0 18 fun v1 => (some (v1, g))
theorem t_X3_log (γ : GP) (l : Launch) (hl : l.stackTraces = false) (x0 : Nat) (g : AH) : TrM ρR γ l ⟨"BanquetVotes$Somebody", "log", "()Ljava/util/List;"⟩ (ws_ ⟨"BanquetVotes$Somebody", "log", "()Ljava/util/List;"⟩ prog_20_method_4_code 1 (some (.object "java/util/List"))) 1 [.ref x0] g (f_X3_log γ x0 g) := by
  refine TrM_of (plainFor_of_name (by decide)) (Nat.le_of_ble_eq_true rfl) ?_
  unfold f_X3_log
  change AW ρR γ l ck_X3_log g 0 [(0, .ref x0)] [] g _
  refine r_aload_n (pc := 0) dX3_log_0 rfl 0 rfl ?_
  refine r_getR (f := 18) (pc := 1) dX3_log_1 q238 (Or.inl rfl) rfl (fun v1 => ?_)
  exact r_aret (pc := 4) dX3_log_4 rfl (by first | exact Or.inl ⟨_, rfl⟩ | exact Or.inr ⟨_, rfl⟩)
abbrev ck_X1_cookOf : CK := ("BanquetVotes", prog_1_method_18_code, 4, (some .int), "cookOf", [], 10)
def f_X1_cookOf (γ : GP) (x0 : Nat) (x1 : Int32) (x2 : Int32) (g : AH) : Option ((Int32 × AH) ⊕ (Nat × AH)) := bXV ((if hK g x0 = 1 then f_X1_requireCook γ x0 x1 g else none)) (fun e2 g3 => (thr e2 g3)) fun g1 => gR g1 x0 0 fun v4 => bR ((if hK g1 v4 = 2 then f_X2_cook γ v4 x1 g1 else none)) fun v6 g5 => (if x2 = (0 : Int32) then bI ((if hK g5 v6 = 16 then f_X6_distance γ v6 g5 else none)) fun v8 g7 => (some (.inl (v8, g7))) else (if x2 = (1 : Int32) then bI ((if hK g5 v6 = 16 then f_X3_hasFainted γ v6 g5 else none)) fun v10 g9 => (if v10 = 0 then (some (.inl ((0 : Int32), g9))) else (some (.inl ((1 : Int32), g9)))) else (if x2 = (2 : Int32) then gR g5 x0 0 fun v11 => bI ((if hK g5 v11 = 2 then f_X2_dishesOf γ v11 x1 (γ.1 11) (0 : Int32) g5 else none)) fun v13 g12 => (some (.inl (v13, g12))) else (if x2 = (3 : Int32) then gR g5 x0 0 fun v14 => bI ((if hK g5 v14 = 2 then f_X2_dishesOf γ v14 x1 (γ.1 6) (0 : Int32) g5 else none)) fun v16 g15 => (some (.inl (v16, g15))) else (if x2 = (4 : Int32) then gR g5 x0 0 fun v17 => bI ((if hK g5 v17 = 2 then f_X2_dishesOf γ v17 x1 (γ.1 7) (1 : Int32) g5 else none)) fun v19 g18 => (some (.inl (v19, g18))) else (if x2 = (5 : Int32) then bI ((if hK g5 v6 = 16 then f_X6_served γ v6 g5 else none)) fun v21 g20 => (some (.inl (v21, g20))) else (if x2 = (6 : Int32) then bR ((if hK g5 v6 = 16 then f_X3_log γ v6 g5 else none)) fun v23 g22 => bI ((if hK g22 v23 = 3 then f_J2_size γ v23 g22 else if hK g22 v23 = 5 then f_J4_size γ v23 g22 else none)) fun v25 g24 => (some (.inl (v25, g24))) else mO g5 9 fun q26 g27 => bV ((if q26 ≠ 0 then f_J12_init_2 γ q26 g27 else none)) fun g28 => (tw γ g28 q26 (thr q26 g28)))))))))
theorem t_X1_cookOf (γ : GP) (l : Launch) (hl : l.stackTraces = false) (x0 : Nat) (x1 : Int32) (x2 : Int32) (g : AH) : TrM (ρX ρI) γ l ⟨"BanquetVotes", "cookOf", "(II)I"⟩ (ws_ ⟨"BanquetVotes", "cookOf", "(II)I"⟩ prog_1_method_18_code 4 (some .int)) 10 [.ref x0, .int x1, .int x2] g (f_X1_cookOf γ x0 x1 x2 g) := by
  refine TrM_of (plainFor_of_name (by decide)) (Nat.le_of_ble_eq_true rfl) ?_
  unfold f_X1_cookOf
  change AW (ρX ρI) γ l ck_X1_cookOf g 0 [(0, .ref x0), (1, .int x1), (2, .int x2)] [] g _
  refine r_aload_n (pc := 0) dX1_cookOf_0 rfl 0 rfl ?_
  refine r_iload_n (pc := 1) dX1_cookOf_1 rfl 1 rfl ?_
  refine r_cXV (pc := 2) (rest := []) (RunOK_chk (fun h => run_V (n := 1) (c9 := 1) (As := [.int x1]) (rest := []) (t_X1_requireCook γ l hl x0 x1 g) dX1_cookOf_2 q1995 q1997 qs20 q108 q1998 (by decide +kernel) rfl h ⟨rfl, by decide, by decide⟩ (Nat.le_of_ble_eq_true rfl) (Nat.le_of_ble_eq_true rfl) rfl (Nat.le_of_ble_eq_true rfl))) (fun e2 g3 => ?_) (fun g1 => ?_)
  · skip
    exact x_out (by decide)
  · skip
    refine r_aload_n (pc := 5) dX1_cookOf_5 rfl 0 rfl ?_
    refine r_getR (f := 0) (pc := 6) dX1_cookOf_6 q320 (Or.inl rfl) rfl (fun v4 => ?_)
    refine r_iload_n (pc := 9) dX1_cookOf_9 rfl 1 rfl ?_
    refine r_cR (pc := 10) (rest := []) (RunOK_chk (fun h => run_V (n := 1) (c9 := 2) (As := [.int x1]) (rest := []) (t_X2_cook γ l hl v4 x1 g1) dX1_cookOf_10 q2049 q2021 q2022 q109 q2023 (by decide +kernel) rfl h ⟨rfl, by decide, by decide⟩ (Nat.le_of_ble_eq_true rfl) (Nat.le_of_ble_eq_true rfl) rfl (Nat.le_of_ble_eq_true rfl))) (fun v6 g5 => ?_)
    refine r_astore_n (pc := 13) dX1_cookOf_13 rfl (Nat.le_of_ble_eq_true rfl) rfl ?_
    refine r_iload_n (pc := 14) dX1_cookOf_14 rfl 3 rfl ?_
    refine r_tabC (v := (0 : Int32)) (tgt := 56) (pc := 15) dX1_cookOf_15 (by decide) (by decide) rfl (by decide) ?_ (fun c0 => ?_)
    · skip
      refine r_aload_n (pc := 56) dX1_cookOf_56 rfl 0 rfl ?_
      refine r_cI (pc := 57) (rest := []) (RunOK_chk (fun h => run_V (n := 0) (c9 := 16) (As := []) (rest := []) (t_X6_distance γ l hl v6 g5) dX1_cookOf_57 q2050 q2051 q2052 q144 q2053 (by decide +kernel) rfl h ⟨rfl, by decide, by decide⟩ (Nat.le_of_ble_eq_true rfl) (Nat.le_of_ble_eq_true rfl) rfl (Nat.le_of_ble_eq_true rfl))) (fun v8 g7 => ?_)
      exact r_inl (fun _ => rfl) (r_iret (pc := 60) dX1_cookOf_60 rfl)
    · skip
      refine r_tabC (v := (1 : Int32)) (tgt := 61) (pc := 15) dX1_cookOf_15 (by decide) (by decide) rfl (by decide) ?_ (fun c1 => ?_)
      · skip
        refine r_aload_n (pc := 61) dX1_cookOf_61 rfl 0 rfl ?_
        refine r_cI (pc := 62) (rest := []) (RunOK_chk (fun h => run_U (n := 0) (c9 := 16) (As := []) (rest := []) (owner := "BanquetVotes$Somebody") (t_X3_hasFainted γ l hl v6 g5) dX1_cookOf_62 q2054 q2055 q2057 q2058 q113 q2059 rfl ⟨by decide, by decide, by decide +kernel⟩ rfl h ⟨by decide, by decide⟩ (Nat.le_of_ble_eq_true rfl) (Nat.le_of_ble_eq_true rfl) rfl (Nat.le_of_ble_eq_true rfl))) (fun v10 g9 => ?_)
        refine r_if_eq (tgt := 72) (pc := 65) dX1_cookOf_65 (by decide) ?_ ?_
        · skip
          refine r_iconst (v := (0 : Int32)) (pc := 72) dX1_cookOf_72 (by decide) ?_
          exact r_inl (fun _ => rfl) (r_iret (pc := 73) dX1_cookOf_73 rfl)
        · skip
          refine r_iconst (v := (1 : Int32)) (pc := 68) dX1_cookOf_68 (by decide) ?_
          refine r_goto (tgt := 73) (pc := 69) dX1_cookOf_69 (by decide) ?_
          exact r_inl (fun _ => rfl) (r_iret (pc := 73) dX1_cookOf_73 rfl)
      · skip
        refine r_tabC (v := (2 : Int32)) (tgt := 74) (pc := 15) dX1_cookOf_15 (by decide) (by decide) rfl (by decide) ?_ (fun c2 => ?_)
        · skip
          refine r_aload_n (pc := 74) dX1_cookOf_74 rfl 1 rfl ?_
          refine r_getR (f := 0) (pc := 75) dX1_cookOf_75 q320 (Or.inl rfl) rfl (fun v11 => ?_)
          refine r_iload_n (pc := 78) dX1_cookOf_78 rfl 2 rfl ?_
          refine r_gets (i := 11) (pc := 79) dX1_cookOf_79 q2060 (List.mem_of_getElem? (i := 11) rfl) rfl ?_
          refine r_iconst (v := (0 : Int32)) (pc := 82) dX1_cookOf_82 (by decide) ?_
          refine r_cI (pc := 83) (rest := []) (RunOK_chk (fun h => run_V (n := 3) (c9 := 2) (As := [.int x1, .ref (γ.1 11), .int (0 : Int32)]) (rest := []) (t_X2_dishesOf γ l hl v11 x1 (γ.1 11) (0 : Int32) g5) dX1_cookOf_83 q2062 q2063 q2064 q109 q2065 (by decide +kernel) rfl h ⟨rfl, by decide, by decide⟩ (Nat.le_of_ble_eq_true rfl) (Nat.le_of_ble_eq_true rfl) rfl (Nat.le_of_ble_eq_true rfl))) (fun v13 g12 => ?_)
          exact r_inl (fun _ => rfl) (r_iret (pc := 86) dX1_cookOf_86 rfl)
        · skip
          refine r_tabC (v := (3 : Int32)) (tgt := 87) (pc := 15) dX1_cookOf_15 (by decide) (by decide) rfl (by decide) ?_ (fun c3 => ?_)
          · skip
            refine r_aload_n (pc := 87) dX1_cookOf_87 rfl 1 rfl ?_
            refine r_getR (f := 0) (pc := 88) dX1_cookOf_88 q320 (Or.inl rfl) rfl (fun v14 => ?_)
            refine r_iload_n (pc := 91) dX1_cookOf_91 rfl 2 rfl ?_
            refine r_gets (i := 6) (pc := 92) dX1_cookOf_92 q2084 (List.mem_of_getElem? (i := 6) rfl) rfl ?_
            refine r_iconst (v := (0 : Int32)) (pc := 95) dX1_cookOf_95 (by decide) ?_
            refine r_cI (pc := 96) (rest := []) (RunOK_chk (fun h => run_V (n := 3) (c9 := 2) (As := [.int x1, .ref (γ.1 6), .int (0 : Int32)]) (rest := []) (t_X2_dishesOf γ l hl v14 x1 (γ.1 6) (0 : Int32) g5) dX1_cookOf_96 q2062 q2063 q2064 q109 q2065 (by decide +kernel) rfl h ⟨rfl, by decide, by decide⟩ (Nat.le_of_ble_eq_true rfl) (Nat.le_of_ble_eq_true rfl) rfl (Nat.le_of_ble_eq_true rfl))) (fun v16 g15 => ?_)
            exact r_inl (fun _ => rfl) (r_iret (pc := 99) dX1_cookOf_99 rfl)
          · skip
            refine r_tabC (v := (4 : Int32)) (tgt := 100) (pc := 15) dX1_cookOf_15 (by decide) (by decide) rfl (by decide) ?_ (fun c4 => ?_)
            · skip
              refine r_aload_n (pc := 100) dX1_cookOf_100 rfl 1 rfl ?_
              refine r_getR (f := 0) (pc := 101) dX1_cookOf_101 q320 (Or.inl rfl) rfl (fun v17 => ?_)
              refine r_iload_n (pc := 104) dX1_cookOf_104 rfl 2 rfl ?_
              refine r_gets (i := 7) (pc := 105) dX1_cookOf_105 q2085 (List.mem_of_getElem? (i := 7) rfl) rfl ?_
              refine r_iconst (v := (1 : Int32)) (pc := 108) dX1_cookOf_108 (by decide) ?_
              refine r_cI (pc := 109) (rest := []) (RunOK_chk (fun h => run_V (n := 3) (c9 := 2) (As := [.int x1, .ref (γ.1 7), .int (1 : Int32)]) (rest := []) (t_X2_dishesOf γ l hl v17 x1 (γ.1 7) (1 : Int32) g5) dX1_cookOf_109 q2062 q2063 q2064 q109 q2065 (by decide +kernel) rfl h ⟨rfl, by decide, by decide⟩ (Nat.le_of_ble_eq_true rfl) (Nat.le_of_ble_eq_true rfl) rfl (Nat.le_of_ble_eq_true rfl))) (fun v19 g18 => ?_)
              exact r_inl (fun _ => rfl) (r_iret (pc := 112) dX1_cookOf_112 rfl)
            · skip
              refine r_tabC (v := (5 : Int32)) (tgt := 113) (pc := 15) dX1_cookOf_15 (by decide) (by decide) rfl (by decide) ?_ (fun c5 => ?_)
              · skip
                refine r_aload_n (pc := 113) dX1_cookOf_113 rfl 0 rfl ?_
                refine r_cI (pc := 114) (rest := []) (RunOK_chk (fun h => run_V (n := 0) (c9 := 16) (As := []) (rest := []) (t_X6_served γ l hl v6 g5) dX1_cookOf_114 q2086 q2087 q2088 q144 q2089 (by decide +kernel) rfl h ⟨rfl, by decide, by decide⟩ (Nat.le_of_ble_eq_true rfl) (Nat.le_of_ble_eq_true rfl) rfl (Nat.le_of_ble_eq_true rfl))) (fun v21 g20 => ?_)
                exact r_inl (fun _ => rfl) (r_iret (pc := 117) dX1_cookOf_117 rfl)
              · skip
                refine r_tabC (v := (6 : Int32)) (tgt := 118) (pc := 15) dX1_cookOf_15 (by decide) (by decide) rfl (by decide) ?_ (fun c6 => ?_)
                · skip
                  refine r_aload_n (pc := 118) dX1_cookOf_118 rfl 0 rfl ?_
                  refine r_cR (pc := 119) (rest := []) (RunOK_chk (fun h => run_U (n := 0) (c9 := 16) (As := []) (rest := []) (owner := "BanquetVotes$Somebody") (t_X3_log γ l hl v6 g5) dX1_cookOf_119 q2090 q2091 q2093 q2094 q113 q2095 rfl ⟨by decide, by decide, by decide +kernel⟩ rfl h ⟨by decide, by decide⟩ (Nat.le_of_ble_eq_true rfl) (Nat.le_of_ble_eq_true rfl) rfl (Nat.le_of_ble_eq_true rfl))) (fun v23 g22 => ?_)
                  refine r_cI (pc := 122) (rest := []) (RunOK_if (fun h => run_F (n := 0) (c9 := 3) (As := []) (rest := []) (t_J2_size γ l hl v23 g22) dX1_cookOf_122 q2004 q1891 q794 q112 q795 (by decide +kernel) (by decide +kernel) rfl h ⟨by decide, by decide⟩ (Nat.le_of_ble_eq_true rfl) (Nat.le_of_ble_eq_true rfl) rfl (Nat.le_of_ble_eq_true rfl)) (RunOK_chk (fun h => run_F (n := 0) (c9 := 5) (As := []) (rest := []) (t_J4_size γ l hl v23 g22) dX1_cookOf_122 q2004 q1894 q797 q116 q798 (by decide +kernel) (by decide +kernel) rfl h ⟨by decide, by decide⟩ (Nat.le_of_ble_eq_true rfl) (Nat.le_of_ble_eq_true rfl) rfl (Nat.le_of_ble_eq_true rfl)))) (fun v25 g24 => ?_)
                  exact r_inl (fun _ => rfl) (r_iret (pc := 127) dX1_cookOf_127 rfl)
                · skip
                  refine r_tabD (tgt := 128) (pc := 15) dX1_cookOf_15 (by have e0 := lv_neT c0 (a := 0) rfl; have e1 := lv_neT c1 (a := 1) rfl; have e2 := lv_neT c2 (a := 2) rfl; have e3 := lv_neT c3 (a := 3) rfl; have e4 := lv_neT c4 (a := 4) rfl; have e5 := lv_neT c5 (a := 5) rfl; have e6 := lv_neT c6 (a := 6) rfl; omega) (by decide) ?_
                  refine r_new (c := 9) (pc := 128) dX1_cookOf_128 q1214 (by decide) (by decide) (fun q26 g27 => ?_)
                  refine r_dup (pc := 131) dX1_cookOf_131 rfl ?_
                  refine r_cV (pc := 132) (rest := [.ref q26]) (RunOK_chk (fun h => run_I (n := 0) (As := []) (rest := [.ref q26]) (t_J12_init_2 γ l hl q26 g27) dX1_cookOf_132 q1215 q1216 q125 q1217 rfl (by decide +kernel) rfl h (Nat.le_of_ble_eq_true rfl) (Nat.le_of_ble_eq_true rfl) rfl (Nat.le_of_ble_eq_true rfl))) (fun g28 => ?_)
                  refine r_athrow (pc := 135) dX1_cookOf_135 ?_
                  exact x_out (by decide)
abbrev ck_X2_plans : CK := ("BanquetVotes$Kitchen", prog_14_method_13_code, 1, (some .int), "plans", [], 8)
def f_X2_plans (γ : GP) (x0 : Nat) (g : AH) : Option ((Int32 × AH) ⊕ (Nat × AH)) := gR g x0 9 fun v1 => bI ((if hK g v1 = 3 then f_J2_size γ v1 g else if hK g v1 = 5 then f_J4_size γ v1 g else none)) fun v3 g2 => jn (fun (z4 : Int32) (g5 : AH) => bXV (f_X1_meet γ z4 (1 : Int32) (8 : Int32) g5) (fun e8 g9 => (thr e8 g9)) fun g7 => gR g7 x0 9 fun v10 => mO g7 20 fun q11 g12 => bV ((if q11 ≠ 0 then f_X7_init γ q11 g12 else none)) fun g13 => bI ((if hK g13 v10 = 3 then f_J2_add γ v10 q11 g13 else none)) fun v15 g14 => gR g14 x0 9 fun v16 => bI ((if hK g14 v16 = 3 then f_J2_size γ v16 g14 else if hK g14 v16 = 5 then f_J4_size γ v16 g14 else none)) fun v18 g17 => (some (.inl ((v18 - (1 : Int32)), g17)))) (fun (j6 : Int32 → AH → Option ((Int32 × AH) ⊕ (Nat × AH))) => (if (8 : Int32) ≤ v3 then j6 (0 : Int32) g2 else j6 (1 : Int32) g2))
theorem t_X2_plans (γ : GP) (l : Launch) (hl : l.stackTraces = false) (x0 : Nat) (g : AH) : TrM (ρX ρI) γ l ⟨"BanquetVotes$Kitchen", "plans", "()I"⟩ (ws_ ⟨"BanquetVotes$Kitchen", "plans", "()I"⟩ prog_14_method_13_code 1 (some .int)) 8 [.ref x0] g (f_X2_plans γ x0 g) := by
  refine TrM_of (plainFor_of_name (by decide)) (Nat.le_of_ble_eq_true rfl) ?_
  unfold f_X2_plans
  change AW (ρX ρI) γ l ck_X2_plans g 0 [(0, .ref x0)] [] g _
  refine r_aload_n (pc := 0) dX2_plans_0 rfl 0 rfl ?_
  refine r_getR (f := 9) (pc := 1) dX2_plans_1 q266 (Or.inl rfl) rfl (fun v1 => ?_)
  refine r_cI (pc := 4) (rest := []) (RunOK_if (fun h => run_F (n := 0) (c9 := 3) (As := []) (rest := []) (t_J2_size γ l hl v1 g) dX2_plans_4 q1888 q1891 q794 q112 q795 (by decide +kernel) (by decide +kernel) rfl h ⟨by decide, by decide⟩ (Nat.le_of_ble_eq_true rfl) (Nat.le_of_ble_eq_true rfl) rfl (Nat.le_of_ble_eq_true rfl)) (RunOK_chk (fun h => run_F (n := 0) (c9 := 5) (As := []) (rest := []) (t_J4_size γ l hl v1 g) dX2_plans_4 q1888 q1894 q797 q116 q798 (by decide +kernel) (by decide +kernel) rfl h ⟨by decide, by decide⟩ (Nat.le_of_ble_eq_true rfl) (Nat.le_of_ble_eq_true rfl) rfl (Nat.le_of_ble_eq_true rfl)))) (fun v3 g2 => ?_)
  refine r_bipush (v := (8 : Int32)) (pc := 9) dX2_plans_9 (by decide) ?_
  refine AW_jn (P := fun (j : Int32 → AH → Option ((Int32 × AH) ⊕ (Nat × AH))) => ∀ (z4 : Int32) (g5 : AH), AW (ρX ρI) γ l ck_X2_plans g 19 [(0, .ref x0)] [.int z4] g5 (j z4 g5)) (fun z4 g5 => ?_) (fun j6 h_j6 => ?_)
  · skip
    refine r_iconst (v := (1 : Int32)) (pc := 19) dX2_plans_19 (by decide) ?_
    refine r_bipush (v := (8 : Int32)) (pc := 20) dX2_plans_20 (by decide) ?_
    refine r_cXV (pc := 22) (rest := []) (run_SN (n := 3) (As := [.int z4, .int (1 : Int32), .int (8 : Int32)]) (rest := []) (t_X1_meet γ l hl z4 (1 : Int32) (8 : Int32) g5) dX2_plans_22 mv1897 q1898 q108 q1899 (by decide +kernel) rfl (Nat.le_of_ble_eq_true rfl) (Nat.le_of_ble_eq_true rfl) rfl (Nat.le_of_ble_eq_true rfl)) (fun e8 g9 => ?_) (fun g7 => ?_)
    · skip
      exact x_out (by decide)
    · skip
      refine r_aload_n (pc := 25) dX2_plans_25 rfl 0 rfl ?_
      refine r_getR (f := 9) (pc := 26) dX2_plans_26 q266 (Or.inl rfl) rfl (fun v10 => ?_)
      refine r_new (c := 20) (pc := 29) dX2_plans_29 q1063 (by decide) (by decide) (fun q11 g12 => ?_)
      refine r_dup (pc := 32) dX2_plans_32 rfl ?_
      refine r_cV (pc := 33) (rest := [.ref q11, .ref v10]) (RunOK_chk (fun h => run_IN (n := 0) (As := []) (rest := [.ref q11, .ref v10]) (t_X7_init γ l hl q11 g12) dX2_plans_33 mv2107 q1412 q150 q1413 rfl (by decide +kernel) rfl h (Nat.le_of_ble_eq_true rfl) (Nat.le_of_ble_eq_true rfl) rfl (Nat.le_of_ble_eq_true rfl))) (fun g13 => ?_)
      refine r_cI (pc := 36) (rest := []) (RunOK_chk (fun h => run_F (n := 1) (c9 := 3) (As := [.ref q11]) (rest := []) (t_J2_add γ l hl v10 q11 g13) dX2_plans_36 q1380 q1383 q1385 q112 q1387 (by decide +kernel) (by decide +kernel) rfl h ⟨by decide, by decide⟩ (Nat.le_of_ble_eq_true rfl) (Nat.le_of_ble_eq_true rfl) rfl (Nat.le_of_ble_eq_true rfl))) (fun v15 g14 => ?_)
      refine r_pop (pc := 41) dX2_plans_41 rfl ?_
      refine r_aload_n (pc := 42) dX2_plans_42 rfl 0 rfl ?_
      refine r_getR (f := 9) (pc := 43) dX2_plans_43 q266 (Or.inl rfl) rfl (fun v16 => ?_)
      refine r_cI (pc := 46) (rest := []) (RunOK_if (fun h => run_F (n := 0) (c9 := 3) (As := []) (rest := []) (t_J2_size γ l hl v16 g14) dX2_plans_46 q1888 q1891 q794 q112 q795 (by decide +kernel) (by decide +kernel) rfl h ⟨by decide, by decide⟩ (Nat.le_of_ble_eq_true rfl) (Nat.le_of_ble_eq_true rfl) rfl (Nat.le_of_ble_eq_true rfl)) (RunOK_chk (fun h => run_F (n := 0) (c9 := 5) (As := []) (rest := []) (t_J4_size γ l hl v16 g14) dX2_plans_46 q1888 q1894 q797 q116 q798 (by decide +kernel) (by decide +kernel) rfl h ⟨by decide, by decide⟩ (Nat.le_of_ble_eq_true rfl) (Nat.le_of_ble_eq_true rfl) rfl (Nat.le_of_ble_eq_true rfl)))) (fun v18 g17 => ?_)
      refine r_iconst (v := (1 : Int32)) (pc := 51) dX2_plans_51 (by decide) ?_
      refine r_isub (pc := 52) dX2_plans_52 ?_
      exact r_inl (fun _ => rfl) (r_iret (pc := 53) dX2_plans_53 rfl)
  · skip
    refine r_icmp_ge (tgt := 18) (pc := 11) dX2_plans_11 (by decide) ?_ ?_
    · skip
      refine r_iconst (v := (0 : Int32)) (pc := 18) dX2_plans_18 (by decide) ?_
      exact h_j6 (0 : Int32) g2
    · skip
      refine r_iconst (v := (1 : Int32)) (pc := 14) dX2_plans_14 (by decide) ?_
      refine r_goto (tgt := 19) (pc := 15) dX2_plans_15 (by decide) ?_
      exact h_j6 (1 : Int32) g2
abbrev ck_X1_course : CK := ("BanquetVotes", prog_1_method_19_code, 3, (some .int), "course", [(8, 17, 18, 1)], 10)
def f_X1_course (γ : GP) (x0 : Nat) (g : AH) : Option ((Int32 × AH) ⊕ (Nat × AH)) := gR g x0 0 fun v1 => bR ((if hK g v1 = 2 then f_X2_copy γ v1 g else none)) fun v3 g2 => bXI ((if hK g2 v3 = 2 then f_X2_plans γ v3 g2 else none)) (fun e6 g7 => (if hK g7 e6 = 24 then bR ((if hK g7 x0 = 1 then f_X1_refused γ x0 e6 g7 else none)) fun v9 g8 => (tw γ g8 v9 (thr v9 g8)) else none)) fun v5 g4 => bI ((if hK g4 x0 = 1 then f_X1_become γ x0 v3 v5 g4 else none)) fun v11 g10 => (some (.inl (v11, g10)))
theorem t_X1_course (γ : GP) (l : Launch) (hl : l.stackTraces = false) (x0 : Nat) (g : AH) : TrM (ρX ρI) γ l ⟨"BanquetVotes", "course", "()I"⟩ (wsW_ ⟨"BanquetVotes", "course", "()I"⟩ prog_1_method_19_code 3 (some .int) [(8, 17, 18, 1)]) 10 [.ref x0] g (f_X1_course γ x0 g) := by
  refine TrM_ofH (by decide) (Nat.le_of_ble_eq_true rfl) ?_
  unfold f_X1_course
  change AW (ρX ρI) γ l ck_X1_course g 0 [(0, .ref x0)] [] g _
  refine r_aload_n (pc := 0) dX1_course_0 rfl 0 rfl ?_
  refine r_getR (f := 0) (pc := 1) dX1_course_1 q320 (Or.inl rfl) rfl (fun v1 => ?_)
  refine r_cR (pc := 4) (rest := []) (RunOK_chk (fun h => run_V (n := 0) (c9 := 2) (As := []) (rest := []) (t_X2_copy γ l hl v1 g) dX1_course_4 q1219 q1220 q1221 q109 q1222 (by decide +kernel) rfl h ⟨rfl, by decide, by decide⟩ (Nat.le_of_ble_eq_true rfl) (Nat.le_of_ble_eq_true rfl) rfl (Nat.le_of_ble_eq_true rfl))) (fun v3 g2 => ?_)
  refine r_astore_n (pc := 7) dX1_course_7 rfl (Nat.le_of_ble_eq_true rfl) rfl ?_
  refine r_aload_n (pc := 8) dX1_course_8 rfl 1 rfl ?_
  refine r_aload_n (pc := 9) dX1_course_9 rfl 0 rfl ?_
  refine r_aload_n (pc := 10) dX1_course_10 rfl 0 rfl ?_
  refine r_cXI (pc := 11) (rest := [.ref v3, .ref x0]) (RunOK_chk (fun h => run_V (n := 0) (c9 := 2) (As := []) (rest := [.ref v3, .ref x0]) (t_X2_plans γ l hl v3 g2) dX1_course_11 q2103 q2104 q2105 q109 q2106 (by decide +kernel) rfl h ⟨rfl, by decide, by decide⟩ (Nat.le_of_ble_eq_true rfl) (Nat.le_of_ble_eq_true rfl) rfl (Nat.le_of_ble_eq_true rfl))) (fun e6 g7 => ?_) (fun v5 g4 => ?_)
  · skip
    refine AX_if (fun hc => ?_) (fun _ => ?_)
    · refine x_catch [] (8, 17, 18, 1) [] rfl hc ((fun _ h => absurd h List.not_mem_nil)) (by decide) (by decide) q1207 mv1901 ?_
      refine r_astore_n (pc := 18) dX1_course_18 rfl (Nat.le_of_ble_eq_true rfl) rfl ?_
      refine r_aload_n (pc := 19) dX1_course_19 rfl 2 rfl ?_
      refine r_aload_n (pc := 20) dX1_course_20 rfl 0 rfl ?_
      refine r_cR (pc := 21) (rest := []) (RunOK_chk (fun h => run_V (n := 1) (c9 := 1) (As := [.ref e6]) (rest := []) (t_X1_refused γ l hl x0 e6 g7) dX1_course_21 q1945 q1947 qs19 q108 q1948 (by decide +kernel) rfl h ⟨rfl, by decide, by decide⟩ (Nat.le_of_ble_eq_true rfl) (Nat.le_of_ble_eq_true rfl) rfl (Nat.le_of_ble_eq_true rfl))) (fun v9 g8 => ?_)
      refine r_athrow (pc := 24) dX1_course_24 ?_
      exact x_out (by decide)
    · skip
      exact fun r h => by cases h
  · skip
    refine r_cI (pc := 14) (rest := []) (RunOK_chk (fun h => run_V (n := 2) (c9 := 1) (As := [.ref v3, .int v5]) (rest := []) (t_X1_become γ l hl x0 v3 v5 g4) dX1_course_14 q1926 q1928 qs17 q108 q1929 (by decide +kernel) rfl h ⟨rfl, by decide, by decide⟩ (Nat.le_of_ble_eq_true rfl) (Nat.le_of_ble_eq_true rfl) rfl (Nat.le_of_ble_eq_true rfl))) (fun v11 g10 => ?_)
    exact r_inl (fun _ => rfl) (r_iret (pc := 17) dX1_course_17 rfl)
abbrev ck_X2_courses : CK := ("BanquetVotes$Kitchen", prog_14_method_5_code, 1, (some (.object "java/util/List")), "courses", [], 1)
def f_X2_courses (γ : GP) (x0 : Nat) (g : AH) : Option (Nat × AH) := gR g x0 9 fun v1 => (some (v1, g))
theorem t_X2_courses (γ : GP) (l : Launch) (hl : l.stackTraces = false) (x0 : Nat) (g : AH) : TrM ρR γ l ⟨"BanquetVotes$Kitchen", "courses", "()Ljava/util/List;"⟩ (ws_ ⟨"BanquetVotes$Kitchen", "courses", "()Ljava/util/List;"⟩ prog_14_method_5_code 1 (some (.object "java/util/List"))) 1 [.ref x0] g (f_X2_courses γ x0 g) := by
  refine TrM_of (plainFor_of_name (by decide)) (Nat.le_of_ble_eq_true rfl) ?_
  unfold f_X2_courses
  change AW ρR γ l ck_X2_courses g 0 [(0, .ref x0)] [] g _
  refine r_aload_n (pc := 0) dX2_courses_0 rfl 0 rfl ?_
  refine r_getR (f := 9) (pc := 1) dX2_courses_1 q266 (Or.inl rfl) rfl (fun v1 => ?_)
  exact r_aret (pc := 4) dX2_courses_4 rfl (by first | exact Or.inl ⟨_, rfl⟩ | exact Or.inr ⟨_, rfl⟩)
abbrev ck_X1_requireCourse : CK := ("BanquetVotes", prog_1_method_11_code, 2, none, "requireCourse", [], 9)
def f_X1_requireCourse (γ : GP) (x0 : Nat) (x1 : Int32) (g : AH) : Option ((AH) ⊕ (Nat × AH)) := gR g x0 0 fun v1 => bR ((if hK g v1 = 2 then f_X2_courses γ v1 g else none)) fun v3 g2 => bI ((if hK g2 v3 = 3 then f_J2_size γ v3 g2 else if hK g2 v3 = 5 then f_J4_size γ v3 g2 else none)) fun v5 g4 => bXV (f_X1_requireIndex γ x1 (0 : Int32) v5 g4) (fun e7 g8 => (thr e7 g8)) fun g6 => (some (.inl g6))
theorem t_X1_requireCourse (γ : GP) (l : Launch) (hl : l.stackTraces = false) (x0 : Nat) (x1 : Int32) (g : AH) : TrM (ρX ρV) γ l ⟨"BanquetVotes", "requireCourse", "(I)V"⟩ (ws_ ⟨"BanquetVotes", "requireCourse", "(I)V"⟩ prog_1_method_11_code 2 none) 9 [.ref x0, .int x1] g (f_X1_requireCourse γ x0 x1 g) := by
  refine TrM_of (plainFor_of_name (by decide)) (Nat.le_of_ble_eq_true rfl) ?_
  unfold f_X1_requireCourse
  change AW (ρX ρV) γ l ck_X1_requireCourse g 0 [(0, .ref x0), (1, .int x1)] [] g _
  refine r_iload_n (pc := 0) dX1_requireCourse_0 rfl 1 rfl ?_
  refine r_iconst (v := (0 : Int32)) (pc := 1) dX1_requireCourse_1 (by decide) ?_
  refine r_aload_n (pc := 2) dX1_requireCourse_2 rfl 0 rfl ?_
  refine r_getR (f := 0) (pc := 3) dX1_requireCourse_3 q320 (Or.inl rfl) rfl (fun v1 => ?_)
  refine r_cR (pc := 6) (rest := [.int (0 : Int32), .int x1]) (RunOK_chk (fun h => run_V (n := 0) (c9 := 2) (As := []) (rest := [.int (0 : Int32), .int x1]) (t_X2_courses γ l hl v1 g) dX1_requireCourse_6 q2119 q2120 q2121 q109 q2122 (by decide +kernel) rfl h ⟨rfl, by decide, by decide⟩ (Nat.le_of_ble_eq_true rfl) (Nat.le_of_ble_eq_true rfl) rfl (Nat.le_of_ble_eq_true rfl))) (fun v3 g2 => ?_)
  refine r_cI (pc := 9) (rest := [.int (0 : Int32), .int x1]) (RunOK_if (fun h => run_F (n := 0) (c9 := 3) (As := []) (rest := [.int (0 : Int32), .int x1]) (t_J2_size γ l hl v3 g2) dX1_requireCourse_9 q2004 q1891 q794 q112 q795 (by decide +kernel) (by decide +kernel) rfl h ⟨by decide, by decide⟩ (Nat.le_of_ble_eq_true rfl) (Nat.le_of_ble_eq_true rfl) rfl (Nat.le_of_ble_eq_true rfl)) (RunOK_chk (fun h => run_F (n := 0) (c9 := 5) (As := []) (rest := [.int (0 : Int32), .int x1]) (t_J4_size γ l hl v3 g2) dX1_requireCourse_9 q2004 q1894 q797 q116 q798 (by decide +kernel) (by decide +kernel) rfl h ⟨by decide, by decide⟩ (Nat.le_of_ble_eq_true rfl) (Nat.le_of_ble_eq_true rfl) rfl (Nat.le_of_ble_eq_true rfl)))) (fun v5 g4 => ?_)
  refine r_cXV (pc := 14) (rest := []) (run_S (n := 3) (As := [.int x1, .int (0 : Int32), .int v5]) (rest := []) (t_X1_requireIndex γ l hl x1 (0 : Int32) v5 g4) dX1_requireCourse_14 q2005 q2006 q108 q2007 (by decide +kernel) rfl (Nat.le_of_ble_eq_true rfl) (Nat.le_of_ble_eq_true rfl) rfl (Nat.le_of_ble_eq_true rfl)) (fun e7 g8 => ?_) (fun g6 => ?_)
  · skip
    exact x_out (by decide)
  · skip
    exact r_inl (fun _ => rfl) (r_vret (pc := 17) dX1_requireCourse_17 rfl)
abbrev ck_X2_course : CK := ("BanquetVotes$Kitchen", prog_14_method_6_code, 2, (some (.object "BanquetVotes$Course")), "course", [], 4)
def f_X2_course (γ : GP) (x0 : Nat) (x1 : Int32) (g : AH) : Option (Nat × AH) := gR g x0 9 fun v1 => bR ((if hK g v1 = 3 then f_J2_get γ v1 x1 g else if hK g v1 = 5 then f_J4_get γ v1 x1 g else none)) fun v3 g2 => gC g2 [20] v3 ((some (v3, g2)))
theorem t_X2_course (γ : GP) (l : Launch) (hl : l.stackTraces = false) (x0 : Nat) (x1 : Int32) (g : AH) : TrM ρR γ l ⟨"BanquetVotes$Kitchen", "course", "(I)LBanquetVotes$Course;"⟩ (ws_ ⟨"BanquetVotes$Kitchen", "course", "(I)LBanquetVotes$Course;"⟩ prog_14_method_6_code 2 (some (.object "BanquetVotes$Course"))) 4 [.ref x0, .int x1] g (f_X2_course γ x0 x1 g) := by
  refine TrM_of (plainFor_of_name (by decide)) (Nat.le_of_ble_eq_true rfl) ?_
  unfold f_X2_course
  change AW ρR γ l ck_X2_course g 0 [(0, .ref x0), (1, .int x1)] [] g _
  refine r_aload_n (pc := 0) dX2_course_0 rfl 0 rfl ?_
  refine r_getR (f := 9) (pc := 1) dX2_course_1 q266 (Or.inl rfl) rfl (fun v1 => ?_)
  refine r_iload_n (pc := 4) dX2_course_4 rfl 1 rfl ?_
  refine r_cR (pc := 5) (rest := []) (RunOK_if (fun h => run_F (n := 1) (c9 := 3) (As := [.int x1]) (rest := []) (t_J2_get γ l hl v1 x1 g) dX2_course_5 q2025 q2028 q844 q112 q845 (by decide +kernel) (by decide +kernel) rfl h ⟨by decide, by decide⟩ (Nat.le_of_ble_eq_true rfl) (Nat.le_of_ble_eq_true rfl) rfl (Nat.le_of_ble_eq_true rfl)) (RunOK_chk (fun h => run_F (n := 1) (c9 := 5) (As := [.int x1]) (rest := []) (t_J4_get γ l hl v1 x1 g) dX2_course_5 q2025 q2031 q857 q116 q858 (by decide +kernel) (by decide +kernel) rfl h ⟨by decide, by decide⟩ (Nat.le_of_ble_eq_true rfl) (Nat.le_of_ble_eq_true rfl) rfl (Nat.le_of_ble_eq_true rfl)))) (fun v3 g2 => ?_)
  refine r_cast_ (L := [20]) (pc := 10) dX2_course_10 q1063 (List.forall_mem_cons.mpr ⟨⟨by decide, by decide, Or.inl rfl⟩, (fun _ h => absurd h List.not_mem_nil)⟩) ?_
  exact r_aret (pc := 13) dX2_course_13 rfl (by first | exact Or.inl ⟨_, rfl⟩ | exact Or.inr ⟨_, rfl⟩)
abbrev ck_X7_phase : CK := ("BanquetVotes$Course", prog_4_method_5_code, 1, (some .int), "phase", [], 1)
def f_X7_phase (γ : GP) (x0 : Nat) (g : AH) : Option (Int32 × AH) := gI g x0 88 fun v1 => (some (v1, g))
theorem t_X7_phase (γ : GP) (l : Launch) (hl : l.stackTraces = false) (x0 : Nat) (g : AH) : TrM ρI γ l ⟨"BanquetVotes$Course", "phase", "()I"⟩ (ws_ ⟨"BanquetVotes$Course", "phase", "()I"⟩ prog_4_method_5_code 1 (some .int)) 1 [.ref x0] g (f_X7_phase γ x0 g) := by
  refine TrM_of (plainFor_of_name (by decide)) (Nat.le_of_ble_eq_true rfl) ?_
  unfold f_X7_phase
  change AW ρI γ l ck_X7_phase g 0 [(0, .ref x0)] [] g _
  refine r_aload_n (pc := 0) dX7_phase_0 rfl 0 rfl ?_
  refine r_getI (f := 88) (pc := 1) dX7_phase_1 q1453 (Or.inl rfl) rfl (fun v1 => ?_)
  exact r_iret (pc := 4) dX7_phase_4 rfl
abbrev ck_X8_ingredient : CK := ("BanquetVotes$Dish", prog_5_method_3_code, 1, (some .int), "ingredient", [], 1)
def f_X8_ingredient (γ : GP) (x0 : Nat) (g : AH) : Option (Int32 × AH) := gI g x0 93 fun v1 => (some (v1, g))
theorem t_X8_ingredient (γ : GP) (l : Launch) (hl : l.stackTraces = false) (x0 : Nat) (g : AH) : TrM ρI γ l ⟨"BanquetVotes$Dish", "ingredient", "()I"⟩ (ws_ ⟨"BanquetVotes$Dish", "ingredient", "()I"⟩ prog_5_method_3_code 1 (some .int)) 1 [.ref x0] g (f_X8_ingredient γ x0 g) := by
  refine TrM_of (plainFor_of_name (by decide)) (Nat.le_of_ble_eq_true rfl) ?_
  unfold f_X8_ingredient
  change AW ρI γ l ck_X8_ingredient g 0 [(0, .ref x0)] [] g _
  refine r_aload_n (pc := 0) dX8_ingredient_0 rfl 0 rfl ?_
  refine r_getI (f := 93) (pc := 1) dX8_ingredient_1 q1788 (Or.inl rfl) rfl (fun v1 => ?_)
  exact r_iret (pc := 4) dX8_ingredient_4 rfl
abbrev ck_X7_dishes : CK := ("BanquetVotes$Course", prog_4_method_3_code, 1, (some (.object "java/util/TreeMap")), "dishes", [], 1)
def f_X7_dishes (γ : GP) (x0 : Nat) (g : AH) : Option (Nat × AH) := gR g x0 87 fun v1 => (some (v1, g))
theorem t_X7_dishes (γ : GP) (l : Launch) (hl : l.stackTraces = false) (x0 : Nat) (g : AH) : TrM ρR γ l ⟨"BanquetVotes$Course", "dishes", "()Ljava/util/TreeMap;"⟩ (ws_ ⟨"BanquetVotes$Course", "dishes", "()Ljava/util/TreeMap;"⟩ prog_4_method_3_code 1 (some (.object "java/util/TreeMap"))) 1 [.ref x0] g (f_X7_dishes γ x0 g) := by
  refine TrM_of (plainFor_of_name (by decide)) (Nat.le_of_ble_eq_true rfl) ?_
  unfold f_X7_dishes
  change AW ρR γ l ck_X7_dishes g 0 [(0, .ref x0)] [] g _
  refine r_aload_n (pc := 0) dX7_dishes_0 rfl 0 rfl ?_
  refine r_getR (f := 87) (pc := 1) dX7_dishes_1 q1452 (Or.inl rfl) rfl (fun v1 => ?_)
  exact r_aret (pc := 4) dX7_dishes_4 rfl (by first | exact Or.inl ⟨_, rfl⟩ | exact Or.inr ⟨_, rfl⟩)
abbrev ck_X2_givesDish : CK := ("BanquetVotes$Kitchen", prog_14_method_14_code, 7, (some .int), "givesDish", [], 8)
def f_X2_givesDish (γ : GP) (x0 : Nat) (x1 : Int32) (x2 : Int32) (x3 : Int32) (x4 : Int32) (g : AH) : Option ((Int32 × AH) ⊕ (Nat × AH)) := bR ((if hK g x0 = 2 then f_X2_course γ x0 x1 g else none)) fun v2 g1 => bI ((if hK g1 v2 = 20 then f_X7_phase γ v2 g1 else none)) fun v4 g3 => jn (fun (z5 : Int32) (g6 : AH) => bI ((if hK g6 v2 = 20 then f_X7_phase γ v2 g6 else none)) fun v9 g8 => bXV (f_X1_meet γ z5 (3 : Int32) v9 g8) (fun e11 g12 => (thr e11 g12)) fun g10 => bR ((if hK g10 v2 = 20 then f_X7_of γ v2 x2 g10 else none)) fun v14 g13 => jn (fun (z15 : Int32) (g16 : AH) => jn (fun (z18 : Int32) (z19 : Int32) (z20 : Int32) (g21 : AH) => bXV (f_X1_meet γ z20 z19 z18 g21) (fun e24 g25 => (thr e24 g25)) fun g23 => bR ((if hK g23 v2 = 20 then f_X7_dishes γ v2 g23 else none)) fun v27 g26 => bR (f_J21_valueOf γ x2 g26) fun v29 g28 => mO g28 22 fun q30 g31 => bV ((if q30 ≠ 0 then f_X8_init γ q30 x3 x4 g31 else none)) fun g32 => bR ((if hK g32 v27 = 15 then f_J28_put γ v27 v29 q30 g32 else none)) fun v34 g33 => bR ((if hK g33 v2 = 20 then f_X7_dishes γ v2 g33 else none)) fun v36 g35 => bI ((if hK g35 v36 = 15 then f_J28_size γ v36 g35 else none)) fun v38 g37 => (some (.inl (v38, g37)))) (fun (j22 : Int32 → Int32 → Int32 → AH → Option ((Int32 × AH) ⊕ (Nat × AH))) => (if v14 = 0 then j22 (-1 : Int32) (4 : Int32) z15 g16 else bI ((if hK g16 v14 = 22 then f_X8_ingredient γ v14 g16 else none)) fun v40 g39 => j22 v40 (4 : Int32) z15 g39))) (fun (j17 : Int32 → AH → Option ((Int32 × AH) ⊕ (Nat × AH))) => (if v14 = 0 then j17 (1 : Int32) g13 else j17 (0 : Int32) g13))) (fun (j7 : Int32 → AH → Option ((Int32 × AH) ⊕ (Nat × AH))) => (if v4 = 0 then j7 (1 : Int32) g3 else j7 (0 : Int32) g3))
theorem t_X2_givesDish (γ : GP) (l : Launch) (hl : l.stackTraces = false) (x0 : Nat) (x1 : Int32) (x2 : Int32) (x3 : Int32) (x4 : Int32) (g : AH) : TrM (ρX ρI) γ l ⟨"BanquetVotes$Kitchen", "givesDish", "(IIII)I"⟩ (ws_ ⟨"BanquetVotes$Kitchen", "givesDish", "(IIII)I"⟩ prog_14_method_14_code 7 (some .int)) 8 [.ref x0, .int x1, .int x2, .int x3, .int x4] g (f_X2_givesDish γ x0 x1 x2 x3 x4 g) := by
  refine TrM_of (plainFor_of_name (by decide)) (Nat.le_of_ble_eq_true rfl) ?_
  unfold f_X2_givesDish
  change AW (ρX ρI) γ l ck_X2_givesDish g 0 [(0, .ref x0), (1, .int x1), (2, .int x2), (3, .int x3), (4, .int x4)] [] g _
  refine r_aload_n (pc := 0) dX2_givesDish_0 rfl 0 rfl ?_
  refine r_iload_n (pc := 1) dX2_givesDish_1 rfl 1 rfl ?_
  refine r_cR (pc := 2) (rest := []) (RunOK_chk (fun h => run_V (n := 1) (c9 := 2) (As := [.int x1]) (rest := []) (t_X2_course γ l hl x0 x1 g) dX2_givesDish_2 q2127 q2128 q2129 q109 q2130 (by decide +kernel) rfl h ⟨rfl, by decide, by decide⟩ (Nat.le_of_ble_eq_true rfl) (Nat.le_of_ble_eq_true rfl) rfl (Nat.le_of_ble_eq_true rfl))) (fun v2 g1 => ?_)
  refine r_astore (pc := 5) dX2_givesDish_5 (Nat.le_of_ble_eq_true rfl) rfl ?_
  refine r_aload (pc := 7) dX2_givesDish_7 0 rfl ?_
  refine r_cI (pc := 9) (rest := []) (RunOK_chk (fun h => run_V (n := 0) (c9 := 20) (As := []) (rest := []) (t_X7_phase γ l hl v2 g1) dX2_givesDish_9 q2131 q2132 q2133 q150 q2134 (by decide +kernel) rfl h ⟨rfl, by decide, by decide⟩ (Nat.le_of_ble_eq_true rfl) (Nat.le_of_ble_eq_true rfl) rfl (Nat.le_of_ble_eq_true rfl))) (fun v4 g3 => ?_)
  refine AW_jn (P := fun (j : Int32 → AH → Option ((Int32 × AH) ⊕ (Nat × AH))) => ∀ (z5 : Int32) (g6 : AH), AW (ρX ρI) γ l ck_X2_givesDish g 20 [(2, .int x2), (3, .int x3), (4, .int x4), (5, .ref v2)] [.int z5] g6 (j z5 g6)) (fun z5 g6 => ?_) (fun j7 h_j7 => ?_)
  · skip
    refine r_iconst (v := (3 : Int32)) (pc := 20) dX2_givesDish_20 (by decide) ?_
    refine r_aload (pc := 21) dX2_givesDish_21 3 rfl ?_
    refine r_cI (pc := 23) (rest := [.int (3 : Int32), .int z5]) (RunOK_chk (fun h => run_V (n := 0) (c9 := 20) (As := []) (rest := [.int (3 : Int32), .int z5]) (t_X7_phase γ l hl v2 g6) dX2_givesDish_23 q2131 q2132 q2133 q150 q2134 (by decide +kernel) rfl h ⟨rfl, by decide, by decide⟩ (Nat.le_of_ble_eq_true rfl) (Nat.le_of_ble_eq_true rfl) rfl (Nat.le_of_ble_eq_true rfl))) (fun v9 g8 => ?_)
    refine r_cXV (pc := 26) (rest := []) (run_SN (n := 3) (As := [.int z5, .int (3 : Int32), .int v9]) (rest := []) (t_X1_meet γ l hl z5 (3 : Int32) v9 g8) dX2_givesDish_26 mv1897 q1898 q108 q1899 (by decide +kernel) rfl (Nat.le_of_ble_eq_true rfl) (Nat.le_of_ble_eq_true rfl) rfl (Nat.le_of_ble_eq_true rfl)) (fun e11 g12 => ?_) (fun g10 => ?_)
    · skip
      exact x_out (by decide)
    · skip
      refine r_aload (pc := 29) dX2_givesDish_29 3 rfl ?_
      refine r_iload_n (pc := 31) dX2_givesDish_31 rfl 0 rfl ?_
      refine r_cR (pc := 32) (rest := []) (RunOK_chk (fun h => run_V (n := 1) (c9 := 20) (As := [.int x2]) (rest := []) (t_X7_of γ l hl v2 x2 g10) dX2_givesDish_32 q2066 q2067 q2068 q150 q2069 (by decide +kernel) rfl h ⟨rfl, by decide, by decide⟩ (Nat.le_of_ble_eq_true rfl) (Nat.le_of_ble_eq_true rfl) rfl (Nat.le_of_ble_eq_true rfl))) (fun v14 g13 => ?_)
      refine r_astore (pc := 35) dX2_givesDish_35 (Nat.le_of_ble_eq_true rfl) rfl ?_
      refine r_aload (pc := 37) dX2_givesDish_37 0 rfl ?_
      refine AW_jn (P := fun (j : Int32 → AH → Option ((Int32 × AH) ⊕ (Nat × AH))) => ∀ (z15 : Int32) (g16 : AH), AW (ρX ρI) γ l ck_X2_givesDish g 47 [(2, .int x2), (3, .int x3), (4, .int x4), (5, .ref v2), (6, .ref v14)] [.int z15] g16 (j z15 g16)) (fun z15 g16 => ?_) (fun j17 h_j17 => ?_)
      · skip
        refine r_iconst (v := (4 : Int32)) (pc := 47) dX2_givesDish_47 (by decide) ?_
        refine r_aload (pc := 48) dX2_givesDish_48 4 rfl ?_
        refine AW_jn (P := fun (j : Int32 → Int32 → Int32 → AH → Option ((Int32 × AH) ⊕ (Nat × AH))) => ∀ (z18 : Int32) (z19 : Int32) (z20 : Int32) (g21 : AH), AW (ρX ρI) γ l ck_X2_givesDish g 62 [(2, .int x2), (3, .int x3), (4, .int x4), (5, .ref v2)] [.int z18, .int z19, .int z20] g21 (j z18 z19 z20 g21)) (fun z18 z19 z20 g21 => ?_) (fun j22 h_j22 => ?_)
        · skip
          refine r_cXV (pc := 62) (rest := []) (run_SN (n := 3) (As := [.int z20, .int z19, .int z18]) (rest := []) (t_X1_meet γ l hl z20 z19 z18 g21) dX2_givesDish_62 mv1897 q1898 q108 q1899 (by decide +kernel) rfl (Nat.le_of_ble_eq_true rfl) (Nat.le_of_ble_eq_true rfl) rfl (Nat.le_of_ble_eq_true rfl)) (fun e24 g25 => ?_) (fun g23 => ?_)
          · skip
            exact x_out (by decide)
          · skip
            refine r_aload (pc := 65) dX2_givesDish_65 3 rfl ?_
            refine r_cR (pc := 67) (rest := []) (RunOK_chk (fun h => run_V (n := 0) (c9 := 20) (As := []) (rest := []) (t_X7_dishes γ l hl v2 g23) dX2_givesDish_67 q2139 q2140 q2141 q150 q2142 (by decide +kernel) rfl h ⟨rfl, by decide, by decide⟩ (Nat.le_of_ble_eq_true rfl) (Nat.le_of_ble_eq_true rfl) rfl (Nat.le_of_ble_eq_true rfl))) (fun v27 g26 => ?_)
            refine r_iload_n (pc := 70) dX2_givesDish_70 rfl 0 rfl ?_
            refine r_cR (pc := 71) (rest := [.ref v27]) (run_S (n := 1) (As := [.int x2]) (rest := [.ref v27]) (t_J21_valueOf γ l hl x2 g26) dX2_givesDish_71 q2143 q1503 q135 q1504 (by decide +kernel) rfl (Nat.le_of_ble_eq_true rfl) (Nat.le_of_ble_eq_true rfl) rfl (Nat.le_of_ble_eq_true rfl)) (fun v29 g28 => ?_)
            refine r_new (c := 22) (pc := 74) dX2_givesDish_74 q2144 (by decide) (by decide) (fun q30 g31 => ?_)
            refine r_dup (pc := 77) dX2_givesDish_77 rfl ?_
            refine r_iload_n (pc := 78) dX2_givesDish_78 rfl 1 rfl ?_
            refine r_iload (pc := 79) dX2_givesDish_79 2 rfl ?_
            refine r_cV (pc := 81) (rest := [.ref q30, .ref v29, .ref v27]) (RunOK_chk (fun h => run_I (n := 2) (As := [.int x3, .int x4]) (rest := [.ref q30, .ref v29, .ref v27]) (t_X8_init γ l hl q30 x3 x4 g31) dX2_givesDish_81 q2145 q1783 q157 q1784 rfl (by decide +kernel) rfl h (Nat.le_of_ble_eq_true rfl) (Nat.le_of_ble_eq_true rfl) rfl (Nat.le_of_ble_eq_true rfl))) (fun g32 => ?_)
            refine r_cR (pc := 84) (rest := []) (RunOK_chk (fun h => run_V (n := 2) (c9 := 15) (As := [.ref v29, .ref q30]) (rest := []) (t_J28_put γ l hl v27 v29 q30 g32) dX2_givesDish_84 q2146 q1802 q1803 q143 q1804 (by decide +kernel) rfl h ⟨rfl, by decide, by decide⟩ (Nat.le_of_ble_eq_true rfl) (Nat.le_of_ble_eq_true rfl) rfl (Nat.le_of_ble_eq_true rfl))) (fun v34 g33 => ?_)
            refine r_pop (pc := 87) dX2_givesDish_87 rfl ?_
            refine r_aload (pc := 88) dX2_givesDish_88 3 rfl ?_
            refine r_cR (pc := 90) (rest := []) (RunOK_chk (fun h => run_V (n := 0) (c9 := 20) (As := []) (rest := []) (t_X7_dishes γ l hl v2 g33) dX2_givesDish_90 q2139 q2140 q2141 q150 q2142 (by decide +kernel) rfl h ⟨rfl, by decide, by decide⟩ (Nat.le_of_ble_eq_true rfl) (Nat.le_of_ble_eq_true rfl) rfl (Nat.le_of_ble_eq_true rfl))) (fun v36 g35 => ?_)
            refine r_cI (pc := 93) (rest := []) (RunOK_chk (fun h => run_V (n := 0) (c9 := 15) (As := []) (rest := []) (t_J28_size γ l hl v36 g35) dX2_givesDish_93 q2147 q1301 q1302 q143 q1303 (by decide +kernel) rfl h ⟨rfl, by decide, by decide⟩ (Nat.le_of_ble_eq_true rfl) (Nat.le_of_ble_eq_true rfl) rfl (Nat.le_of_ble_eq_true rfl))) (fun v38 g37 => ?_)
            exact r_inl (fun _ => rfl) (r_iret (pc := 96) dX2_givesDish_96 rfl)
        · skip
          refine r_ifnonnull (tgt := 57) (pc := 50) dX2_givesDish_50 (by decide) ?_ ?_
          · skip
            refine r_iconst (v := (-1 : Int32)) (pc := 53) dX2_givesDish_53 (by decide) ?_
            refine r_goto (tgt := 62) (pc := 54) dX2_givesDish_54 (by decide) ?_
            refine AW_sub [0, 1, 2, 3] rfl ?_
            exact h_j22 (-1 : Int32) (4 : Int32) z15 g16
          · skip
            refine r_aload (pc := 57) dX2_givesDish_57 4 rfl ?_
            refine r_cI (pc := 59) (rest := [.int (4 : Int32), .int z15]) (RunOK_chk (fun h => run_V (n := 0) (c9 := 22) (As := []) (rest := [.int (4 : Int32), .int z15]) (t_X8_ingredient γ l hl v14 g16) dX2_givesDish_59 q2135 q2136 q2137 q157 q2138 (by decide +kernel) rfl h ⟨rfl, by decide, by decide⟩ (Nat.le_of_ble_eq_true rfl) (Nat.le_of_ble_eq_true rfl) rfl (Nat.le_of_ble_eq_true rfl))) (fun v40 g39 => ?_)
            refine AW_sub [0, 1, 2, 3] rfl ?_
            exact h_j22 v40 (4 : Int32) z15 g39
      · skip
        refine r_ifnonnull (tgt := 46) (pc := 39) dX2_givesDish_39 (by decide) ?_ ?_
        · skip
          refine r_iconst (v := (1 : Int32)) (pc := 42) dX2_givesDish_42 (by decide) ?_
          refine r_goto (tgt := 47) (pc := 43) dX2_givesDish_43 (by decide) ?_
          refine AW_sub [1, 2, 3, 4, 0] rfl ?_
          exact h_j17 (1 : Int32) g13
        · skip
          refine r_iconst (v := (0 : Int32)) (pc := 46) dX2_givesDish_46 (by decide) ?_
          refine AW_sub [1, 2, 3, 4, 0] rfl ?_
          exact h_j17 (0 : Int32) g13
  · skip
    refine r_if_ne (tgt := 19) (pc := 12) dX2_givesDish_12 (by decide) ?_ ?_
    · skip
      refine r_iconst (v := (1 : Int32)) (pc := 15) dX2_givesDish_15 (by decide) ?_
      refine r_goto (tgt := 20) (pc := 16) dX2_givesDish_16 (by decide) ?_
      refine AW_sub [3, 4, 5, 0] rfl ?_
      exact h_j7 (1 : Int32) g3
    · skip
      refine r_iconst (v := (0 : Int32)) (pc := 19) dX2_givesDish_19 (by decide) ?_
      refine AW_sub [3, 4, 5, 0] rfl ?_
      exact h_j7 (0 : Int32) g3
abbrev ck_X1_dish : CK := ("BanquetVotes", prog_1_method_20_code, 7, (some .int), "dish", [(34, 50, 51, 1)], 10)
def f_X1_dish (γ : GP) (x0 : Nat) (x1 : Int32) (x2 : Int32) (x3 : Int32) (x4 : Int32) (g : AH) : Option ((Int32 × AH) ⊕ (Nat × AH)) := bXV ((if hK g x0 = 1 then f_X1_requireCourse γ x0 x1 g else none)) (fun e2 g3 => (thr e2 g3)) fun g1 => bXV ((if hK g1 x0 = 1 then f_X1_requireCook γ x0 x2 g1 else none)) (fun e5 g6 => (thr e5 g6)) fun g4 => bXV (f_X1_requireIngredient γ x3 g4) (fun e8 g9 => (thr e8 g9)) fun g7 => bI (f_X1_isIn γ x4 (1 : Int32) (20 : Int32) g7) fun v11 g10 => bXV (f_X1_require γ v11 g10) (fun e13 g14 => (thr e13 g14)) fun g12 => gR g12 x0 0 fun v15 => bR ((if hK g12 v15 = 2 then f_X2_copy γ v15 g12 else none)) fun v17 g16 => bXI ((if hK g16 v17 = 2 then f_X2_givesDish γ v17 x1 x2 x3 x4 g16 else none)) (fun e20 g21 => (if hK g21 e20 = 24 then bR ((if hK g21 x0 = 1 then f_X1_refused γ x0 e20 g21 else none)) fun v23 g22 => (tw γ g22 v23 (thr v23 g22)) else none)) fun v19 g18 => bI ((if hK g18 x0 = 1 then f_X1_become γ x0 v17 v19 g18 else none)) fun v25 g24 => (some (.inl (v25, g24)))
theorem t_X1_dish (γ : GP) (l : Launch) (hl : l.stackTraces = false) (x0 : Nat) (x1 : Int32) (x2 : Int32) (x3 : Int32) (x4 : Int32) (g : AH) : TrM (ρX ρI) γ l ⟨"BanquetVotes", "dish", "(IIII)I"⟩ (wsW_ ⟨"BanquetVotes", "dish", "(IIII)I"⟩ prog_1_method_20_code 7 (some .int) [(34, 50, 51, 1)]) 10 [.ref x0, .int x1, .int x2, .int x3, .int x4] g (f_X1_dish γ x0 x1 x2 x3 x4 g) := by
  refine TrM_ofH (by decide) (Nat.le_of_ble_eq_true rfl) ?_
  unfold f_X1_dish
  change AW (ρX ρI) γ l ck_X1_dish g 0 [(0, .ref x0), (1, .int x1), (2, .int x2), (3, .int x3), (4, .int x4)] [] g _
  refine r_aload_n (pc := 0) dX1_dish_0 rfl 0 rfl ?_
  refine r_iload_n (pc := 1) dX1_dish_1 rfl 1 rfl ?_
  refine r_cXV (pc := 2) (rest := []) (RunOK_chk (fun h => run_V (n := 1) (c9 := 1) (As := [.int x1]) (rest := []) (t_X1_requireCourse γ l hl x0 x1 g) dX1_dish_2 q2115 q2117 qs21 q108 q2118 (by decide +kernel) rfl h ⟨rfl, by decide, by decide⟩ (Nat.le_of_ble_eq_true rfl) (Nat.le_of_ble_eq_true rfl) rfl (Nat.le_of_ble_eq_true rfl))) (fun e2 g3 => ?_) (fun g1 => ?_)
  · skip
    exact x_out (by decide)
  · skip
    refine r_aload_n (pc := 5) dX1_dish_5 rfl 0 rfl ?_
    refine r_iload_n (pc := 6) dX1_dish_6 rfl 2 rfl ?_
    refine r_cXV (pc := 7) (rest := []) (RunOK_chk (fun h => run_V (n := 1) (c9 := 1) (As := [.int x2]) (rest := []) (t_X1_requireCook γ l hl x0 x2 g1) dX1_dish_7 q1995 q1997 qs20 q108 q1998 (by decide +kernel) rfl h ⟨rfl, by decide, by decide⟩ (Nat.le_of_ble_eq_true rfl) (Nat.le_of_ble_eq_true rfl) rfl (Nat.le_of_ble_eq_true rfl))) (fun e5 g6 => ?_) (fun g4 => ?_)
    · skip
      exact x_out (by decide)
    · skip
      refine r_iload_n (pc := 10) dX1_dish_10 rfl 3 rfl ?_
      refine r_cXV (pc := 11) (rest := []) (run_S (n := 1) (As := [.int x3]) (rest := []) (t_X1_requireIngredient γ l hl x3 g4) dX1_dish_11 q2013 q2014 q108 q2015 (by decide +kernel) rfl (Nat.le_of_ble_eq_true rfl) (Nat.le_of_ble_eq_true rfl) rfl (Nat.le_of_ble_eq_true rfl)) (fun e8 g9 => ?_) (fun g7 => ?_)
      · skip
        exact x_out (by decide)
      · skip
        refine r_iload (pc := 14) dX1_dish_14 4 rfl ?_
        refine r_iconst (v := (1 : Int32)) (pc := 16) dX1_dish_16 (by decide) ?_
        refine r_bipush (v := (20 : Int32)) (pc := 17) dX1_dish_17 (by decide) ?_
        refine r_cI (pc := 19) (rest := []) (run_S (n := 3) (As := [.int x4, .int (1 : Int32), .int (20 : Int32)]) (rest := []) (t_X1_isIn γ l hl x4 (1 : Int32) (20 : Int32) g7) dX1_dish_19 q1208 q1209 q108 q1210 (by decide +kernel) rfl (Nat.le_of_ble_eq_true rfl) (Nat.le_of_ble_eq_true rfl) rfl (Nat.le_of_ble_eq_true rfl)) (fun v11 g10 => ?_)
        refine r_cXV (pc := 22) (rest := []) (run_S (n := 1) (As := [.int v11]) (rest := []) (t_X1_require γ l hl v11 g10) dX1_dish_22 q1211 q1212 q108 q1213 (by decide +kernel) rfl (Nat.le_of_ble_eq_true rfl) (Nat.le_of_ble_eq_true rfl) rfl (Nat.le_of_ble_eq_true rfl)) (fun e13 g14 => ?_) (fun g12 => ?_)
        · skip
          exact x_out (by decide)
        · skip
          refine r_aload_n (pc := 25) dX1_dish_25 rfl 0 rfl ?_
          refine r_getR (f := 0) (pc := 26) dX1_dish_26 q320 (Or.inl rfl) rfl (fun v15 => ?_)
          refine r_cR (pc := 29) (rest := []) (RunOK_chk (fun h => run_V (n := 0) (c9 := 2) (As := []) (rest := []) (t_X2_copy γ l hl v15 g12) dX1_dish_29 q1219 q1220 q1221 q109 q1222 (by decide +kernel) rfl h ⟨rfl, by decide, by decide⟩ (Nat.le_of_ble_eq_true rfl) (Nat.le_of_ble_eq_true rfl) rfl (Nat.le_of_ble_eq_true rfl))) (fun v17 g16 => ?_)
          refine r_astore (pc := 32) dX1_dish_32 (Nat.le_of_ble_eq_true rfl) rfl ?_
          refine r_aload_n (pc := 34) dX1_dish_34 rfl 1 rfl ?_
          refine r_aload (pc := 35) dX1_dish_35 0 rfl ?_
          refine r_aload (pc := 37) dX1_dish_37 0 rfl ?_
          refine r_iload_n (pc := 39) dX1_dish_39 rfl 2 rfl ?_
          refine r_iload_n (pc := 40) dX1_dish_40 rfl 3 rfl ?_
          refine r_iload_n (pc := 41) dX1_dish_41 rfl 4 rfl ?_
          refine r_iload (pc := 42) dX1_dish_42 5 rfl ?_
          refine r_cXI (pc := 44) (rest := [.ref v17, .ref x0]) (RunOK_chk (fun h => run_V (n := 4) (c9 := 2) (As := [.int x1, .int x2, .int x3, .int x4]) (rest := [.ref v17, .ref x0]) (t_X2_givesDish γ l hl v17 x1 x2 x3 x4 g16) dX1_dish_44 q2123 q2124 q2125 q109 q2126 (by decide +kernel) rfl h ⟨rfl, by decide, by decide⟩ (Nat.le_of_ble_eq_true rfl) (Nat.le_of_ble_eq_true rfl) rfl (Nat.le_of_ble_eq_true rfl))) (fun e20 g21 => ?_) (fun v19 g18 => ?_)
          · skip
            refine AX_if (fun hc => ?_) (fun _ => ?_)
            · refine x_catch [] (34, 50, 51, 1) [] rfl hc ((fun _ h => absurd h List.not_mem_nil)) (by decide) (by decide) q1207 mv1901 ?_
              refine r_astore (pc := 51) dX1_dish_51 (Nat.le_of_ble_eq_true rfl) rfl ?_
              refine r_aload_n (pc := 53) dX1_dish_53 rfl 2 rfl ?_
              refine r_aload (pc := 54) dX1_dish_54 0 rfl ?_
              refine r_cR (pc := 56) (rest := []) (RunOK_chk (fun h => run_V (n := 1) (c9 := 1) (As := [.ref e20]) (rest := []) (t_X1_refused γ l hl x0 e20 g21) dX1_dish_56 q1945 q1947 qs19 q108 q1948 (by decide +kernel) rfl h ⟨rfl, by decide, by decide⟩ (Nat.le_of_ble_eq_true rfl) (Nat.le_of_ble_eq_true rfl) rfl (Nat.le_of_ble_eq_true rfl))) (fun v23 g22 => ?_)
              refine r_athrow (pc := 59) dX1_dish_59 ?_
              exact x_out (by decide)
            · skip
              exact fun r h => by cases h
          · skip
            refine r_cI (pc := 47) (rest := []) (RunOK_chk (fun h => run_V (n := 2) (c9 := 1) (As := [.ref v17, .int v19]) (rest := []) (t_X1_become γ l hl x0 v17 v19 g18) dX1_dish_47 q1926 q1928 qs17 q108 q1929 (by decide +kernel) rfl h ⟨rfl, by decide, by decide⟩ (Nat.le_of_ble_eq_true rfl) (Nat.le_of_ble_eq_true rfl) rfl (Nat.le_of_ble_eq_true rfl))) (fun v25 g24 => ?_)
            exact r_inl (fun _ => rfl) (r_iret (pc := 50) dX1_dish_50 rfl)
abbrev ck_X7_those : CK := ("BanquetVotes$Course", prog_4_method_13_code, 5, (some .int), "those", [], 5)
def f_X7_those_L15 (γ : GP) (x1 : Nat) (x3 : Nat) : Nat → Int32 → AH → Option (Int32 × AH)
  | 0, _, _ => none
  | n + 1, x2, g => bI ((if hK g x3 = 10 then f_J13_hasNext γ x3 g else if hK g x3 = 13 then f_J24_hasNext γ x3 g else if hK g x3 = 17 then f_J29_hasNext γ x3 g else if hK g x3 = 18 then f_J29_hasNext γ x3 g else none)) fun v7 g6 => (if v7 = 0 then (some (x2, g6)) else bR ((if hK g6 x3 = 10 then f_J13_next γ x3 g6 else if hK g6 x3 = 13 then f_J24_next γ x3 g6 else if hK g6 x3 = 17 then f_J31_next γ x3 g6 else if hK g6 x3 = 18 then f_J32_next γ x3 g6 else none)) fun v9 g8 => gC g8 [22] v9 (bR ((if hK g8 v9 = 22 then f_X8_how γ v9 g8 else none)) fun v11 g10 => (if v11 = x1 then f_X7_those_L15 γ x1 x3 n (x2 + (1 : Int32)) g10 else f_X7_those_L15 γ x1 x3 n (x2 + (0 : Int32)) g10)))
def f_X7_those (γ : GP) (x0 : Nat) (x1 : Nat) (g : AH) : Option (Int32 × AH) := gR g x0 87 fun v1 => bR ((if hK g v1 = 15 then f_J28_values γ v1 g else none)) fun v3 g2 => bR ((if hK g2 v3 = 26 then f_J42_iterator γ v3 g2 else none)) fun v5 g4 => f_X7_those_L15 γ x1 v5 FU (0 : Int32) g4
theorem f_X7_those_L15_w (γ : GP) (l : Launch) (hl : l.stackTraces = false) (G0 : AH) (x1 : Nat) (x3 : Nat) : ∀ (n : Nat) (x2 : Int32) (g : AH), AW ρI γ l ck_X7_those G0 15 [(1, .ref x1), (2, .int x2), (3, .ref x3)] [] g (f_X7_those_L15 γ x1 x3 n x2 g) := by
  intro n
  induction n with
  | zero => intro x2 g; exact AW_none
  | succ n ih =>
    intro x2 g
    unfold f_X7_those_L15
    refine r_aload_n (pc := 15) dX7_those_15 rfl 2 rfl ?_
    refine r_cI (pc := 16) (rest := []) (RunOK_if (fun h => run_F (n := 0) (c9 := 10) (As := []) (rest := []) (t_J13_hasNext γ l hl x3 g) dX7_those_16 q1174 q800 q802 q126 q804 (by decide +kernel) (by decide +kernel) rfl h ⟨by decide, by decide⟩ (Nat.le_of_ble_eq_true rfl) (Nat.le_of_ble_eq_true rfl) rfl (Nat.le_of_ble_eq_true rfl)) (RunOK_if (fun h => run_F (n := 0) (c9 := 13) (As := []) (rest := []) (t_J24_hasNext γ l hl x3 g) dX7_those_16 q1174 q809 q811 q139 q813 (by decide +kernel) (by decide +kernel) rfl h ⟨by decide, by decide⟩ (Nat.le_of_ble_eq_true rfl) (Nat.le_of_ble_eq_true rfl) rfl (Nat.le_of_ble_eq_true rfl)) (RunOK_if (fun h => run_F (n := 0) (c9 := 17) (As := []) (rest := []) (t_J29_hasNext γ l hl x3 g) dX7_those_16 q1174 q821 q817 q145 q819 (by decide +kernel) (by decide +kernel) rfl h ⟨by decide, by decide⟩ (Nat.le_of_ble_eq_true rfl) (Nat.le_of_ble_eq_true rfl) rfl (Nat.le_of_ble_eq_true rfl)) (RunOK_chk (fun h => run_F (n := 0) (c9 := 18) (As := []) (rest := []) (t_J29_hasNext γ l hl x3 g) dX7_those_16 q1174 q824 q817 q145 q819 (by decide +kernel) (by decide +kernel) rfl h ⟨by decide, by decide⟩ (Nat.le_of_ble_eq_true rfl) (Nat.le_of_ble_eq_true rfl) rfl (Nat.le_of_ble_eq_true rfl)))))) (fun v7 g6 => ?_)
    refine r_if_eq (tgt := 55) (pc := 21) dX7_those_21 (by decide) ?_ ?_
    · skip
      refine r_iload_n (pc := 55) dX7_those_55 rfl 1 rfl ?_
      exact r_iret (pc := 56) dX7_those_56 rfl
    · skip
      refine r_aload_n (pc := 24) dX7_those_24 rfl 2 rfl ?_
      refine r_cR (pc := 25) (rest := []) (RunOK_if (fun h => run_F (n := 0) (c9 := 10) (As := []) (rest := []) (t_J13_next γ l hl x3 g6) dX7_those_25 q1176 q991 q993 q126 q995 (by decide +kernel) (by decide +kernel) rfl h ⟨by decide, by decide⟩ (Nat.le_of_ble_eq_true rfl) (Nat.le_of_ble_eq_true rfl) rfl (Nat.le_of_ble_eq_true rfl)) (RunOK_if (fun h => run_F (n := 0) (c9 := 13) (As := []) (rest := []) (t_J24_next γ l hl x3 g6) dX7_those_25 q1176 q1015 q1017 q139 q1019 (by decide +kernel) (by decide +kernel) rfl h ⟨by decide, by decide⟩ (Nat.le_of_ble_eq_true rfl) (Nat.le_of_ble_eq_true rfl) rfl (Nat.le_of_ble_eq_true rfl)) (RunOK_if (fun h => run_F (n := 0) (c9 := 17) (As := []) (rest := []) (t_J31_next γ l hl x3 g6) dX7_those_25 q1176 q1047 q1049 q147 q1051 (by decide +kernel) (by decide +kernel) rfl h ⟨by decide, by decide⟩ (Nat.le_of_ble_eq_true rfl) (Nat.le_of_ble_eq_true rfl) rfl (Nat.le_of_ble_eq_true rfl)) (RunOK_chk (fun h => run_F (n := 0) (c9 := 18) (As := []) (rest := []) (t_J32_next γ l hl x3 g6) dX7_those_25 q1176 q1055 q1057 q148 q1059 (by decide +kernel) (by decide +kernel) rfl h ⟨by decide, by decide⟩ (Nat.le_of_ble_eq_true rfl) (Nat.le_of_ble_eq_true rfl) rfl (Nat.le_of_ble_eq_true rfl)))))) (fun v9 g8 => ?_)
      refine r_cast_ (L := [22]) (pc := 30) dX7_those_30 q1177 (List.forall_mem_cons.mpr ⟨⟨by decide, by decide, Or.inl rfl⟩, (fun _ h => absurd h List.not_mem_nil)⟩) ?_
      refine r_astore (pc := 33) dX7_those_33 (Nat.le_of_ble_eq_true rfl) rfl ?_
      refine r_iload_n (pc := 35) dX7_those_35 rfl 2 rfl ?_
      refine r_aload (pc := 36) dX7_those_36 0 rfl ?_
      refine r_cR (pc := 38) (rest := [.int x2]) (RunOK_chk (fun h => run_V (n := 0) (c9 := 22) (As := []) (rest := [.int x2]) (t_X8_how γ l hl v9 g8) dX7_those_38 q1178 q1179 q1180 q157 q1181 (by decide +kernel) rfl h ⟨rfl, by decide, by decide⟩ (Nat.le_of_ble_eq_true rfl) (Nat.le_of_ble_eq_true rfl) rfl (Nat.le_of_ble_eq_true rfl))) (fun v11 g10 => ?_)
      refine r_aload_n (pc := 41) dX7_those_41 rfl 1 rfl ?_
      refine r_acmp_ne (tgt := 49) (pc := 42) dX7_those_42 (by decide) ?_ ?_
      · skip
        refine r_iconst (v := (1 : Int32)) (pc := 45) dX7_those_45 (by decide) ?_
        refine r_goto (tgt := 50) (pc := 46) dX7_those_46 (by decide) ?_
        refine r_iadd (pc := 50) dX7_those_50 ?_
        refine r_istore_n (pc := 51) dX7_those_51 rfl (Nat.le_of_ble_eq_true rfl) rfl ?_
        refine r_goto (tgt := 15) (pc := 52) dX7_those_52 (by decide) ?_
        refine AW_sub [2, 0, 3] rfl ?_
        exact ih (x2 + (1 : Int32)) g10
      · skip
        refine r_iconst (v := (0 : Int32)) (pc := 49) dX7_those_49 (by decide) ?_
        refine r_iadd (pc := 50) dX7_those_50 ?_
        refine r_istore_n (pc := 51) dX7_those_51 rfl (Nat.le_of_ble_eq_true rfl) rfl ?_
        refine r_goto (tgt := 15) (pc := 52) dX7_those_52 (by decide) ?_
        refine AW_sub [2, 0, 3] rfl ?_
        exact ih (x2 + (0 : Int32)) g10
theorem t_X7_those (γ : GP) (l : Launch) (hl : l.stackTraces = false) (x0 : Nat) (x1 : Nat) (g : AH) : TrM ρI γ l ⟨"BanquetVotes$Course", "those", "(LBanquetVotes$How;)I"⟩ (ws_ ⟨"BanquetVotes$Course", "those", "(LBanquetVotes$How;)I"⟩ prog_4_method_13_code 5 (some .int)) 5 [.ref x0, .ref x1] g (f_X7_those γ x0 x1 g) := by
  refine TrM_of (plainFor_of_name (by decide)) (Nat.le_of_ble_eq_true rfl) ?_
  unfold f_X7_those
  change AW ρI γ l ck_X7_those g 0 [(0, .ref x0), (1, .ref x1)] [] g _
  refine r_iconst (v := (0 : Int32)) (pc := 0) dX7_those_0 (by decide) ?_
  refine r_istore_n (pc := 1) dX7_those_1 rfl (Nat.le_of_ble_eq_true rfl) rfl ?_
  refine r_aload_n (pc := 2) dX7_those_2 rfl 1 rfl ?_
  refine r_getR (f := 87) (pc := 3) dX7_those_3 q1452 (Or.inl rfl) rfl (fun v1 => ?_)
  refine r_cR (pc := 6) (rest := []) (RunOK_chk (fun h => run_V (n := 0) (c9 := 15) (As := []) (rest := []) (t_J28_values γ l hl v1 g) dX7_those_6 q1074 q1075 q1076 q143 q1077 (by decide +kernel) rfl h ⟨rfl, by decide, by decide⟩ (Nat.le_of_ble_eq_true rfl) (Nat.le_of_ble_eq_true rfl) rfl (Nat.le_of_ble_eq_true rfl))) (fun v3 g2 => ?_)
  refine r_cR (pc := 9) (rest := []) (RunOK_chk (fun h => run_F (n := 0) (c9 := 26) (As := []) (rest := []) (t_J42_iterator γ l hl v3 g2) dX7_those_9 q1089 q1156 q1158 q164 q1160 (by decide +kernel) (by decide +kernel) rfl h ⟨by decide, by decide⟩ (Nat.le_of_ble_eq_true rfl) (Nat.le_of_ble_eq_true rfl) rfl (Nat.le_of_ble_eq_true rfl))) (fun v5 g4 => ?_)
  refine r_astore_n (pc := 14) dX7_those_14 rfl (Nat.le_of_ble_eq_true rfl) rfl ?_
  refine AW_sub [3, 1, 0] rfl ?_
  refine f_X7_those_L15_w γ l hl _ x1 v5 FU (0 : Int32) g4
abbrev ck_X7_off : CK := ("BanquetVotes$Course", prog_4_method_14_code, 1, (some .int), "off", [], 6)
def f_X7_off (γ : GP) (x0 : Nat) (g : AH) : Option (Int32 × AH) := bI ((if hK g x0 = 20 then f_X7_those γ x0 (γ.1 7) g else none)) fun v2 g1 => bI ((if hK g1 x0 = 20 then f_X7_those γ x0 (γ.1 8) g1 else none)) fun v4 g3 => (some ((v2 + v4), g3))
theorem t_X7_off (γ : GP) (l : Launch) (hl : l.stackTraces = false) (x0 : Nat) (g : AH) : TrM ρI γ l ⟨"BanquetVotes$Course", "off", "()I"⟩ (ws_ ⟨"BanquetVotes$Course", "off", "()I"⟩ prog_4_method_14_code 1 (some .int)) 6 [.ref x0] g (f_X7_off γ x0 g) := by
  refine TrM_of (plainFor_of_name (by decide)) (Nat.le_of_ble_eq_true rfl) ?_
  unfold f_X7_off
  change AW ρI γ l ck_X7_off g 0 [(0, .ref x0)] [] g _
  refine r_aload_n (pc := 0) dX7_off_0 rfl 0 rfl ?_
  refine r_gets (i := 7) (pc := 1) dX7_off_1 q1186 (List.mem_of_getElem? (i := 7) rfl) rfl ?_
  refine r_cI (pc := 4) (rest := []) (RunOK_chk (fun h => run_V (n := 1) (c9 := 20) (As := [.ref (γ.1 7)]) (rest := []) (t_X7_those γ l hl x0 (γ.1 7) g) dX7_off_4 q1070 q1071 q1072 q150 q1073 (by decide +kernel) rfl h ⟨rfl, by decide, by decide⟩ (Nat.le_of_ble_eq_true rfl) (Nat.le_of_ble_eq_true rfl) rfl (Nat.le_of_ble_eq_true rfl))) (fun v2 g1 => ?_)
  refine r_aload_n (pc := 7) dX7_off_7 rfl 0 rfl ?_
  refine r_gets (i := 8) (pc := 8) dX7_off_8 q1188 (List.mem_of_getElem? (i := 8) rfl) rfl ?_
  refine r_cI (pc := 11) (rest := [.int v2]) (RunOK_chk (fun h => run_V (n := 1) (c9 := 20) (As := [.ref (γ.1 8)]) (rest := [.int v2]) (t_X7_those γ l hl x0 (γ.1 8) g1) dX7_off_11 q1070 q1071 q1072 q150 q1073 (by decide +kernel) rfl h ⟨rfl, by decide, by decide⟩ (Nat.le_of_ble_eq_true rfl) (Nat.le_of_ble_eq_true rfl) rfl (Nat.le_of_ble_eq_true rfl))) (fun v4 g3 => ?_)
  refine r_iadd (pc := 14) dX7_off_14 ?_
  exact r_iret (pc := 15) dX7_off_15 rfl
abbrev ck_X7_asked : CK := ("BanquetVotes$Course", prog_4_method_7_code, 1, (some .int), "asked", [], 1)
def f_X7_asked (γ : GP) (x0 : Nat) (g : AH) : Option (Int32 × AH) := gI g x0 89 fun v1 => (some (v1, g))
theorem t_X7_asked (γ : GP) (l : Launch) (hl : l.stackTraces = false) (x0 : Nat) (g : AH) : TrM ρI γ l ⟨"BanquetVotes$Course", "asked", "()I"⟩ (ws_ ⟨"BanquetVotes$Course", "asked", "()I"⟩ prog_4_method_7_code 1 (some .int)) 1 [.ref x0] g (f_X7_asked γ x0 g) := by
  refine TrM_of (plainFor_of_name (by decide)) (Nat.le_of_ble_eq_true rfl) ?_
  unfold f_X7_asked
  change AW ρI γ l ck_X7_asked g 0 [(0, .ref x0)] [] g _
  refine r_aload_n (pc := 0) dX7_asked_0 rfl 0 rfl ?_
  refine r_getI (f := 89) (pc := 1) dX7_asked_1 q1454 (Or.inl rfl) rfl (fun v1 => ?_)
  exact r_iret (pc := 4) dX7_asked_4 rfl
abbrev ck_X7_decided : CK := ("BanquetVotes$Course", prog_4_method_8_code, 1, (some .int), "decided", [], 1)
def f_X7_decided (γ : GP) (x0 : Nat) (g : AH) : Option (Int32 × AH) := gI g x0 90 fun v1 => (some (v1, g))
theorem t_X7_decided (γ : GP) (l : Launch) (hl : l.stackTraces = false) (x0 : Nat) (g : AH) : TrM ρI γ l ⟨"BanquetVotes$Course", "decided", "()I"⟩ (ws_ ⟨"BanquetVotes$Course", "decided", "()I"⟩ prog_4_method_8_code 1 (some .int)) 1 [.ref x0] g (f_X7_decided γ x0 g) := by
  refine TrM_of (plainFor_of_name (by decide)) (Nat.le_of_ble_eq_true rfl) ?_
  unfold f_X7_decided
  change AW ρI γ l ck_X7_decided g 0 [(0, .ref x0)] [] g _
  refine r_aload_n (pc := 0) dX7_decided_0 rfl 0 rfl ?_
  refine r_getI (f := 90) (pc := 1) dX7_decided_1 q1455 (Or.inl rfl) rfl (fun v1 => ?_)
  exact r_iret (pc := 4) dX7_decided_4 rfl
abbrev ck_X7_votes : CK := ("BanquetVotes$Course", prog_4_method_12_code, 3, (some .int), "votes", [], 1)
def f_X7_votes_L7 (γ : GP) : Nat → Int32 → Int32 → AH → Option (Int32 × AH)
  | 0, _, _, _ => none
  | n + 1, x1, x2, g => (if x2 = 0 then (some (x1, g)) else f_X7_votes_L7 γ n (x1 + (1 : Int32)) (x2 &&& (x2 - (1 : Int32))) g)
def f_X7_votes (γ : GP) (x0 : Nat) (g : AH) : Option (Int32 × AH) := gI g x0 91 fun v1 => f_X7_votes_L7 γ  FU (0 : Int32) v1 g
theorem f_X7_votes_L7_w (γ : GP) (l : Launch) (hl : l.stackTraces = false) (G0 : AH) : ∀ (n : Nat) (x1 : Int32) (x2 : Int32) (g : AH), AW ρI γ l ck_X7_votes G0 7 [(1, .int x1), (2, .int x2)] [] g (f_X7_votes_L7 γ n x1 x2 g) := by
  intro n
  induction n with
  | zero => intro x1 x2 g; exact AW_none
  | succ n ih =>
    intro x1 x2 g
    unfold f_X7_votes_L7
    refine r_iload_n (pc := 7) dX7_votes_7 rfl 1 rfl ?_
    refine r_if_eq (tgt := 23) (pc := 8) dX7_votes_8 (by decide) ?_ ?_
    · skip
      refine r_iload_n (pc := 23) dX7_votes_23 rfl 0 rfl ?_
      exact r_iret (pc := 24) dX7_votes_24 rfl
    · skip
      refine r_iinc (j := 0) (v := (x1 + (1 : Int32))) (pc := 11) dX7_votes_11 rfl rfl (Nat.le_of_ble_eq_true rfl) rfl ?_
      refine r_iload_n (pc := 14) dX7_votes_14 rfl 1 rfl ?_
      refine r_iload_n (pc := 15) dX7_votes_15 rfl 1 rfl ?_
      refine r_iconst (v := (1 : Int32)) (pc := 16) dX7_votes_16 (by decide) ?_
      refine r_isub (pc := 17) dX7_votes_17 ?_
      refine r_iand (pc := 18) dX7_votes_18 ?_
      refine r_istore_n (pc := 19) dX7_votes_19 rfl (Nat.le_of_ble_eq_true rfl) rfl ?_
      refine r_goto (tgt := 7) (pc := 20) dX7_votes_20 (by decide) ?_
      refine AW_sub [1, 0] rfl ?_
      exact ih (x1 + (1 : Int32)) (x2 &&& (x2 - (1 : Int32))) g
theorem t_X7_votes (γ : GP) (l : Launch) (hl : l.stackTraces = false) (x0 : Nat) (g : AH) : TrM ρI γ l ⟨"BanquetVotes$Course", "votes", "()I"⟩ (ws_ ⟨"BanquetVotes$Course", "votes", "()I"⟩ prog_4_method_12_code 3 (some .int)) 1 [.ref x0] g (f_X7_votes γ x0 g) := by
  refine TrM_of (plainFor_of_name (by decide)) (Nat.le_of_ble_eq_true rfl) ?_
  unfold f_X7_votes
  change AW ρI γ l ck_X7_votes g 0 [(0, .ref x0)] [] g _
  refine r_iconst (v := (0 : Int32)) (pc := 0) dX7_votes_0 (by decide) ?_
  refine r_istore_n (pc := 1) dX7_votes_1 rfl (Nat.le_of_ble_eq_true rfl) rfl ?_
  refine r_aload_n (pc := 2) dX7_votes_2 rfl 1 rfl ?_
  refine r_getI (f := 91) (pc := 3) dX7_votes_3 q1456 (Or.inl rfl) rfl (fun v1 => ?_)
  refine r_istore_n (pc := 6) dX7_votes_6 rfl (Nat.le_of_ble_eq_true rfl) rfl ?_
  refine AW_sub [1, 0] rfl ?_
  refine f_X7_votes_L7_w γ l hl _  FU (0 : Int32) v1 g
abbrev ck_X1_courseOf : CK := ("BanquetVotes", prog_1_method_21_code, 4, (some .int), "courseOf", [], 10)
def f_X1_courseOf (γ : GP) (x0 : Nat) (x1 : Int32) (x2 : Int32) (g : AH) : Option ((Int32 × AH) ⊕ (Nat × AH)) := bXV ((if hK g x0 = 1 then f_X1_requireCourse γ x0 x1 g else none)) (fun e2 g3 => (thr e2 g3)) fun g1 => gR g1 x0 0 fun v4 => bR ((if hK g1 v4 = 2 then f_X2_course γ v4 x1 g1 else none)) fun v6 g5 => (if x2 = (0 : Int32) then bI ((if hK g5 v6 = 20 then f_X7_phase γ v6 g5 else none)) fun v8 g7 => (some (.inl (v8, g7))) else (if x2 = (1 : Int32) then bR ((if hK g5 v6 = 20 then f_X7_dishes γ v6 g5 else none)) fun v10 g9 => bI ((if hK g9 v10 = 15 then f_J28_size γ v10 g9 else none)) fun v12 g11 => (some (.inl (v12, g11))) else (if x2 = (2 : Int32) then bI ((if hK g5 v6 = 20 then f_X7_those γ v6 (γ.1 11) g5 else none)) fun v14 g13 => (some (.inl (v14, g13))) else (if x2 = (3 : Int32) then bI ((if hK g5 v6 = 20 then f_X7_those γ v6 (γ.1 6) g5 else none)) fun v16 g15 => (some (.inl (v16, g15))) else (if x2 = (4 : Int32) then bI ((if hK g5 v6 = 20 then f_X7_off γ v6 g5 else none)) fun v18 g17 => (some (.inl (v18, g17))) else (if x2 = (5 : Int32) then bI ((if hK g5 v6 = 20 then f_X7_asked γ v6 g5 else none)) fun v20 g19 => (some (.inl (v20, g19))) else (if x2 = (6 : Int32) then bI ((if hK g5 v6 = 20 then f_X7_decided γ v6 g5 else none)) fun v22 g21 => (some (.inl (v22, g21))) else (if x2 = (7 : Int32) then bI ((if hK g5 v6 = 20 then f_X7_votes γ v6 g5 else none)) fun v24 g23 => (some (.inl (v24, g23))) else mO g5 9 fun q25 g26 => bV ((if q25 ≠ 0 then f_J12_init_2 γ q25 g26 else none)) fun g27 => (tw γ g27 q25 (thr q25 g27))))))))))
theorem t_X1_courseOf (γ : GP) (l : Launch) (hl : l.stackTraces = false) (x0 : Nat) (x1 : Int32) (x2 : Int32) (g : AH) : TrM (ρX ρI) γ l ⟨"BanquetVotes", "courseOf", "(II)I"⟩ (ws_ ⟨"BanquetVotes", "courseOf", "(II)I"⟩ prog_1_method_21_code 4 (some .int)) 10 [.ref x0, .int x1, .int x2] g (f_X1_courseOf γ x0 x1 x2 g) := by
  refine TrM_of (plainFor_of_name (by decide)) (Nat.le_of_ble_eq_true rfl) ?_
  unfold f_X1_courseOf
  change AW (ρX ρI) γ l ck_X1_courseOf g 0 [(0, .ref x0), (1, .int x1), (2, .int x2)] [] g _
  refine r_aload_n (pc := 0) dX1_courseOf_0 rfl 0 rfl ?_
  refine r_iload_n (pc := 1) dX1_courseOf_1 rfl 1 rfl ?_
  refine r_cXV (pc := 2) (rest := []) (RunOK_chk (fun h => run_V (n := 1) (c9 := 1) (As := [.int x1]) (rest := []) (t_X1_requireCourse γ l hl x0 x1 g) dX1_courseOf_2 q2115 q2117 qs21 q108 q2118 (by decide +kernel) rfl h ⟨rfl, by decide, by decide⟩ (Nat.le_of_ble_eq_true rfl) (Nat.le_of_ble_eq_true rfl) rfl (Nat.le_of_ble_eq_true rfl))) (fun e2 g3 => ?_) (fun g1 => ?_)
  · skip
    exact x_out (by decide)
  · skip
    refine r_aload_n (pc := 5) dX1_courseOf_5 rfl 0 rfl ?_
    refine r_getR (f := 0) (pc := 6) dX1_courseOf_6 q320 (Or.inl rfl) rfl (fun v4 => ?_)
    refine r_iload_n (pc := 9) dX1_courseOf_9 rfl 1 rfl ?_
    refine r_cR (pc := 10) (rest := []) (RunOK_chk (fun h => run_V (n := 1) (c9 := 2) (As := [.int x1]) (rest := []) (t_X2_course γ l hl v4 x1 g1) dX1_courseOf_10 q2155 q2128 q2129 q109 q2130 (by decide +kernel) rfl h ⟨rfl, by decide, by decide⟩ (Nat.le_of_ble_eq_true rfl) (Nat.le_of_ble_eq_true rfl) rfl (Nat.le_of_ble_eq_true rfl))) (fun v6 g5 => ?_)
    refine r_astore_n (pc := 13) dX1_courseOf_13 rfl (Nat.le_of_ble_eq_true rfl) rfl ?_
    refine r_iload_n (pc := 14) dX1_courseOf_14 rfl 3 rfl ?_
    refine r_tabC (v := (0 : Int32)) (tgt := 60) (pc := 15) dX1_courseOf_15 (by decide) (by decide) rfl (by decide) ?_ (fun c0 => ?_)
    · skip
      refine r_aload_n (pc := 60) dX1_courseOf_60 rfl 0 rfl ?_
      refine r_cI (pc := 61) (rest := []) (RunOK_chk (fun h => run_V (n := 0) (c9 := 20) (As := []) (rest := []) (t_X7_phase γ l hl v6 g5) dX1_courseOf_61 q2156 q2132 q2133 q150 q2134 (by decide +kernel) rfl h ⟨rfl, by decide, by decide⟩ (Nat.le_of_ble_eq_true rfl) (Nat.le_of_ble_eq_true rfl) rfl (Nat.le_of_ble_eq_true rfl))) (fun v8 g7 => ?_)
      exact r_inl (fun _ => rfl) (r_iret (pc := 64) dX1_courseOf_64 rfl)
    · skip
      refine r_tabC (v := (1 : Int32)) (tgt := 65) (pc := 15) dX1_courseOf_15 (by decide) (by decide) rfl (by decide) ?_ (fun c1 => ?_)
      · skip
        refine r_aload_n (pc := 65) dX1_courseOf_65 rfl 0 rfl ?_
        refine r_cR (pc := 66) (rest := []) (RunOK_chk (fun h => run_V (n := 0) (c9 := 20) (As := []) (rest := []) (t_X7_dishes γ l hl v6 g5) dX1_courseOf_66 q2157 q2140 q2141 q150 q2142 (by decide +kernel) rfl h ⟨rfl, by decide, by decide⟩ (Nat.le_of_ble_eq_true rfl) (Nat.le_of_ble_eq_true rfl) rfl (Nat.le_of_ble_eq_true rfl))) (fun v10 g9 => ?_)
        refine r_cI (pc := 69) (rest := []) (RunOK_chk (fun h => run_V (n := 0) (c9 := 15) (As := []) (rest := []) (t_J28_size γ l hl v10 g9) dX1_courseOf_69 q2158 q1301 q1302 q143 q1303 (by decide +kernel) rfl h ⟨rfl, by decide, by decide⟩ (Nat.le_of_ble_eq_true rfl) (Nat.le_of_ble_eq_true rfl) rfl (Nat.le_of_ble_eq_true rfl))) (fun v12 g11 => ?_)
        exact r_inl (fun _ => rfl) (r_iret (pc := 72) dX1_courseOf_72 rfl)
      · skip
        refine r_tabC (v := (2 : Int32)) (tgt := 73) (pc := 15) dX1_courseOf_15 (by decide) (by decide) rfl (by decide) ?_ (fun c2 => ?_)
        · skip
          refine r_aload_n (pc := 73) dX1_courseOf_73 rfl 0 rfl ?_
          refine r_gets (i := 11) (pc := 74) dX1_courseOf_74 q2060 (List.mem_of_getElem? (i := 11) rfl) rfl ?_
          refine r_cI (pc := 77) (rest := []) (RunOK_chk (fun h => run_V (n := 1) (c9 := 20) (As := [.ref (γ.1 11)]) (rest := []) (t_X7_those γ l hl v6 (γ.1 11) g5) dX1_courseOf_77 q2159 q1071 q1072 q150 q1073 (by decide +kernel) rfl h ⟨rfl, by decide, by decide⟩ (Nat.le_of_ble_eq_true rfl) (Nat.le_of_ble_eq_true rfl) rfl (Nat.le_of_ble_eq_true rfl))) (fun v14 g13 => ?_)
          exact r_inl (fun _ => rfl) (r_iret (pc := 80) dX1_courseOf_80 rfl)
        · skip
          refine r_tabC (v := (3 : Int32)) (tgt := 81) (pc := 15) dX1_courseOf_15 (by decide) (by decide) rfl (by decide) ?_ (fun c3 => ?_)
          · skip
            refine r_aload_n (pc := 81) dX1_courseOf_81 rfl 0 rfl ?_
            refine r_gets (i := 6) (pc := 82) dX1_courseOf_82 q2084 (List.mem_of_getElem? (i := 6) rfl) rfl ?_
            refine r_cI (pc := 85) (rest := []) (RunOK_chk (fun h => run_V (n := 1) (c9 := 20) (As := [.ref (γ.1 6)]) (rest := []) (t_X7_those γ l hl v6 (γ.1 6) g5) dX1_courseOf_85 q2159 q1071 q1072 q150 q1073 (by decide +kernel) rfl h ⟨rfl, by decide, by decide⟩ (Nat.le_of_ble_eq_true rfl) (Nat.le_of_ble_eq_true rfl) rfl (Nat.le_of_ble_eq_true rfl))) (fun v16 g15 => ?_)
            exact r_inl (fun _ => rfl) (r_iret (pc := 88) dX1_courseOf_88 rfl)
          · skip
            refine r_tabC (v := (4 : Int32)) (tgt := 89) (pc := 15) dX1_courseOf_15 (by decide) (by decide) rfl (by decide) ?_ (fun c4 => ?_)
            · skip
              refine r_aload_n (pc := 89) dX1_courseOf_89 rfl 0 rfl ?_
              refine r_cI (pc := 90) (rest := []) (RunOK_chk (fun h => run_V (n := 0) (c9 := 20) (As := []) (rest := []) (t_X7_off γ l hl v6 g5) dX1_courseOf_90 q2160 q1183 q1184 q150 q1185 (by decide +kernel) rfl h ⟨rfl, by decide, by decide⟩ (Nat.le_of_ble_eq_true rfl) (Nat.le_of_ble_eq_true rfl) rfl (Nat.le_of_ble_eq_true rfl))) (fun v18 g17 => ?_)
              exact r_inl (fun _ => rfl) (r_iret (pc := 93) dX1_courseOf_93 rfl)
            · skip
              refine r_tabC (v := (5 : Int32)) (tgt := 94) (pc := 15) dX1_courseOf_15 (by decide) (by decide) rfl (by decide) ?_ (fun c5 => ?_)
              · skip
                refine r_aload_n (pc := 94) dX1_courseOf_94 rfl 0 rfl ?_
                refine r_cI (pc := 95) (rest := []) (RunOK_chk (fun h => run_V (n := 0) (c9 := 20) (As := []) (rest := []) (t_X7_asked γ l hl v6 g5) dX1_courseOf_95 q2161 q2162 q2163 q150 q2164 (by decide +kernel) rfl h ⟨rfl, by decide, by decide⟩ (Nat.le_of_ble_eq_true rfl) (Nat.le_of_ble_eq_true rfl) rfl (Nat.le_of_ble_eq_true rfl))) (fun v20 g19 => ?_)
                exact r_inl (fun _ => rfl) (r_iret (pc := 98) dX1_courseOf_98 rfl)
              · skip
                refine r_tabC (v := (6 : Int32)) (tgt := 99) (pc := 15) dX1_courseOf_15 (by decide) (by decide) rfl (by decide) ?_ (fun c6 => ?_)
                · skip
                  refine r_aload_n (pc := 99) dX1_courseOf_99 rfl 0 rfl ?_
                  refine r_cI (pc := 100) (rest := []) (RunOK_chk (fun h => run_V (n := 0) (c9 := 20) (As := []) (rest := []) (t_X7_decided γ l hl v6 g5) dX1_courseOf_100 q2165 q2166 q2167 q150 q2168 (by decide +kernel) rfl h ⟨rfl, by decide, by decide⟩ (Nat.le_of_ble_eq_true rfl) (Nat.le_of_ble_eq_true rfl) rfl (Nat.le_of_ble_eq_true rfl))) (fun v22 g21 => ?_)
                  exact r_inl (fun _ => rfl) (r_iret (pc := 103) dX1_courseOf_103 rfl)
                · skip
                  refine r_tabC (v := (7 : Int32)) (tgt := 104) (pc := 15) dX1_courseOf_15 (by decide) (by decide) rfl (by decide) ?_ (fun c7 => ?_)
                  · skip
                    refine r_aload_n (pc := 104) dX1_courseOf_104 rfl 0 rfl ?_
                    refine r_cI (pc := 105) (rest := []) (RunOK_chk (fun h => run_V (n := 0) (c9 := 20) (As := []) (rest := []) (t_X7_votes γ l hl v6 g5) dX1_courseOf_105 q2169 q2170 q2171 q150 q2172 (by decide +kernel) rfl h ⟨rfl, by decide, by decide⟩ (Nat.le_of_ble_eq_true rfl) (Nat.le_of_ble_eq_true rfl) rfl (Nat.le_of_ble_eq_true rfl))) (fun v24 g23 => ?_)
                    exact r_inl (fun _ => rfl) (r_iret (pc := 108) dX1_courseOf_108 rfl)
                  · skip
                    refine r_tabD (tgt := 109) (pc := 15) dX1_courseOf_15 (by have e0 := lv_neT c0 (a := 0) rfl; have e1 := lv_neT c1 (a := 1) rfl; have e2 := lv_neT c2 (a := 2) rfl; have e3 := lv_neT c3 (a := 3) rfl; have e4 := lv_neT c4 (a := 4) rfl; have e5 := lv_neT c5 (a := 5) rfl; have e6 := lv_neT c6 (a := 6) rfl; have e7 := lv_neT c7 (a := 7) rfl; omega) (by decide) ?_
                    refine r_new (c := 9) (pc := 109) dX1_courseOf_109 q1214 (by decide) (by decide) (fun q25 g26 => ?_)
                    refine r_dup (pc := 112) dX1_courseOf_112 rfl ?_
                    refine r_cV (pc := 113) (rest := [.ref q25]) (RunOK_chk (fun h => run_I (n := 0) (As := []) (rest := [.ref q25]) (t_J12_init_2 γ l hl q25 g26) dX1_courseOf_113 q1215 q1216 q125 q1217 rfl (by decide +kernel) rfl h (Nat.le_of_ble_eq_true rfl) (Nat.le_of_ble_eq_true rfl) rfl (Nat.le_of_ble_eq_true rfl))) (fun g27 => ?_)
                    refine r_athrow (pc := 116) dX1_courseOf_116 ?_
                    exact x_out (by decide)
abbrev ck_X1_requireElement : CK := ("BanquetVotes", prog_1_method_7_code, 1, none, "requireElement", [], 8)
def f_X1_requireElement (γ : GP) (x0 : Int32) (g : AH) : Option ((AH) ⊕ (Nat × AH)) := (if x0 = 0 then mO g 14 fun q1 g2 => bV ((if q1 ≠ 0 then f_J26_init_2 γ q1 g2 else none)) fun g3 => (tw γ g3 q1 (thr q1 g3)) else (some (.inl g)))
theorem t_X1_requireElement (γ : GP) (l : Launch) (hl : l.stackTraces = false) (x0 : Int32) (g : AH) : TrM (ρX ρV) γ l ⟨"BanquetVotes", "requireElement", "(Z)V"⟩ (ws_ ⟨"BanquetVotes", "requireElement", "(Z)V"⟩ prog_1_method_7_code 1 none) 8 [.int x0] g (f_X1_requireElement γ x0 g) := by
  refine TrM_of (plainFor_of_name (by decide)) (Nat.le_of_ble_eq_true rfl) ?_
  unfold f_X1_requireElement
  change AW (ρX ρV) γ l ck_X1_requireElement g 0 [(0, .int x0)] [] g _
  refine r_iload_n (pc := 0) dX1_requireElement_0 rfl 0 rfl ?_
  refine r_if_ne (tgt := 12) (pc := 1) dX1_requireElement_1 (by decide) ?_ ?_
  · skip
    refine r_new (c := 14) (pc := 4) dX1_requireElement_4 q2185 (by decide) (by decide) (fun q1 g2 => ?_)
    refine r_dup (pc := 7) dX1_requireElement_7 rfl ?_
    refine r_cV (pc := 8) (rest := [.ref q1]) (RunOK_chk (fun h => run_I (n := 0) (As := []) (rest := [.ref q1]) (t_J26_init_2 γ l hl q1 g2) dX1_requireElement_8 q2186 q1004 q141 q1005 rfl (by decide +kernel) rfl h (Nat.le_of_ble_eq_true rfl) (Nat.le_of_ble_eq_true rfl) rfl (Nat.le_of_ble_eq_true rfl))) (fun g3 => ?_)
    refine r_athrow (pc := 11) dX1_requireElement_11 ?_
    exact x_out (by decide)
  · skip
    exact r_inl (fun _ => rfl) (r_vret (pc := 12) dX1_requireElement_12 rfl)
abbrev ck_X8_amount : CK := ("BanquetVotes$Dish", prog_5_method_4_code, 1, (some .int), "amount", [], 1)
def f_X8_amount (γ : GP) (x0 : Nat) (g : AH) : Option (Int32 × AH) := gI g x0 94 fun v1 => (some (v1, g))
theorem t_X8_amount (γ : GP) (l : Launch) (hl : l.stackTraces = false) (x0 : Nat) (g : AH) : TrM ρI γ l ⟨"BanquetVotes$Dish", "amount", "()I"⟩ (ws_ ⟨"BanquetVotes$Dish", "amount", "()I"⟩ prog_5_method_4_code 1 (some .int)) 1 [.ref x0] g (f_X8_amount γ x0 g) := by
  refine TrM_of (plainFor_of_name (by decide)) (Nat.le_of_ble_eq_true rfl) ?_
  unfold f_X8_amount
  change AW ρI γ l ck_X8_amount g 0 [(0, .ref x0)] [] g _
  refine r_aload_n (pc := 0) dX8_amount_0 rfl 0 rfl ?_
  refine r_getI (f := 94) (pc := 1) dX8_amount_1 q1789 (Or.inl rfl) rfl (fun v1 => ?_)
  exact r_iret (pc := 4) dX8_amount_4 rfl
abbrev ck_X8_number : CK := ("BanquetVotes$Dish", prog_5_method_6_code, 1, (some .int), "number", [], 2)
def f_X8_number (γ : GP) (x0 : Nat) (g : AH) : Option (Int32 × AH) := gR g x0 95 fun v1 => bI ((if hK g v1 = 37 then f_J38_ordinal γ v1 g else if hK g v1 = 38 then f_J38_ordinal γ v1 g else if hK g v1 = 39 then f_J38_ordinal γ v1 g else if hK g v1 = 40 then f_J38_ordinal γ v1 g else if hK g v1 = 41 then f_J38_ordinal γ v1 g else none)) fun v3 g2 => (some (v3, g2))
theorem t_X8_number (γ : GP) (l : Launch) (hl : l.stackTraces = false) (x0 : Nat) (g : AH) : TrM ρI γ l ⟨"BanquetVotes$Dish", "number", "()I"⟩ (ws_ ⟨"BanquetVotes$Dish", "number", "()I"⟩ prog_5_method_6_code 1 (some .int)) 2 [.ref x0] g (f_X8_number γ x0 g) := by
  refine TrM_of (plainFor_of_name (by decide)) (Nat.le_of_ble_eq_true rfl) ?_
  unfold f_X8_number
  change AW ρI γ l ck_X8_number g 0 [(0, .ref x0)] [] g _
  refine r_aload_n (pc := 0) dX8_number_0 rfl 0 rfl ?_
  refine r_getR (f := 95) (pc := 1) dX8_number_1 q1790 (Or.inl rfl) rfl (fun v1 => ?_)
  refine r_cI (pc := 4) (rest := []) (RunOK_if (fun h => run_U (n := 0) (c9 := 37) (As := []) (rest := []) (owner := "java/lang/Enum") (t_J38_ordinal γ l hl v1 g) dX8_number_4 q2196 q2197 q2199 q2204 q158 q2205 rfl ⟨by decide, by decide, by decide +kernel⟩ rfl h ⟨by decide, by decide⟩ (Nat.le_of_ble_eq_true rfl) (Nat.le_of_ble_eq_true rfl) rfl (Nat.le_of_ble_eq_true rfl)) (RunOK_if (fun h => run_U (n := 0) (c9 := 38) (As := []) (rest := []) (owner := "java/lang/Enum") (t_J38_ordinal γ l hl v1 g) dX8_number_4 q2196 q2197 q2200 q2204 q158 q2205 rfl ⟨by decide, by decide, by decide +kernel⟩ rfl h ⟨by decide, by decide⟩ (Nat.le_of_ble_eq_true rfl) (Nat.le_of_ble_eq_true rfl) rfl (Nat.le_of_ble_eq_true rfl)) (RunOK_if (fun h => run_U (n := 0) (c9 := 39) (As := []) (rest := []) (owner := "java/lang/Enum") (t_J38_ordinal γ l hl v1 g) dX8_number_4 q2196 q2197 q2201 q2204 q158 q2205 rfl ⟨by decide, by decide, by decide +kernel⟩ rfl h ⟨by decide, by decide⟩ (Nat.le_of_ble_eq_true rfl) (Nat.le_of_ble_eq_true rfl) rfl (Nat.le_of_ble_eq_true rfl)) (RunOK_if (fun h => run_U (n := 0) (c9 := 40) (As := []) (rest := []) (owner := "java/lang/Enum") (t_J38_ordinal γ l hl v1 g) dX8_number_4 q2196 q2197 q2202 q2204 q158 q2205 rfl ⟨by decide, by decide, by decide +kernel⟩ rfl h ⟨by decide, by decide⟩ (Nat.le_of_ble_eq_true rfl) (Nat.le_of_ble_eq_true rfl) rfl (Nat.le_of_ble_eq_true rfl)) (RunOK_chk (fun h => run_U (n := 0) (c9 := 41) (As := []) (rest := []) (owner := "java/lang/Enum") (t_J38_ordinal γ l hl v1 g) dX8_number_4 q2196 q2197 q2203 q2204 q158 q2205 rfl ⟨by decide, by decide, by decide +kernel⟩ rfl h ⟨by decide, by decide⟩ (Nat.le_of_ble_eq_true rfl) (Nat.le_of_ble_eq_true rfl) rfl (Nat.le_of_ble_eq_true rfl))))))) (fun v3 g2 => ?_)
  exact r_iret (pc := 7) dX8_number_7 rfl
abbrev ck_X8_since : CK := ("BanquetVotes$Dish", prog_5_method_8_code, 1, (some .int), "since", [], 1)
def f_X8_since (γ : GP) (x0 : Nat) (g : AH) : Option (Int32 × AH) := gI g x0 96 fun v1 => (some (v1, g))
theorem t_X8_since (γ : GP) (l : Launch) (hl : l.stackTraces = false) (x0 : Nat) (g : AH) : TrM ρI γ l ⟨"BanquetVotes$Dish", "since", "()I"⟩ (ws_ ⟨"BanquetVotes$Dish", "since", "()I"⟩ prog_5_method_8_code 1 (some .int)) 1 [.ref x0] g (f_X8_since γ x0 g) := by
  refine TrM_of (plainFor_of_name (by decide)) (Nat.le_of_ble_eq_true rfl) ?_
  unfold f_X8_since
  change AW ρI γ l ck_X8_since g 0 [(0, .ref x0)] [] g _
  refine r_aload_n (pc := 0) dX8_since_0 rfl 0 rfl ?_
  refine r_getI (f := 96) (pc := 1) dX8_since_1 q1791 (Or.inl rfl) rfl (fun v1 => ?_)
  exact r_iret (pc := 4) dX8_since_4 rfl
abbrev ck_X1_dishOf : CK := ("BanquetVotes", prog_1_method_22_code, 5, (some .int), "dishOf", [], 10)
def f_X1_dishOf (γ : GP) (x0 : Nat) (x1 : Int32) (x2 : Int32) (x3 : Int32) (g : AH) : Option ((Int32 × AH) ⊕ (Nat × AH)) := bXV ((if hK g x0 = 1 then f_X1_requireCourse γ x0 x1 g else none)) (fun e2 g3 => (thr e2 g3)) fun g1 => bXV ((if hK g1 x0 = 1 then f_X1_requireCook γ x0 x2 g1 else none)) (fun e5 g6 => (thr e5 g6)) fun g4 => bI (f_X1_isIn γ x3 (0 : Int32) (3 : Int32) g4) fun v8 g7 => bXV (f_X1_require γ v8 g7) (fun e10 g11 => (thr e10 g11)) fun g9 => gR g9 x0 0 fun v12 => bR ((if hK g9 v12 = 2 then f_X2_course γ v12 x1 g9 else none)) fun v14 g13 => bR ((if hK g13 v14 = 20 then f_X7_of γ v14 x2 g13 else none)) fun v16 g15 => jn (fun (z17 : Int32) (g18 : AH) => bXV (f_X1_requireElement γ z17 g18) (fun e21 g22 => (thr e21 g22)) fun g20 => (if x3 = 0 then bI ((if hK g20 v16 = 22 then f_X8_ingredient γ v16 g20 else none)) fun v24 g23 => (some (.inl (v24, g23))) else (if x3 = (1 : Int32) then bI ((if hK g20 v16 = 22 then f_X8_amount γ v16 g20 else none)) fun v26 g25 => (some (.inl (v26, g25))) else (if x3 = (2 : Int32) then bI ((if hK g20 v16 = 22 then f_X8_number γ v16 g20 else none)) fun v28 g27 => (some (.inl (v28, g27))) else bI ((if hK g20 v16 = 22 then f_X8_since γ v16 g20 else none)) fun v30 g29 => (some (.inl (v30, g29))))))) (fun (j19 : Int32 → AH → Option ((Int32 × AH) ⊕ (Nat × AH))) => (if v16 = 0 then j19 (0 : Int32) g15 else j19 (1 : Int32) g15))
theorem t_X1_dishOf (γ : GP) (l : Launch) (hl : l.stackTraces = false) (x0 : Nat) (x1 : Int32) (x2 : Int32) (x3 : Int32) (g : AH) : TrM (ρX ρI) γ l ⟨"BanquetVotes", "dishOf", "(III)I"⟩ (ws_ ⟨"BanquetVotes", "dishOf", "(III)I"⟩ prog_1_method_22_code 5 (some .int)) 10 [.ref x0, .int x1, .int x2, .int x3] g (f_X1_dishOf γ x0 x1 x2 x3 g) := by
  refine TrM_of (plainFor_of_name (by decide)) (Nat.le_of_ble_eq_true rfl) ?_
  unfold f_X1_dishOf
  change AW (ρX ρI) γ l ck_X1_dishOf g 0 [(0, .ref x0), (1, .int x1), (2, .int x2), (3, .int x3)] [] g _
  refine r_aload_n (pc := 0) dX1_dishOf_0 rfl 0 rfl ?_
  refine r_iload_n (pc := 1) dX1_dishOf_1 rfl 1 rfl ?_
  refine r_cXV (pc := 2) (rest := []) (RunOK_chk (fun h => run_V (n := 1) (c9 := 1) (As := [.int x1]) (rest := []) (t_X1_requireCourse γ l hl x0 x1 g) dX1_dishOf_2 q2115 q2117 qs21 q108 q2118 (by decide +kernel) rfl h ⟨rfl, by decide, by decide⟩ (Nat.le_of_ble_eq_true rfl) (Nat.le_of_ble_eq_true rfl) rfl (Nat.le_of_ble_eq_true rfl))) (fun e2 g3 => ?_) (fun g1 => ?_)
  · skip
    exact x_out (by decide)
  · skip
    refine r_aload_n (pc := 5) dX1_dishOf_5 rfl 0 rfl ?_
    refine r_iload_n (pc := 6) dX1_dishOf_6 rfl 2 rfl ?_
    refine r_cXV (pc := 7) (rest := []) (RunOK_chk (fun h => run_V (n := 1) (c9 := 1) (As := [.int x2]) (rest := []) (t_X1_requireCook γ l hl x0 x2 g1) dX1_dishOf_7 q1995 q1997 qs20 q108 q1998 (by decide +kernel) rfl h ⟨rfl, by decide, by decide⟩ (Nat.le_of_ble_eq_true rfl) (Nat.le_of_ble_eq_true rfl) rfl (Nat.le_of_ble_eq_true rfl))) (fun e5 g6 => ?_) (fun g4 => ?_)
    · skip
      exact x_out (by decide)
    · skip
      refine r_iload_n (pc := 10) dX1_dishOf_10 rfl 3 rfl ?_
      refine r_iconst (v := (0 : Int32)) (pc := 11) dX1_dishOf_11 (by decide) ?_
      refine r_iconst (v := (3 : Int32)) (pc := 12) dX1_dishOf_12 (by decide) ?_
      refine r_cI (pc := 13) (rest := []) (run_S (n := 3) (As := [.int x3, .int (0 : Int32), .int (3 : Int32)]) (rest := []) (t_X1_isIn γ l hl x3 (0 : Int32) (3 : Int32) g4) dX1_dishOf_13 q1208 q1209 q108 q1210 (by decide +kernel) rfl (Nat.le_of_ble_eq_true rfl) (Nat.le_of_ble_eq_true rfl) rfl (Nat.le_of_ble_eq_true rfl)) (fun v8 g7 => ?_)
      refine r_cXV (pc := 16) (rest := []) (run_S (n := 1) (As := [.int v8]) (rest := []) (t_X1_require γ l hl v8 g7) dX1_dishOf_16 q1211 q1212 q108 q1213 (by decide +kernel) rfl (Nat.le_of_ble_eq_true rfl) (Nat.le_of_ble_eq_true rfl) rfl (Nat.le_of_ble_eq_true rfl)) (fun e10 g11 => ?_) (fun g9 => ?_)
      · skip
        exact x_out (by decide)
      · skip
        refine r_aload_n (pc := 19) dX1_dishOf_19 rfl 0 rfl ?_
        refine r_getR (f := 0) (pc := 20) dX1_dishOf_20 q320 (Or.inl rfl) rfl (fun v12 => ?_)
        refine r_iload_n (pc := 23) dX1_dishOf_23 rfl 1 rfl ?_
        refine r_cR (pc := 24) (rest := []) (RunOK_chk (fun h => run_V (n := 1) (c9 := 2) (As := [.int x1]) (rest := []) (t_X2_course γ l hl v12 x1 g9) dX1_dishOf_24 q2155 q2128 q2129 q109 q2130 (by decide +kernel) rfl h ⟨rfl, by decide, by decide⟩ (Nat.le_of_ble_eq_true rfl) (Nat.le_of_ble_eq_true rfl) rfl (Nat.le_of_ble_eq_true rfl))) (fun v14 g13 => ?_)
        refine r_iload_n (pc := 27) dX1_dishOf_27 rfl 2 rfl ?_
        refine r_cR (pc := 28) (rest := []) (RunOK_chk (fun h => run_V (n := 1) (c9 := 20) (As := [.int x2]) (rest := []) (t_X7_of γ l hl v14 x2 g13) dX1_dishOf_28 q2181 q2067 q2068 q150 q2069 (by decide +kernel) rfl h ⟨rfl, by decide, by decide⟩ (Nat.le_of_ble_eq_true rfl) (Nat.le_of_ble_eq_true rfl) rfl (Nat.le_of_ble_eq_true rfl))) (fun v16 g15 => ?_)
        refine r_astore (pc := 31) dX1_dishOf_31 (Nat.le_of_ble_eq_true rfl) rfl ?_
        refine r_aload (pc := 33) dX1_dishOf_33 0 rfl ?_
        refine AW_jn (P := fun (j : Int32 → AH → Option ((Int32 × AH) ⊕ (Nat × AH))) => ∀ (z17 : Int32) (g18 : AH), AW (ρX ρI) γ l ck_X1_dishOf g 43 [(3, .int x3), (4, .ref v16)] [.int z17] g18 (j z17 g18)) (fun z17 g18 => ?_) (fun j19 h_j19 => ?_)
        · skip
          refine r_cXV (pc := 43) (rest := []) (run_S (n := 1) (As := [.int z17]) (rest := []) (t_X1_requireElement γ l hl z17 g18) dX1_dishOf_43 q2182 q2183 q108 q2184 (by decide +kernel) rfl (Nat.le_of_ble_eq_true rfl) (Nat.le_of_ble_eq_true rfl) rfl (Nat.le_of_ble_eq_true rfl)) (fun e21 g22 => ?_) (fun g20 => ?_)
          · skip
            exact x_out (by decide)
          · skip
            refine r_iload_n (pc := 46) dX1_dishOf_46 rfl 0 rfl ?_
            refine r_if_ne (tgt := 58) (pc := 47) dX1_dishOf_47 (by decide) ?_ ?_
            · skip
              refine r_aload (pc := 50) dX1_dishOf_50 1 rfl ?_
              refine r_cI (pc := 52) (rest := []) (RunOK_chk (fun h => run_V (n := 0) (c9 := 22) (As := []) (rest := []) (t_X8_ingredient γ l hl v16 g20) dX1_dishOf_52 q2187 q2136 q2137 q157 q2138 (by decide +kernel) rfl h ⟨rfl, by decide, by decide⟩ (Nat.le_of_ble_eq_true rfl) (Nat.le_of_ble_eq_true rfl) rfl (Nat.le_of_ble_eq_true rfl))) (fun v24 g23 => ?_)
              refine r_goto (tgt := 89) (pc := 55) dX1_dishOf_55 (by decide) ?_
              exact r_inl (fun _ => rfl) (r_iret (pc := 89) dX1_dishOf_89 rfl)
            · skip
              refine r_iload_n (pc := 58) dX1_dishOf_58 rfl 0 rfl ?_
              refine r_iconst (v := (1 : Int32)) (pc := 59) dX1_dishOf_59 (by decide) ?_
              refine r_icmp_ne (tgt := 71) (pc := 60) dX1_dishOf_60 (by decide) ?_ ?_
              · skip
                refine r_aload (pc := 63) dX1_dishOf_63 1 rfl ?_
                refine r_cI (pc := 65) (rest := []) (RunOK_chk (fun h => run_V (n := 0) (c9 := 22) (As := []) (rest := []) (t_X8_amount γ l hl v16 g20) dX1_dishOf_65 q2188 q2189 q2190 q157 q2191 (by decide +kernel) rfl h ⟨rfl, by decide, by decide⟩ (Nat.le_of_ble_eq_true rfl) (Nat.le_of_ble_eq_true rfl) rfl (Nat.le_of_ble_eq_true rfl))) (fun v26 g25 => ?_)
                refine r_goto (tgt := 89) (pc := 68) dX1_dishOf_68 (by decide) ?_
                exact r_inl (fun _ => rfl) (r_iret (pc := 89) dX1_dishOf_89 rfl)
              · skip
                refine r_iload_n (pc := 71) dX1_dishOf_71 rfl 0 rfl ?_
                refine r_iconst (v := (2 : Int32)) (pc := 72) dX1_dishOf_72 (by decide) ?_
                refine r_icmp_ne (tgt := 84) (pc := 73) dX1_dishOf_73 (by decide) ?_ ?_
                · skip
                  refine r_aload (pc := 76) dX1_dishOf_76 1 rfl ?_
                  refine r_cI (pc := 78) (rest := []) (RunOK_chk (fun h => run_V (n := 0) (c9 := 22) (As := []) (rest := []) (t_X8_number γ l hl v16 g20) dX1_dishOf_78 q2192 q2193 q2194 q157 q2195 (by decide +kernel) rfl h ⟨rfl, by decide, by decide⟩ (Nat.le_of_ble_eq_true rfl) (Nat.le_of_ble_eq_true rfl) rfl (Nat.le_of_ble_eq_true rfl))) (fun v28 g27 => ?_)
                  refine r_goto (tgt := 89) (pc := 81) dX1_dishOf_81 (by decide) ?_
                  exact r_inl (fun _ => rfl) (r_iret (pc := 89) dX1_dishOf_89 rfl)
                · skip
                  refine r_aload (pc := 84) dX1_dishOf_84 1 rfl ?_
                  refine r_cI (pc := 86) (rest := []) (RunOK_chk (fun h => run_V (n := 0) (c9 := 22) (As := []) (rest := []) (t_X8_since γ l hl v16 g20) dX1_dishOf_86 q2206 q2207 q2208 q157 q2209 (by decide +kernel) rfl h ⟨rfl, by decide, by decide⟩ (Nat.le_of_ble_eq_true rfl) (Nat.le_of_ble_eq_true rfl) rfl (Nat.le_of_ble_eq_true rfl))) (fun v30 g29 => ?_)
                  exact r_inl (fun _ => rfl) (r_iret (pc := 89) dX1_dishOf_89 rfl)
        · skip
          refine r_ifnull (tgt := 42) (pc := 35) dX1_dishOf_35 (by decide) ?_ ?_
          · skip
            refine r_iconst (v := (0 : Int32)) (pc := 42) dX1_dishOf_42 (by decide) ?_
            refine AW_sub [4, 0] rfl ?_
            exact h_j19 (0 : Int32) g15
          · skip
            refine r_iconst (v := (1 : Int32)) (pc := 38) dX1_dishOf_38 (by decide) ?_
            refine r_goto (tgt := 43) (pc := 39) dX1_dishOf_39 (by decide) ?_
            refine AW_sub [4, 0] rfl ?_
            exact h_j19 (1 : Int32) g15
abbrev ck_X8_isReady : CK := ("BanquetVotes$Dish", prog_5_method_7_code, 1, (some .boolean), "isReady", [], 1)
def f_X8_isReady (γ : GP) (x0 : Nat) (g : AH) : Option (Int32 × AH) := gR g x0 95 fun v1 => (if v1 = (γ.1 11) then (rtN .boolean (1 : Int32) g) else (rtN .boolean (0 : Int32) g))
theorem t_X8_isReady (γ : GP) (l : Launch) (hl : l.stackTraces = false) (x0 : Nat) (g : AH) : TrM ρI γ l ⟨"BanquetVotes$Dish", "isReady", "()Z"⟩ (ws_ ⟨"BanquetVotes$Dish", "isReady", "()Z"⟩ prog_5_method_7_code 1 (some .boolean)) 1 [.ref x0] g (f_X8_isReady γ x0 g) := by
  refine TrM_of (plainFor_of_name (by decide)) (Nat.le_of_ble_eq_true rfl) ?_
  unfold f_X8_isReady
  change AW ρI γ l ck_X8_isReady g 0 [(0, .ref x0)] [] g _
  refine r_aload_n (pc := 0) dX8_isReady_0 rfl 0 rfl ?_
  refine r_getR (f := 95) (pc := 1) dX8_isReady_1 q1790 (Or.inl rfl) rfl (fun v1 => ?_)
  refine r_gets (i := 11) (pc := 4) dX8_isReady_4 q2229 (List.mem_of_getElem? (i := 11) rfl) rfl ?_
  refine r_acmp_ne (tgt := 14) (pc := 7) dX8_isReady_7 (by decide) ?_ ?_
  · skip
    refine r_iconst (v := (1 : Int32)) (pc := 10) dX8_isReady_10 (by decide) ?_
    refine r_goto (tgt := 15) (pc := 11) dX8_isReady_11 (by decide) ?_
    exact r_zret (ty := .boolean) (pc := 15) dX8_isReady_15 rfl
  · skip
    refine r_iconst (v := (0 : Int32)) (pc := 14) dX8_isReady_14 (by decide) ?_
    exact r_zret (ty := .boolean) (pc := 15) dX8_isReady_15 rfl
abbrev ck_X2_reserved : CK := ("BanquetVotes$Kitchen", prog_14_method_15_code, 7, (some .int), "reserved", [], 7)
def f_X2_reserved_L13 (γ : GP) (x1 : Int32) (x2 : Int32) (x4 : Nat) : Nat → Int32 → AH → Option (Int32 × AH)
  | 0, _, _ => none
  | n + 1, x3, g => bI ((if hK g x4 = 10 then f_J13_hasNext γ x4 g else if hK g x4 = 13 then f_J24_hasNext γ x4 g else if hK g x4 = 17 then f_J29_hasNext γ x4 g else if hK g x4 = 18 then f_J29_hasNext γ x4 g else none)) fun v5 g4 => (if v5 = 0 then (some (x3, g4)) else bR ((if hK g4 x4 = 10 then f_J13_next γ x4 g4 else if hK g4 x4 = 13 then f_J24_next γ x4 g4 else if hK g4 x4 = 17 then f_J31_next γ x4 g4 else if hK g4 x4 = 18 then f_J32_next γ x4 g4 else none)) fun v7 g6 => gC g6 [20] v7 (bR ((if hK g6 v7 = 20 then f_X7_of γ v7 x1 g6 else none)) fun v9 g8 => (if v9 = 0 then f_X2_reserved_L13 γ x1 x2 x4 n (x3 + (0 : Int32)) g8 else bI ((if hK g8 v9 = 22 then f_X8_isReady γ v9 g8 else none)) fun v11 g10 => (if v11 = 0 then f_X2_reserved_L13 γ x1 x2 x4 n (x3 + (0 : Int32)) g10 else bI ((if hK g10 v9 = 22 then f_X8_ingredient γ v9 g10 else none)) fun v13 g12 => (if v13 = x2 then bI ((if hK g12 v9 = 22 then f_X8_amount γ v9 g12 else none)) fun v15 g14 => f_X2_reserved_L13 γ x1 x2 x4 n (x3 + v15) g14 else f_X2_reserved_L13 γ x1 x2 x4 n (x3 + (0 : Int32)) g12)))))
def f_X2_reserved (γ : GP) (x0 : Nat) (x1 : Int32) (x2 : Int32) (g : AH) : Option (Int32 × AH) := gR g x0 9 fun v1 => bR ((if hK g v1 = 3 then f_J2_iterator γ v1 g else none)) fun v3 g2 => f_X2_reserved_L13 γ x1 x2 v3 FU (0 : Int32) g2
theorem f_X2_reserved_L13_w (γ : GP) (l : Launch) (hl : l.stackTraces = false) (G0 : AH) (x1 : Int32) (x2 : Int32) (x4 : Nat) : ∀ (n : Nat) (x3 : Int32) (g : AH), AW ρI γ l ck_X2_reserved G0 13 [(1, .int x1), (2, .int x2), (3, .int x3), (4, .ref x4)] [] g (f_X2_reserved_L13 γ x1 x2 x4 n x3 g) := by
  intro n
  induction n with
  | zero => intro x3 g; exact AW_none
  | succ n ih =>
    intro x3 g
    unfold f_X2_reserved_L13
    refine r_aload (pc := 13) dX2_reserved_13 3 rfl ?_
    refine r_cI (pc := 15) (rest := []) (RunOK_if (fun h => run_F (n := 0) (c9 := 10) (As := []) (rest := []) (t_J13_hasNext γ l hl x4 g) dX2_reserved_15 q781 q800 q802 q126 q804 (by decide +kernel) (by decide +kernel) rfl h ⟨by decide, by decide⟩ (Nat.le_of_ble_eq_true rfl) (Nat.le_of_ble_eq_true rfl) rfl (Nat.le_of_ble_eq_true rfl)) (RunOK_if (fun h => run_F (n := 0) (c9 := 13) (As := []) (rest := []) (t_J24_hasNext γ l hl x4 g) dX2_reserved_15 q781 q809 q811 q139 q813 (by decide +kernel) (by decide +kernel) rfl h ⟨by decide, by decide⟩ (Nat.le_of_ble_eq_true rfl) (Nat.le_of_ble_eq_true rfl) rfl (Nat.le_of_ble_eq_true rfl)) (RunOK_if (fun h => run_F (n := 0) (c9 := 17) (As := []) (rest := []) (t_J29_hasNext γ l hl x4 g) dX2_reserved_15 q781 q821 q817 q145 q819 (by decide +kernel) (by decide +kernel) rfl h ⟨by decide, by decide⟩ (Nat.le_of_ble_eq_true rfl) (Nat.le_of_ble_eq_true rfl) rfl (Nat.le_of_ble_eq_true rfl)) (RunOK_chk (fun h => run_F (n := 0) (c9 := 18) (As := []) (rest := []) (t_J29_hasNext γ l hl x4 g) dX2_reserved_15 q781 q824 q817 q145 q819 (by decide +kernel) (by decide +kernel) rfl h ⟨by decide, by decide⟩ (Nat.le_of_ble_eq_true rfl) (Nat.le_of_ble_eq_true rfl) rfl (Nat.le_of_ble_eq_true rfl)))))) (fun v5 g4 => ?_)
    refine r_if_eq (tgt := 80) (pc := 20) dX2_reserved_20 (by decide) ?_ ?_
    · skip
      refine r_iload_n (pc := 80) dX2_reserved_80 rfl 2 rfl ?_
      exact r_iret (pc := 81) dX2_reserved_81 rfl
    · skip
      refine r_aload (pc := 23) dX2_reserved_23 3 rfl ?_
      refine r_cR (pc := 25) (rest := []) (RunOK_if (fun h => run_F (n := 0) (c9 := 10) (As := []) (rest := []) (t_J13_next γ l hl x4 g4) dX2_reserved_25 q827 q991 q993 q126 q995 (by decide +kernel) (by decide +kernel) rfl h ⟨by decide, by decide⟩ (Nat.le_of_ble_eq_true rfl) (Nat.le_of_ble_eq_true rfl) rfl (Nat.le_of_ble_eq_true rfl)) (RunOK_if (fun h => run_F (n := 0) (c9 := 13) (As := []) (rest := []) (t_J24_next γ l hl x4 g4) dX2_reserved_25 q827 q1015 q1017 q139 q1019 (by decide +kernel) (by decide +kernel) rfl h ⟨by decide, by decide⟩ (Nat.le_of_ble_eq_true rfl) (Nat.le_of_ble_eq_true rfl) rfl (Nat.le_of_ble_eq_true rfl)) (RunOK_if (fun h => run_F (n := 0) (c9 := 17) (As := []) (rest := []) (t_J31_next γ l hl x4 g4) dX2_reserved_25 q827 q1047 q1049 q147 q1051 (by decide +kernel) (by decide +kernel) rfl h ⟨by decide, by decide⟩ (Nat.le_of_ble_eq_true rfl) (Nat.le_of_ble_eq_true rfl) rfl (Nat.le_of_ble_eq_true rfl)) (RunOK_chk (fun h => run_F (n := 0) (c9 := 18) (As := []) (rest := []) (t_J32_next γ l hl x4 g4) dX2_reserved_25 q827 q1055 q1057 q148 q1059 (by decide +kernel) (by decide +kernel) rfl h ⟨by decide, by decide⟩ (Nat.le_of_ble_eq_true rfl) (Nat.le_of_ble_eq_true rfl) rfl (Nat.le_of_ble_eq_true rfl)))))) (fun v7 g6 => ?_)
      refine r_cast_ (L := [20]) (pc := 30) dX2_reserved_30 q1063 (List.forall_mem_cons.mpr ⟨⟨by decide, by decide, Or.inl rfl⟩, (fun _ h => absurd h List.not_mem_nil)⟩) ?_
      refine r_astore (pc := 33) dX2_reserved_33 (Nat.le_of_ble_eq_true rfl) rfl ?_
      refine r_aload (pc := 35) dX2_reserved_35 0 rfl ?_
      refine r_iload_n (pc := 37) dX2_reserved_37 rfl 1 rfl ?_
      refine r_cR (pc := 38) (rest := []) (RunOK_chk (fun h => run_V (n := 1) (c9 := 20) (As := [.int x1]) (rest := []) (t_X7_of γ l hl v7 x1 g6) dX2_reserved_38 q2066 q2067 q2068 q150 q2069 (by decide +kernel) rfl h ⟨rfl, by decide, by decide⟩ (Nat.le_of_ble_eq_true rfl) (Nat.le_of_ble_eq_true rfl) rfl (Nat.le_of_ble_eq_true rfl))) (fun v9 g8 => ?_)
      refine r_astore (pc := 41) dX2_reserved_41 (Nat.le_of_ble_eq_true rfl) rfl ?_
      refine r_iload_n (pc := 43) dX2_reserved_43 rfl 4 rfl ?_
      refine r_aload (pc := 44) dX2_reserved_44 0 rfl ?_
      refine r_ifnull (tgt := 74) (pc := 46) dX2_reserved_46 (by decide) ?_ ?_
      · skip
        refine r_iconst (v := (0 : Int32)) (pc := 74) dX2_reserved_74 (by decide) ?_
        refine r_iadd (pc := 75) dX2_reserved_75 ?_
        refine r_istore_n (pc := 76) dX2_reserved_76 rfl (Nat.le_of_ble_eq_true rfl) rfl ?_
        refine r_goto (tgt := 13) (pc := 77) dX2_reserved_77 (by decide) ?_
        refine AW_sub [3, 4, 0, 5] rfl ?_
        exact ih (x3 + (0 : Int32)) g8
      · skip
        refine r_aload (pc := 49) dX2_reserved_49 0 rfl ?_
        refine r_cI (pc := 51) (rest := [.int x3]) (RunOK_chk (fun h => run_V (n := 0) (c9 := 22) (As := []) (rest := [.int x3]) (t_X8_isReady γ l hl v9 g8) dX2_reserved_51 q2225 q2226 q2227 q157 q2228 (by decide +kernel) rfl h ⟨rfl, by decide, by decide⟩ (Nat.le_of_ble_eq_true rfl) (Nat.le_of_ble_eq_true rfl) rfl (Nat.le_of_ble_eq_true rfl))) (fun v11 g10 => ?_)
        refine r_if_eq (tgt := 74) (pc := 54) dX2_reserved_54 (by decide) ?_ ?_
        · skip
          refine r_iconst (v := (0 : Int32)) (pc := 74) dX2_reserved_74 (by decide) ?_
          refine r_iadd (pc := 75) dX2_reserved_75 ?_
          refine r_istore_n (pc := 76) dX2_reserved_76 rfl (Nat.le_of_ble_eq_true rfl) rfl ?_
          refine r_goto (tgt := 13) (pc := 77) dX2_reserved_77 (by decide) ?_
          refine AW_sub [3, 4, 0, 5] rfl ?_
          exact ih (x3 + (0 : Int32)) g10
        · skip
          refine r_aload (pc := 57) dX2_reserved_57 0 rfl ?_
          refine r_cI (pc := 59) (rest := [.int x3]) (RunOK_chk (fun h => run_V (n := 0) (c9 := 22) (As := []) (rest := [.int x3]) (t_X8_ingredient γ l hl v9 g10) dX2_reserved_59 q2135 q2136 q2137 q157 q2138 (by decide +kernel) rfl h ⟨rfl, by decide, by decide⟩ (Nat.le_of_ble_eq_true rfl) (Nat.le_of_ble_eq_true rfl) rfl (Nat.le_of_ble_eq_true rfl))) (fun v13 g12 => ?_)
          refine r_iload_n (pc := 62) dX2_reserved_62 rfl 3 rfl ?_
          refine r_icmp_ne (tgt := 74) (pc := 63) dX2_reserved_63 (by decide) ?_ ?_
          · skip
            refine r_aload (pc := 66) dX2_reserved_66 0 rfl ?_
            refine r_cI (pc := 68) (rest := [.int x3]) (RunOK_chk (fun h => run_V (n := 0) (c9 := 22) (As := []) (rest := [.int x3]) (t_X8_amount γ l hl v9 g12) dX2_reserved_68 q2230 q2189 q2190 q157 q2191 (by decide +kernel) rfl h ⟨rfl, by decide, by decide⟩ (Nat.le_of_ble_eq_true rfl) (Nat.le_of_ble_eq_true rfl) rfl (Nat.le_of_ble_eq_true rfl))) (fun v15 g14 => ?_)
            refine r_goto (tgt := 75) (pc := 71) dX2_reserved_71 (by decide) ?_
            refine r_iadd (pc := 75) dX2_reserved_75 ?_
            refine r_istore_n (pc := 76) dX2_reserved_76 rfl (Nat.le_of_ble_eq_true rfl) rfl ?_
            refine r_goto (tgt := 13) (pc := 77) dX2_reserved_77 (by decide) ?_
            refine AW_sub [3, 4, 0, 5] rfl ?_
            exact ih (x3 + v15) g14
          · skip
            refine r_iconst (v := (0 : Int32)) (pc := 74) dX2_reserved_74 (by decide) ?_
            refine r_iadd (pc := 75) dX2_reserved_75 ?_
            refine r_istore_n (pc := 76) dX2_reserved_76 rfl (Nat.le_of_ble_eq_true rfl) rfl ?_
            refine r_goto (tgt := 13) (pc := 77) dX2_reserved_77 (by decide) ?_
            refine AW_sub [3, 4, 0, 5] rfl ?_
            exact ih (x3 + (0 : Int32)) g12
theorem t_X2_reserved (γ : GP) (l : Launch) (hl : l.stackTraces = false) (x0 : Nat) (x1 : Int32) (x2 : Int32) (g : AH) : TrM ρI γ l ⟨"BanquetVotes$Kitchen", "reserved", "(II)I"⟩ (ws_ ⟨"BanquetVotes$Kitchen", "reserved", "(II)I"⟩ prog_14_method_15_code 7 (some .int)) 7 [.ref x0, .int x1, .int x2] g (f_X2_reserved γ x0 x1 x2 g) := by
  refine TrM_of (plainFor_of_name (by decide)) (Nat.le_of_ble_eq_true rfl) ?_
  unfold f_X2_reserved
  change AW ρI γ l ck_X2_reserved g 0 [(0, .ref x0), (1, .int x1), (2, .int x2)] [] g _
  refine r_iconst (v := (0 : Int32)) (pc := 0) dX2_reserved_0 (by decide) ?_
  refine r_istore_n (pc := 1) dX2_reserved_1 rfl (Nat.le_of_ble_eq_true rfl) rfl ?_
  refine r_aload_n (pc := 2) dX2_reserved_2 rfl 1 rfl ?_
  refine r_getR (f := 9) (pc := 3) dX2_reserved_3 q266 (Or.inl rfl) rfl (fun v1 => ?_)
  refine r_cR (pc := 6) (rest := []) (RunOK_chk (fun h => run_F (n := 0) (c9 := 3) (As := []) (rest := []) (t_J2_iterator γ l hl v1 g) dX2_reserved_6 q354 q358 q360 q112 q362 (by decide +kernel) (by decide +kernel) rfl h ⟨by decide, by decide⟩ (Nat.le_of_ble_eq_true rfl) (Nat.le_of_ble_eq_true rfl) rfl (Nat.le_of_ble_eq_true rfl))) (fun v3 g2 => ?_)
  refine r_astore (pc := 11) dX2_reserved_11 (Nat.le_of_ble_eq_true rfl) rfl ?_
  refine AW_sub [3, 4, 1, 0] rfl ?_
  refine f_X2_reserved_L13_w γ l hl _ x1 x2 v3 FU (0 : Int32) g2
abbrev ck_X2_free : CK := ("BanquetVotes$Kitchen", prog_14_method_16_code, 3, (some .int), "free", [], 8)
def f_X2_free (γ : GP) (x0 : Nat) (x1 : Int32) (x2 : Int32) (g : AH) : Option (Int32 × AH) := bR ((if hK g x0 = 2 then f_X2_cook γ x0 x1 g else none)) fun v2 g1 => bI ((if hK g1 v2 = 16 then f_X6_stock γ v2 x2 g1 else none)) fun v4 g3 => bI ((if hK g3 x0 = 2 then f_X2_reserved γ x0 x1 x2 g3 else none)) fun v6 g5 => (some ((v4 - v6), g5))
theorem t_X2_free (γ : GP) (l : Launch) (hl : l.stackTraces = false) (x0 : Nat) (x1 : Int32) (x2 : Int32) (g : AH) : TrM ρI γ l ⟨"BanquetVotes$Kitchen", "free", "(II)I"⟩ (ws_ ⟨"BanquetVotes$Kitchen", "free", "(II)I"⟩ prog_14_method_16_code 3 (some .int)) 8 [.ref x0, .int x1, .int x2] g (f_X2_free γ x0 x1 x2 g) := by
  refine TrM_of (plainFor_of_name (by decide)) (Nat.le_of_ble_eq_true rfl) ?_
  unfold f_X2_free
  change AW ρI γ l ck_X2_free g 0 [(0, .ref x0), (1, .int x1), (2, .int x2)] [] g _
  refine r_aload_n (pc := 0) dX2_free_0 rfl 0 rfl ?_
  refine r_iload_n (pc := 1) dX2_free_1 rfl 1 rfl ?_
  refine r_cR (pc := 2) (rest := []) (RunOK_chk (fun h => run_V (n := 1) (c9 := 2) (As := [.int x1]) (rest := []) (t_X2_cook γ l hl x0 x1 g) dX2_free_2 q2020 q2021 q2022 q109 q2023 (by decide +kernel) rfl h ⟨rfl, by decide, by decide⟩ (Nat.le_of_ble_eq_true rfl) (Nat.le_of_ble_eq_true rfl) rfl (Nat.le_of_ble_eq_true rfl))) (fun v2 g1 => ?_)
  refine r_iload_n (pc := 5) dX2_free_5 rfl 2 rfl ?_
  refine r_cI (pc := 6) (rest := []) (RunOK_chk (fun h => run_V (n := 1) (c9 := 16) (As := [.int x2]) (rest := []) (t_X6_stock γ l hl v2 x2 g1) dX2_free_6 q2034 q2035 q2036 q144 q2037 (by decide +kernel) rfl h ⟨rfl, by decide, by decide⟩ (Nat.le_of_ble_eq_true rfl) (Nat.le_of_ble_eq_true rfl) rfl (Nat.le_of_ble_eq_true rfl))) (fun v4 g3 => ?_)
  refine r_aload_n (pc := 9) dX2_free_9 rfl 0 rfl ?_
  refine r_iload_n (pc := 10) dX2_free_10 rfl 1 rfl ?_
  refine r_iload_n (pc := 11) dX2_free_11 rfl 2 rfl ?_
  refine r_cI (pc := 12) (rest := [.int v4]) (RunOK_chk (fun h => run_V (n := 2) (c9 := 2) (As := [.int x1, .int x2]) (rest := [.int v4]) (t_X2_reserved γ l hl x0 x1 x2 g3) dX2_free_12 q2221 q2222 q2223 q109 q2224 (by decide +kernel) rfl h ⟨rfl, by decide, by decide⟩ (Nat.le_of_ble_eq_true rfl) (Nat.le_of_ble_eq_true rfl) rfl (Nat.le_of_ble_eq_true rfl))) (fun v6 g5 => ?_)
  refine r_isub (pc := 15) dX2_free_15 ?_
  exact r_iret (pc := 16) dX2_free_16 rfl
abbrev ck_X1_has : CK := ("BanquetVotes", prog_1_method_23_code, 4, (some .int), "has", [], 10)
def f_X1_has (γ : GP) (x0 : Nat) (x1 : Int32) (x2 : Int32) (x3 : Int32) (g : AH) : Option ((Int32 × AH) ⊕ (Nat × AH)) := bXV ((if hK g x0 = 1 then f_X1_requireCook γ x0 x1 g else none)) (fun e2 g3 => (thr e2 g3)) fun g1 => bXV (f_X1_requireIngredient γ x2 g1) (fun e5 g6 => (thr e5 g6)) fun g4 => (if x3 = 0 then gR g4 x0 0 fun v7 => bR ((if hK g4 v7 = 2 then f_X2_cook γ v7 x1 g4 else none)) fun v9 g8 => bI ((if hK g8 v9 = 16 then f_X6_stock γ v9 x2 g8 else none)) fun v11 g10 => (some (.inl (v11, g10))) else gR g4 x0 0 fun v12 => bI ((if hK g4 v12 = 2 then f_X2_free γ v12 x1 x2 g4 else none)) fun v14 g13 => (some (.inl (v14, g13))))
theorem t_X1_has (γ : GP) (l : Launch) (hl : l.stackTraces = false) (x0 : Nat) (x1 : Int32) (x2 : Int32) (x3 : Int32) (g : AH) : TrM (ρX ρI) γ l ⟨"BanquetVotes", "has", "(IIZ)I"⟩ (ws_ ⟨"BanquetVotes", "has", "(IIZ)I"⟩ prog_1_method_23_code 4 (some .int)) 10 [.ref x0, .int x1, .int x2, .int x3] g (f_X1_has γ x0 x1 x2 x3 g) := by
  refine TrM_of (plainFor_of_name (by decide)) (Nat.le_of_ble_eq_true rfl) ?_
  unfold f_X1_has
  change AW (ρX ρI) γ l ck_X1_has g 0 [(0, .ref x0), (1, .int x1), (2, .int x2), (3, .int x3)] [] g _
  refine r_aload_n (pc := 0) dX1_has_0 rfl 0 rfl ?_
  refine r_iload_n (pc := 1) dX1_has_1 rfl 1 rfl ?_
  refine r_cXV (pc := 2) (rest := []) (RunOK_chk (fun h => run_V (n := 1) (c9 := 1) (As := [.int x1]) (rest := []) (t_X1_requireCook γ l hl x0 x1 g) dX1_has_2 q1995 q1997 qs20 q108 q1998 (by decide +kernel) rfl h ⟨rfl, by decide, by decide⟩ (Nat.le_of_ble_eq_true rfl) (Nat.le_of_ble_eq_true rfl) rfl (Nat.le_of_ble_eq_true rfl))) (fun e2 g3 => ?_) (fun g1 => ?_)
  · skip
    exact x_out (by decide)
  · skip
    refine r_iload_n (pc := 5) dX1_has_5 rfl 2 rfl ?_
    refine r_cXV (pc := 6) (rest := []) (run_S (n := 1) (As := [.int x2]) (rest := []) (t_X1_requireIngredient γ l hl x2 g1) dX1_has_6 q2013 q2014 q108 q2015 (by decide +kernel) rfl (Nat.le_of_ble_eq_true rfl) (Nat.le_of_ble_eq_true rfl) rfl (Nat.le_of_ble_eq_true rfl)) (fun e5 g6 => ?_) (fun g4 => ?_)
    · skip
      exact x_out (by decide)
    · skip
      refine r_iload_n (pc := 9) dX1_has_9 rfl 3 rfl ?_
      refine r_if_eq (tgt := 25) (pc := 10) dX1_has_10 (by decide) ?_ ?_
      · skip
        refine r_aload_n (pc := 25) dX1_has_25 rfl 0 rfl ?_
        refine r_getR (f := 0) (pc := 26) dX1_has_26 q320 (Or.inl rfl) rfl (fun v7 => ?_)
        refine r_iload_n (pc := 29) dX1_has_29 rfl 1 rfl ?_
        refine r_cR (pc := 30) (rest := []) (RunOK_chk (fun h => run_V (n := 1) (c9 := 2) (As := [.int x1]) (rest := []) (t_X2_cook γ l hl v7 x1 g4) dX1_has_30 q2049 q2021 q2022 q109 q2023 (by decide +kernel) rfl h ⟨rfl, by decide, by decide⟩ (Nat.le_of_ble_eq_true rfl) (Nat.le_of_ble_eq_true rfl) rfl (Nat.le_of_ble_eq_true rfl))) (fun v9 g8 => ?_)
        refine r_iload_n (pc := 33) dX1_has_33 rfl 2 rfl ?_
        refine r_cI (pc := 34) (rest := []) (RunOK_chk (fun h => run_V (n := 1) (c9 := 16) (As := [.int x2]) (rest := []) (t_X6_stock γ l hl v9 x2 g8) dX1_has_34 q2231 q2035 q2036 q144 q2037 (by decide +kernel) rfl h ⟨rfl, by decide, by decide⟩ (Nat.le_of_ble_eq_true rfl) (Nat.le_of_ble_eq_true rfl) rfl (Nat.le_of_ble_eq_true rfl))) (fun v11 g10 => ?_)
        exact r_inl (fun _ => rfl) (r_iret (pc := 37) dX1_has_37 rfl)
      · skip
        refine r_aload_n (pc := 13) dX1_has_13 rfl 0 rfl ?_
        refine r_getR (f := 0) (pc := 14) dX1_has_14 q320 (Or.inl rfl) rfl (fun v12 => ?_)
        refine r_iload_n (pc := 17) dX1_has_17 rfl 1 rfl ?_
        refine r_iload_n (pc := 18) dX1_has_18 rfl 2 rfl ?_
        refine r_cI (pc := 19) (rest := []) (RunOK_chk (fun h => run_V (n := 2) (c9 := 2) (As := [.int x1, .int x2]) (rest := []) (t_X2_free γ l hl v12 x1 x2 g4) dX1_has_19 q2217 q2218 q2219 q109 q2220 (by decide +kernel) rfl h ⟨rfl, by decide, by decide⟩ (Nat.le_of_ble_eq_true rfl) (Nat.le_of_ble_eq_true rfl) rfl (Nat.le_of_ble_eq_true rfl))) (fun v14 g13 => ?_)
        refine r_goto (tgt := 37) (pc := 22) dX1_has_22 (by decide) ?_
        exact r_inl (fun _ => rfl) (r_iret (pc := 37) dX1_has_37 rfl)
abbrev ck_X6_left : CK := ("BanquetVotes$Cook", prog_3_method_5_code, 2, (some .int), "left", [], 1)
def f_X6_left (γ : GP) (x0 : Nat) (x1 : Int32) (g : AH) : Option (Int32 × AH) := gR g x0 78 fun v1 => gA g 101 v1 x1 fun v2 => gR g x0 79 fun v3 => gA g 101 v3 x1 fun v4 => (some ((v2 - v4), g))
theorem t_X6_left (γ : GP) (l : Launch) (hl : l.stackTraces = false) (x0 : Nat) (x1 : Int32) (g : AH) : TrM ρI γ l ⟨"BanquetVotes$Cook", "left", "(I)I"⟩ (ws_ ⟨"BanquetVotes$Cook", "left", "(I)I"⟩ prog_3_method_5_code 2 (some .int)) 1 [.ref x0, .int x1] g (f_X6_left γ x0 x1 g) := by
  refine TrM_of (plainFor_of_name (by decide)) (Nat.le_of_ble_eq_true rfl) ?_
  unfold f_X6_left
  change AW ρI γ l ck_X6_left g 0 [(0, .ref x0), (1, .int x1)] [] g _
  refine r_aload_n (pc := 0) dX6_left_0 rfl 0 rfl ?_
  refine r_getR (f := 78) (pc := 1) dX6_left_1 q1238 (Or.inl rfl) rfl (fun v1 => ?_)
  refine r_iload_n (pc := 4) dX6_left_4 rfl 1 rfl ?_
  refine r_iald (pc := 5) dX6_left_5 (fun v2 => ?_)
  refine r_aload_n (pc := 6) dX6_left_6 rfl 0 rfl ?_
  refine r_getR (f := 79) (pc := 7) dX6_left_7 q1239 (Or.inl rfl) rfl (fun v3 => ?_)
  refine r_iload_n (pc := 10) dX6_left_10 rfl 1 rfl ?_
  refine r_iald (pc := 11) dX6_left_11 (fun v4 => ?_)
  refine r_isub (pc := 12) dX6_left_12 ?_
  exact r_iret (pc := 13) dX6_left_13 rfl
abbrev ck_X2_freeAgain : CK := ("BanquetVotes$Kitchen", prog_14_method_17_code, 3, (some .int), "freeAgain", [], 8)
def f_X2_freeAgain (γ : GP) (x0 : Nat) (x1 : Int32) (x2 : Int32) (g : AH) : Option (Int32 × AH) := bR ((if hK g x0 = 2 then f_X2_cook γ x0 x1 g else none)) fun v2 g1 => bI ((if hK g1 v2 = 16 then f_X6_left γ v2 x2 g1 else none)) fun v4 g3 => bI ((if hK g3 x0 = 2 then f_X2_reserved γ x0 x1 x2 g3 else none)) fun v6 g5 => (some ((v4 - v6), g5))
theorem t_X2_freeAgain (γ : GP) (l : Launch) (hl : l.stackTraces = false) (x0 : Nat) (x1 : Int32) (x2 : Int32) (g : AH) : TrM ρI γ l ⟨"BanquetVotes$Kitchen", "freeAgain", "(II)I"⟩ (ws_ ⟨"BanquetVotes$Kitchen", "freeAgain", "(II)I"⟩ prog_14_method_17_code 3 (some .int)) 8 [.ref x0, .int x1, .int x2] g (f_X2_freeAgain γ x0 x1 x2 g) := by
  refine TrM_of (plainFor_of_name (by decide)) (Nat.le_of_ble_eq_true rfl) ?_
  unfold f_X2_freeAgain
  change AW ρI γ l ck_X2_freeAgain g 0 [(0, .ref x0), (1, .int x1), (2, .int x2)] [] g _
  refine r_aload_n (pc := 0) dX2_freeAgain_0 rfl 0 rfl ?_
  refine r_iload_n (pc := 1) dX2_freeAgain_1 rfl 1 rfl ?_
  refine r_cR (pc := 2) (rest := []) (RunOK_chk (fun h => run_V (n := 1) (c9 := 2) (As := [.int x1]) (rest := []) (t_X2_cook γ l hl x0 x1 g) dX2_freeAgain_2 q2020 q2021 q2022 q109 q2023 (by decide +kernel) rfl h ⟨rfl, by decide, by decide⟩ (Nat.le_of_ble_eq_true rfl) (Nat.le_of_ble_eq_true rfl) rfl (Nat.le_of_ble_eq_true rfl))) (fun v2 g1 => ?_)
  refine r_iload_n (pc := 5) dX2_freeAgain_5 rfl 2 rfl ?_
  refine r_cI (pc := 6) (rest := []) (RunOK_chk (fun h => run_V (n := 1) (c9 := 16) (As := [.int x2]) (rest := []) (t_X6_left γ l hl v2 x2 g1) dX2_freeAgain_6 q2243 q2244 q2245 q144 q2246 (by decide +kernel) rfl h ⟨rfl, by decide, by decide⟩ (Nat.le_of_ble_eq_true rfl) (Nat.le_of_ble_eq_true rfl) rfl (Nat.le_of_ble_eq_true rfl))) (fun v4 g3 => ?_)
  refine r_aload_n (pc := 9) dX2_freeAgain_9 rfl 0 rfl ?_
  refine r_iload_n (pc := 10) dX2_freeAgain_10 rfl 1 rfl ?_
  refine r_iload_n (pc := 11) dX2_freeAgain_11 rfl 2 rfl ?_
  refine r_cI (pc := 12) (rest := [.int v4]) (RunOK_chk (fun h => run_V (n := 2) (c9 := 2) (As := [.int x1, .int x2]) (rest := [.int v4]) (t_X2_reserved γ l hl x0 x1 x2 g3) dX2_freeAgain_12 q2221 q2222 q2223 q109 q2224 (by decide +kernel) rfl h ⟨rfl, by decide, by decide⟩ (Nat.le_of_ble_eq_true rfl) (Nat.le_of_ble_eq_true rfl) rfl (Nat.le_of_ble_eq_true rfl))) (fun v6 g5 => ?_)
  refine r_isub (pc := 15) dX2_freeAgain_15 ?_
  exact r_iret (pc := 16) dX2_freeAgain_16 rfl
abbrev ck_X1_freeAgain : CK := ("BanquetVotes", prog_1_method_24_code, 3, (some .int), "freeAgain", [], 10)
def f_X1_freeAgain (γ : GP) (x0 : Nat) (x1 : Int32) (x2 : Int32) (g : AH) : Option ((Int32 × AH) ⊕ (Nat × AH)) := bXV ((if hK g x0 = 1 then f_X1_requireCook γ x0 x1 g else none)) (fun e2 g3 => (thr e2 g3)) fun g1 => bXV (f_X1_requireIngredient γ x2 g1) (fun e5 g6 => (thr e5 g6)) fun g4 => gR g4 x0 0 fun v7 => bI ((if hK g4 v7 = 2 then f_X2_freeAgain γ v7 x1 x2 g4 else none)) fun v9 g8 => (some (.inl (v9, g8)))
theorem t_X1_freeAgain (γ : GP) (l : Launch) (hl : l.stackTraces = false) (x0 : Nat) (x1 : Int32) (x2 : Int32) (g : AH) : TrM (ρX ρI) γ l ⟨"BanquetVotes", "freeAgain", "(II)I"⟩ (ws_ ⟨"BanquetVotes", "freeAgain", "(II)I"⟩ prog_1_method_24_code 3 (some .int)) 10 [.ref x0, .int x1, .int x2] g (f_X1_freeAgain γ x0 x1 x2 g) := by
  refine TrM_of (plainFor_of_name (by decide)) (Nat.le_of_ble_eq_true rfl) ?_
  unfold f_X1_freeAgain
  change AW (ρX ρI) γ l ck_X1_freeAgain g 0 [(0, .ref x0), (1, .int x1), (2, .int x2)] [] g _
  refine r_aload_n (pc := 0) dX1_freeAgain_0 rfl 0 rfl ?_
  refine r_iload_n (pc := 1) dX1_freeAgain_1 rfl 1 rfl ?_
  refine r_cXV (pc := 2) (rest := []) (RunOK_chk (fun h => run_V (n := 1) (c9 := 1) (As := [.int x1]) (rest := []) (t_X1_requireCook γ l hl x0 x1 g) dX1_freeAgain_2 q1995 q1997 qs20 q108 q1998 (by decide +kernel) rfl h ⟨rfl, by decide, by decide⟩ (Nat.le_of_ble_eq_true rfl) (Nat.le_of_ble_eq_true rfl) rfl (Nat.le_of_ble_eq_true rfl))) (fun e2 g3 => ?_) (fun g1 => ?_)
  · skip
    exact x_out (by decide)
  · skip
    refine r_iload_n (pc := 5) dX1_freeAgain_5 rfl 2 rfl ?_
    refine r_cXV (pc := 6) (rest := []) (run_S (n := 1) (As := [.int x2]) (rest := []) (t_X1_requireIngredient γ l hl x2 g1) dX1_freeAgain_6 q2013 q2014 q108 q2015 (by decide +kernel) rfl (Nat.le_of_ble_eq_true rfl) (Nat.le_of_ble_eq_true rfl) rfl (Nat.le_of_ble_eq_true rfl)) (fun e5 g6 => ?_) (fun g4 => ?_)
    · skip
      exact x_out (by decide)
    · skip
      refine r_aload_n (pc := 9) dX1_freeAgain_9 rfl 0 rfl ?_
      refine r_getR (f := 0) (pc := 10) dX1_freeAgain_10 q320 (Or.inl rfl) rfl (fun v7 => ?_)
      refine r_iload_n (pc := 13) dX1_freeAgain_13 rfl 1 rfl ?_
      refine r_iload_n (pc := 14) dX1_freeAgain_14 rfl 2 rfl ?_
      refine r_cI (pc := 15) (rest := []) (RunOK_chk (fun h => run_V (n := 2) (c9 := 2) (As := [.int x1, .int x2]) (rest := []) (t_X2_freeAgain γ l hl v7 x1 x2 g4) dX1_freeAgain_15 q2239 q2240 q2241 q109 q2242 (by decide +kernel) rfl h ⟨rfl, by decide, by decide⟩ (Nat.le_of_ble_eq_true rfl) (Nat.le_of_ble_eq_true rfl) rfl (Nat.le_of_ble_eq_true rfl))) (fun v9 g8 => ?_)
      exact r_inl (fun _ => rfl) (r_iret (pc := 18) dX1_freeAgain_18 rfl)
abbrev ck_X11_init : CK := ("BanquetVotes$Command", prog_2_method_1_code, 5, none, "<init>", [], 2)
def f_X11_init (γ : GP) (x0 : Nat) (x1 : Nat) (x2 : Int32) (x3 : Int32) (x4 : Int32) (g : AH) : Option (AH) := (if x0 ≠ 0 then pR γ g x0 106 x1 fun g1 => pI γ g1 x0 107 x2 fun g2 => pI γ g2 x0 108 x3 fun g3 => pI γ g3 x0 109 x4 fun g4 => (some g4) else none)
theorem t_X11_init (γ : GP) (l : Launch) (hl : l.stackTraces = false) (x0 : Nat) (x1 : Nat) (x2 : Int32) (x3 : Int32) (x4 : Int32) (g : AH) : TrM ρV γ l ⟨"BanquetVotes$Command", "<init>", "(Ljava/lang/String;III)V"⟩ (ws_ ⟨"BanquetVotes$Command", "<init>", "(Ljava/lang/String;III)V"⟩ prog_2_method_1_code 5 none) 2 [.ref x0, .ref x1, .int x2, .int x3, .int x4] g (f_X11_init γ x0 x1 x2 x3 x4 g) := by
  refine TrM_of (plainFor_of_name (by decide)) (Nat.le_of_ble_eq_true rfl) ?_
  unfold f_X11_init
  change AW ρV γ l ck_X11_init g 0 [(0, .ref x0), (1, .ref x1), (2, .int x2), (3, .int x3), (4, .int x4)] [] g _
  refine r_aload_n (pc := 0) dX11_init_0 rfl 0 rfl ?_
  refine r_objInit (pc := 1) dX11_init_1 q2264 q185 q186 (by decide) (Nat.le_of_ble_eq_true rfl) ?_
  refine r_aload_n (pc := 4) dX11_init_4 rfl 0 rfl ?_
  refine r_aload_n (pc := 5) dX11_init_5 rfl 1 rfl ?_
  refine r_putR (f := 106) (pc := 6) dX11_init_6 q2265 (Or.inl rfl) (Or.inr ⟨rfl, rfl⟩) rfl (fun g1 => ?_)
  refine r_aload_n (pc := 9) dX11_init_9 rfl 0 rfl ?_
  refine r_iload_n (pc := 10) dX11_init_10 rfl 2 rfl ?_
  refine r_putI (f := 107) (pc := 11) dX11_init_11 q2266 (Or.inl rfl) (Or.inr ⟨rfl, rfl⟩) rfl (fun g2 => ?_)
  refine r_aload_n (pc := 14) dX11_init_14 rfl 0 rfl ?_
  refine r_iload_n (pc := 15) dX11_init_15 rfl 3 rfl ?_
  refine r_putI (f := 108) (pc := 16) dX11_init_16 q2267 (Or.inl rfl) (Or.inr ⟨rfl, rfl⟩) rfl (fun g3 => ?_)
  refine r_aload_n (pc := 19) dX11_init_19 rfl 0 rfl ?_
  refine r_iload (pc := 20) dX11_init_20 4 rfl ?_
  refine r_putI (f := 109) (pc := 22) dX11_init_22 q2268 (Or.inl rfl) (Or.inr ⟨rfl, rfl⟩) rfl (fun g4 => ?_)
  exact r_vret (pc := 25) dX11_init_25 rfl
abbrev ck_X7_isAskedIn : CK := ("BanquetVotes$Course", prog_4_method_9_code, 2, none, "isAskedIn", [], 1)
def f_X7_isAskedIn (γ : GP) (x0 : Nat) (x1 : Int32) (g : AH) : Option (AH) := pI γ g x0 88 (1 : Int32) fun g1 => pI γ g1 x0 89 x1 fun g2 => (some g2)
theorem t_X7_isAskedIn (γ : GP) (l : Launch) (hl : l.stackTraces = false) (x0 : Nat) (x1 : Int32) (g : AH) : TrM ρV γ l ⟨"BanquetVotes$Course", "isAskedIn", "(I)V"⟩ (ws_ ⟨"BanquetVotes$Course", "isAskedIn", "(I)V"⟩ prog_4_method_9_code 2 none) 1 [.ref x0, .int x1] g (f_X7_isAskedIn γ x0 x1 g) := by
  refine TrM_of (plainFor_of_name (by decide)) (Nat.le_of_ble_eq_true rfl) ?_
  unfold f_X7_isAskedIn
  change AW ρV γ l ck_X7_isAskedIn g 0 [(0, .ref x0), (1, .int x1)] [] g _
  refine r_aload_n (pc := 0) dX7_isAskedIn_0 rfl 0 rfl ?_
  refine r_iconst (v := (1 : Int32)) (pc := 1) dX7_isAskedIn_1 (by decide) ?_
  refine r_putI (f := 88) (pc := 2) dX7_isAskedIn_2 q1453 (Or.inl rfl) (Or.inl rfl) rfl (fun g1 => ?_)
  refine r_aload_n (pc := 5) dX7_isAskedIn_5 rfl 0 rfl ?_
  refine r_iload_n (pc := 6) dX7_isAskedIn_6 rfl 1 rfl ?_
  refine r_putI (f := 89) (pc := 7) dX7_isAskedIn_7 q1454 (Or.inl rfl) (Or.inl rfl) rfl (fun g2 => ?_)
  exact r_vret (pc := 10) dX7_isAskedIn_10 rfl
abbrev ck_X12_init : CK := ("BanquetVotes$Line", prog_15_method_1_code, 4, none, "<init>", [], 2)
def f_X12_init (γ : GP) (x0 : Nat) (x1 : Int32) (x2 : Int32) (x3 : Int32) (g : AH) : Option (AH) := (if x0 ≠ 0 then pI γ g x0 110 x1 fun g1 => pI γ g1 x0 111 x2 fun g2 => pI γ g2 x0 112 x3 fun g3 => (some g3) else none)
theorem t_X12_init (γ : GP) (l : Launch) (hl : l.stackTraces = false) (x0 : Nat) (x1 : Int32) (x2 : Int32) (x3 : Int32) (g : AH) : TrM ρV γ l ⟨"BanquetVotes$Line", "<init>", "(III)V"⟩ (ws_ ⟨"BanquetVotes$Line", "<init>", "(III)V"⟩ prog_15_method_1_code 4 none) 2 [.ref x0, .int x1, .int x2, .int x3] g (f_X12_init γ x0 x1 x2 x3 g) := by
  refine TrM_of (plainFor_of_name (by decide)) (Nat.le_of_ble_eq_true rfl) ?_
  unfold f_X12_init
  change AW ρV γ l ck_X12_init g 0 [(0, .ref x0), (1, .int x1), (2, .int x2), (3, .int x3)] [] g _
  refine r_aload_n (pc := 0) dX12_init_0 rfl 0 rfl ?_
  refine r_objInit (pc := 1) dX12_init_1 q2388 q185 q186 (by decide) (Nat.le_of_ble_eq_true rfl) ?_
  refine r_aload_n (pc := 4) dX12_init_4 rfl 0 rfl ?_
  refine r_iload_n (pc := 5) dX12_init_5 rfl 1 rfl ?_
  refine r_putI (f := 110) (pc := 6) dX12_init_6 q2389 (Or.inl rfl) (Or.inr ⟨rfl, rfl⟩) rfl (fun g1 => ?_)
  refine r_aload_n (pc := 9) dX12_init_9 rfl 0 rfl ?_
  refine r_iload_n (pc := 10) dX12_init_10 rfl 2 rfl ?_
  refine r_putI (f := 111) (pc := 11) dX12_init_11 q2390 (Or.inl rfl) (Or.inr ⟨rfl, rfl⟩) rfl (fun g2 => ?_)
  refine r_aload_n (pc := 14) dX12_init_14 rfl 0 rfl ?_
  refine r_iload_n (pc := 15) dX12_init_15 rfl 3 rfl ?_
  refine r_putI (f := 112) (pc := 16) dX12_init_16 q2391 (Or.inl rfl) (Or.inr ⟨rfl, rfl⟩) rfl (fun g3 => ?_)
  exact r_vret (pc := 19) dX12_init_19 rfl
abbrev ck_X3_writes : CK := ("BanquetVotes$Somebody", prog_20_method_5_code, 4, none, "writes", [], 8)
def f_X3_writes (γ : GP) (x0 : Nat) (x1 : Int32) (x2 : Int32) (x3 : Int32) (g : AH) : Option (AH) := gR g x0 18 fun v1 => mO g 28 fun q2 g3 => bV ((if q2 ≠ 0 then f_X12_init γ q2 x1 x2 x3 g3 else none)) fun g4 => bI ((if hK g4 v1 = 3 then f_J2_add γ v1 q2 g4 else none)) fun v6 g5 => (some g5)
theorem t_X3_writes (γ : GP) (l : Launch) (hl : l.stackTraces = false) (x0 : Nat) (x1 : Int32) (x2 : Int32) (x3 : Int32) (g : AH) : TrM ρV γ l ⟨"BanquetVotes$Somebody", "writes", "(III)V"⟩ (ws_ ⟨"BanquetVotes$Somebody", "writes", "(III)V"⟩ prog_20_method_5_code 4 none) 8 [.ref x0, .int x1, .int x2, .int x3] g (f_X3_writes γ x0 x1 x2 x3 g) := by
  refine TrM_of (plainFor_of_name (by decide)) (Nat.le_of_ble_eq_true rfl) ?_
  unfold f_X3_writes
  change AW ρV γ l ck_X3_writes g 0 [(0, .ref x0), (1, .int x1), (2, .int x2), (3, .int x3)] [] g _
  refine r_aload_n (pc := 0) dX3_writes_0 rfl 0 rfl ?_
  refine r_getR (f := 18) (pc := 1) dX3_writes_1 q238 (Or.inl rfl) rfl (fun v1 => ?_)
  refine r_new (c := 28) (pc := 4) dX3_writes_4 q2383 (by decide) (by decide) (fun q2 g3 => ?_)
  refine r_dup (pc := 7) dX3_writes_7 rfl ?_
  refine r_iload_n (pc := 8) dX3_writes_8 rfl 1 rfl ?_
  refine r_iload_n (pc := 9) dX3_writes_9 rfl 2 rfl ?_
  refine r_iload_n (pc := 10) dX3_writes_10 rfl 3 rfl ?_
  refine r_cV (pc := 11) (rest := [.ref q2, .ref v1]) (RunOK_chk (fun h => run_I (n := 3) (As := [.int x1, .int x2, .int x3]) (rest := [.ref q2, .ref v1]) (t_X12_init γ l hl q2 x1 x2 x3 g3) dX3_writes_11 q2385 q2386 q167 q2387 rfl (by decide +kernel) rfl h (Nat.le_of_ble_eq_true rfl) (Nat.le_of_ble_eq_true rfl) rfl (Nat.le_of_ble_eq_true rfl))) (fun g4 => ?_)
  refine r_cI (pc := 14) (rest := []) (RunOK_chk (fun h => run_F (n := 1) (c9 := 3) (As := [.ref q2]) (rest := []) (t_J2_add γ l hl v1 q2 g4) dX3_writes_14 q2400 q1383 q1385 q112 q1387 (by decide +kernel) (by decide +kernel) rfl h ⟨by decide, by decide⟩ (Nat.le_of_ble_eq_true rfl) (Nat.le_of_ble_eq_true rfl) rfl (Nat.le_of_ble_eq_true rfl))) (fun v6 g5 => ?_)
  refine r_pop (pc := 19) dX3_writes_19 rfl ?_
  exact r_vret (pc := 20) dX3_writes_20 rfl
abbrev ck_X2_arrival : CK := ("BanquetVotes$Kitchen", prog_14_method_18_code, 2, (some .int), "arrival", [], 5)
def f_X2_arrival (γ : GP) (x0 : Nat) (x1 : Int32) (g : AH) : Option (Int32 × AH) := gI g x0 12 fun v1 => bR ((if hK g x0 = 2 then f_X2_cook γ x0 x1 g else none)) fun v3 g2 => bI ((if hK g2 v3 = 16 then f_X6_distance γ v3 g2 else none)) fun v5 g4 => (some ((v1 + v5), g4))
theorem t_X2_arrival (γ : GP) (l : Launch) (hl : l.stackTraces = false) (x0 : Nat) (x1 : Int32) (g : AH) : TrM ρI γ l ⟨"BanquetVotes$Kitchen", "arrival", "(I)I"⟩ (ws_ ⟨"BanquetVotes$Kitchen", "arrival", "(I)I"⟩ prog_14_method_18_code 2 (some .int)) 5 [.ref x0, .int x1] g (f_X2_arrival γ x0 x1 g) := by
  refine TrM_of (plainFor_of_name (by decide)) (Nat.le_of_ble_eq_true rfl) ?_
  unfold f_X2_arrival
  change AW ρI γ l ck_X2_arrival g 0 [(0, .ref x0), (1, .int x1)] [] g _
  refine r_aload_n (pc := 0) dX2_arrival_0 rfl 0 rfl ?_
  refine r_getI (f := 12) (pc := 1) dX2_arrival_1 q269 (Or.inl rfl) rfl (fun v1 => ?_)
  refine r_aload_n (pc := 4) dX2_arrival_4 rfl 0 rfl ?_
  refine r_iload_n (pc := 5) dX2_arrival_5 rfl 1 rfl ?_
  refine r_cR (pc := 6) (rest := [.int v1]) (RunOK_chk (fun h => run_V (n := 1) (c9 := 2) (As := [.int x1]) (rest := [.int v1]) (t_X2_cook γ l hl x0 x1 g) dX2_arrival_6 q2020 q2021 q2022 q109 q2023 (by decide +kernel) rfl h ⟨rfl, by decide, by decide⟩ (Nat.le_of_ble_eq_true rfl) (Nat.le_of_ble_eq_true rfl) rfl (Nat.le_of_ble_eq_true rfl))) (fun v3 g2 => ?_)
  refine r_cI (pc := 9) (rest := [.int v1]) (RunOK_chk (fun h => run_V (n := 0) (c9 := 16) (As := []) (rest := [.int v1]) (t_X6_distance γ l hl v3 g2) dX2_arrival_9 q2412 q2051 q2052 q144 q2053 (by decide +kernel) rfl h ⟨rfl, by decide, by decide⟩ (Nat.le_of_ble_eq_true rfl) (Nat.le_of_ble_eq_true rfl) rfl (Nat.le_of_ble_eq_true rfl))) (fun v5 g4 => ?_)
  refine r_iadd (pc := 12) dX2_arrival_12 ?_
  exact r_iret (pc := 13) dX2_arrival_13 rfl
abbrev ck_X13_init : CK := ("BanquetVotes$Invitation", prog_13_method_1_code, 4, none, "<init>", [], 3)
def f_X13_init (γ : GP) (x0 : Nat) (x1 : Int32) (x2 : Int32) (x3 : Int32) (g : AH) : Option (AH) := bV ((if x0 ≠ 0 then f_J44_init γ x0 g else none)) fun g1 => pI γ g1 x0 113 x1 fun g2 => pI γ g2 x0 114 x2 fun g3 => pI γ g3 x0 115 x3 fun g4 => (some g4)
theorem t_X13_init (γ : GP) (l : Launch) (hl : l.stackTraces = false) (x0 : Nat) (x1 : Int32) (x2 : Int32) (x3 : Int32) (g : AH) : TrM ρV γ l ⟨"BanquetVotes$Invitation", "<init>", "(III)V"⟩ (ws_ ⟨"BanquetVotes$Invitation", "<init>", "(III)V"⟩ prog_13_method_1_code 4 none) 3 [.ref x0, .int x1, .int x2, .int x3] g (f_X13_init γ x0 x1 x2 x3 g) := by
  refine TrM_of (plainFor_of_name (by decide)) (Nat.le_of_ble_eq_true rfl) ?_
  unfold f_X13_init
  change AW ρV γ l ck_X13_init g 0 [(0, .ref x0), (1, .int x1), (2, .int x2), (3, .int x3)] [] g _
  refine r_aload_n (pc := 0) dX13_init_0 rfl 0 rfl ?_
  refine r_cV (pc := 1) (rest := []) (RunOK_chk (fun h => run_I (n := 0) (As := []) (rest := []) (t_J44_init γ l hl x0 g) dX13_init_1 q2416 q2417 q168 q2418 rfl (by decide +kernel) rfl h (Nat.le_of_ble_eq_true rfl) (Nat.le_of_ble_eq_true rfl) rfl (Nat.le_of_ble_eq_true rfl))) (fun g1 => ?_)
  refine r_aload_n (pc := 4) dX13_init_4 rfl 0 rfl ?_
  refine r_iload_n (pc := 5) dX13_init_5 rfl 1 rfl ?_
  refine r_putI (f := 113) (pc := 6) dX13_init_6 q2420 (Or.inl rfl) (Or.inr ⟨rfl, rfl⟩) rfl (fun g2 => ?_)
  refine r_aload_n (pc := 9) dX13_init_9 rfl 0 rfl ?_
  refine r_iload_n (pc := 10) dX13_init_10 rfl 2 rfl ?_
  refine r_putI (f := 114) (pc := 11) dX13_init_11 q2421 (Or.inl rfl) (Or.inr ⟨rfl, rfl⟩) rfl (fun g3 => ?_)
  refine r_aload_n (pc := 14) dX13_init_14 rfl 0 rfl ?_
  refine r_iload_n (pc := 15) dX13_init_15 rfl 3 rfl ?_
  refine r_putI (f := 115) (pc := 16) dX13_init_16 q2422 (Or.inl rfl) (Or.inr ⟨rfl, rfl⟩) rfl (fun g4 => ?_)
  exact r_vret (pc := 19) dX13_init_19 rfl
abbrev ck_X2_asks : CK := ("BanquetVotes$Kitchen", prog_14_method_19_code, 5, (some .int), "asks", [], 9)
def f_X2_asks_L101 (γ : GP) (x0 : Nat) (x1 : Int32) (x2 : Nat) (x3 : Nat) (K151 : AH → Option ((Int32 × AH) ⊕ (Nat × AH))) : Nat → AH → Option ((Int32 × AH) ⊕ (Nat × AH))
  | 0, _ => none
  | n + 1, g => bI ((if hK g x3 = 10 then f_J13_hasNext γ x3 g else if hK g x3 = 13 then f_J24_hasNext γ x3 g else if hK g x3 = 17 then f_J29_hasNext γ x3 g else if hK g x3 = 18 then f_J29_hasNext γ x3 g else none)) fun v44 g43 => (if v44 = 0 then K151 g43 else bR ((if hK g43 x3 = 10 then f_J13_next γ x3 g43 else if hK g43 x3 = 13 then f_J24_next γ x3 g43 else if hK g43 x3 = 17 then f_J31_next γ x3 g43 else if hK g43 x3 = 18 then f_J32_next γ x3 g43 else none)) fun v46 g45 => gC g45 [12] v46 (bI ((if hK g45 v46 = 12 then f_J21_intValue γ v46 g45 else none)) fun v48 g47 => gR g47 x0 11 fun v49 => mO g47 29 fun q50 g51 => bI ((if hK g51 x0 = 2 then f_X2_arrival γ x0 v48 g51 else none)) fun v53 g52 => bV ((if q50 ≠ 0 then f_X13_init γ q50 v48 x1 v53 g52 else none)) fun g54 => bI ((if hK g54 v49 = 5 then f_J4_add γ v49 q50 g54 else none)) fun v56 g55 => f_X2_asks_L101 γ x0 x1 x2 x3 K151 n g55))
def f_X2_asks (γ : GP) (x0 : Nat) (x1 : Int32) (g : AH) : Option ((Int32 × AH) ⊕ (Nat × AH)) := gR g x0 10 fun v1 => bI ((if hK g v1 = 4 then f_X3_hasFainted γ v1 g else none)) fun v3 g2 => jn (fun (z4 : Int32) (g5 : AH) => bXV (f_X1_meet γ z4 (6 : Int32) (-1 : Int32) g5) (fun e8 g9 => (thr e8 g9)) fun g7 => bR ((if hK g7 x0 = 2 then f_X2_course γ x0 x1 g7 else none)) fun v11 g10 => bI ((if hK g10 v11 = 20 then f_X7_phase γ v11 g10 else none)) fun v13 g12 => jn (fun (z14 : Int32) (g15 : AH) => bI ((if hK g15 v11 = 20 then f_X7_phase γ v11 g15 else none)) fun v18 g17 => bXV (f_X1_meet γ z14 (3 : Int32) v18 g17) (fun e20 g21 => (thr e20 g21)) fun g19 => bR ((if hK g19 v11 = 20 then f_X7_dishes γ v11 g19 else none)) fun v23 g22 => bI ((if hK g22 v23 = 15 then f_J27_isEmpty γ v23 g22 else none)) fun v25 g24 => jn (fun (z26 : Int32) (g27 : AH) => bXV (f_X1_meet γ z26 (5 : Int32) x1 g27) (fun e30 g31 => (thr e30 g31)) fun g29 => gI g29 x0 12 fun v32 => bV ((if hK g29 v11 = 20 then f_X7_isAskedIn γ v11 v32 g29 else none)) fun g33 => gR g33 x0 10 fun v34 => gI g33 x0 12 fun v35 => bV ((if hK g33 v34 = 4 then f_X3_writes γ v34 (0 : Int32) x1 v35 g33 else none)) fun g36 => bR ((if hK g36 v11 = 20 then f_X7_dishes γ v11 g36 else none)) fun v38 g37 => bR ((if hK g37 v38 = 15 then f_J28_keySet γ v38 g37 else none)) fun v40 g39 => bR ((if hK g39 v40 = 21 then f_J35_iterator γ v40 g39 else none)) fun v42 g41 => f_X2_asks_L101 γ x0 x1 v11 v42 (fun (g57 : AH) => bR ((if hK g57 v11 = 20 then f_X7_dishes γ v11 g57 else none)) fun v59 g58 => bI ((if hK g58 v59 = 15 then f_J28_size γ v59 g58 else none)) fun v61 g60 => (some (.inl (v61, g60)))) FU g41) (fun (j28 : Int32 → AH → Option ((Int32 × AH) ⊕ (Nat × AH))) => (if v25 = 0 then j28 (1 : Int32) g24 else j28 (0 : Int32) g24))) (fun (j16 : Int32 → AH → Option ((Int32 × AH) ⊕ (Nat × AH))) => (if v13 = 0 then j16 (1 : Int32) g12 else j16 (0 : Int32) g12))) (fun (j6 : Int32 → AH → Option ((Int32 × AH) ⊕ (Nat × AH))) => (if v3 = 0 then j6 (1 : Int32) g2 else j6 (0 : Int32) g2))
theorem f_X2_asks_L101_w (γ : GP) (l : Launch) (hl : l.stackTraces = false) (G0 : AH) (x0 : Nat) (x1 : Int32) (x2 : Nat) (x3 : Nat) (K151 : AH → Option ((Int32 × AH) ⊕ (Nat × AH))) (h_K151 : ∀ (g : AH), AW (ρX ρI) γ l ck_X2_asks G0 151 [(2, .ref x2)] [] g (K151 g)) : ∀ (n : Nat) (g : AH), AW (ρX ρI) γ l ck_X2_asks G0 101 [(0, .ref x0), (1, .int x1), (2, .ref x2), (3, .ref x3)] [] g (f_X2_asks_L101 γ x0 x1 x2 x3 K151 n g) := by
  intro n
  induction n with
  | zero => intro g; exact AW_none
  | succ n ih =>
    intro g
    unfold f_X2_asks_L101
    refine r_aload_n (pc := 101) dX2_asks_101 rfl 3 rfl ?_
    refine r_cI (pc := 102) (rest := []) (RunOK_if (fun h => run_F (n := 0) (c9 := 10) (As := []) (rest := []) (t_J13_hasNext γ l hl x3 g) dX2_asks_102 q781 q800 q802 q126 q804 (by decide +kernel) (by decide +kernel) rfl h ⟨by decide, by decide⟩ (Nat.le_of_ble_eq_true rfl) (Nat.le_of_ble_eq_true rfl) rfl (Nat.le_of_ble_eq_true rfl)) (RunOK_if (fun h => run_F (n := 0) (c9 := 13) (As := []) (rest := []) (t_J24_hasNext γ l hl x3 g) dX2_asks_102 q781 q809 q811 q139 q813 (by decide +kernel) (by decide +kernel) rfl h ⟨by decide, by decide⟩ (Nat.le_of_ble_eq_true rfl) (Nat.le_of_ble_eq_true rfl) rfl (Nat.le_of_ble_eq_true rfl)) (RunOK_if (fun h => run_F (n := 0) (c9 := 17) (As := []) (rest := []) (t_J29_hasNext γ l hl x3 g) dX2_asks_102 q781 q821 q817 q145 q819 (by decide +kernel) (by decide +kernel) rfl h ⟨by decide, by decide⟩ (Nat.le_of_ble_eq_true rfl) (Nat.le_of_ble_eq_true rfl) rfl (Nat.le_of_ble_eq_true rfl)) (RunOK_chk (fun h => run_F (n := 0) (c9 := 18) (As := []) (rest := []) (t_J29_hasNext γ l hl x3 g) dX2_asks_102 q781 q824 q817 q145 q819 (by decide +kernel) (by decide +kernel) rfl h ⟨by decide, by decide⟩ (Nat.le_of_ble_eq_true rfl) (Nat.le_of_ble_eq_true rfl) rfl (Nat.le_of_ble_eq_true rfl)))))) (fun v44 g43 => ?_)
    refine r_if_eq (tgt := 151) (pc := 107) dX2_asks_107 (by decide) ?_ ?_
    · skip
      refine AW_sub [2] rfl ?_
      exact h_K151 g43
    · skip
      refine r_aload_n (pc := 110) dX2_asks_110 rfl 3 rfl ?_
      refine r_cR (pc := 111) (rest := []) (RunOK_if (fun h => run_F (n := 0) (c9 := 10) (As := []) (rest := []) (t_J13_next γ l hl x3 g43) dX2_asks_111 q827 q991 q993 q126 q995 (by decide +kernel) (by decide +kernel) rfl h ⟨by decide, by decide⟩ (Nat.le_of_ble_eq_true rfl) (Nat.le_of_ble_eq_true rfl) rfl (Nat.le_of_ble_eq_true rfl)) (RunOK_if (fun h => run_F (n := 0) (c9 := 13) (As := []) (rest := []) (t_J24_next γ l hl x3 g43) dX2_asks_111 q827 q1015 q1017 q139 q1019 (by decide +kernel) (by decide +kernel) rfl h ⟨by decide, by decide⟩ (Nat.le_of_ble_eq_true rfl) (Nat.le_of_ble_eq_true rfl) rfl (Nat.le_of_ble_eq_true rfl)) (RunOK_if (fun h => run_F (n := 0) (c9 := 17) (As := []) (rest := []) (t_J31_next γ l hl x3 g43) dX2_asks_111 q827 q1047 q1049 q147 q1051 (by decide +kernel) (by decide +kernel) rfl h ⟨by decide, by decide⟩ (Nat.le_of_ble_eq_true rfl) (Nat.le_of_ble_eq_true rfl) rfl (Nat.le_of_ble_eq_true rfl)) (RunOK_chk (fun h => run_F (n := 0) (c9 := 18) (As := []) (rest := []) (t_J32_next γ l hl x3 g43) dX2_asks_111 q827 q1055 q1057 q148 q1059 (by decide +kernel) (by decide +kernel) rfl h ⟨by decide, by decide⟩ (Nat.le_of_ble_eq_true rfl) (Nat.le_of_ble_eq_true rfl) rfl (Nat.le_of_ble_eq_true rfl)))))) (fun v46 g45 => ?_)
      refine r_cast_ (L := [12]) (pc := 116) dX2_asks_116 q2404 (List.forall_mem_cons.mpr ⟨⟨by decide, by decide, Or.inl rfl⟩, (fun _ h => absurd h List.not_mem_nil)⟩) ?_
      refine r_cI (pc := 119) (rest := []) (RunOK_chk (fun h => run_V (n := 0) (c9 := 12) (As := []) (rest := []) (t_J21_intValue γ l hl v46 g45) dX2_asks_119 q2405 q1499 q1500 q135 q1501 (by decide +kernel) rfl h ⟨rfl, by decide, by decide⟩ (Nat.le_of_ble_eq_true rfl) (Nat.le_of_ble_eq_true rfl) rfl (Nat.le_of_ble_eq_true rfl))) (fun v48 g47 => ?_)
      refine r_istore (pc := 122) dX2_asks_122 (Nat.le_of_ble_eq_true rfl) rfl ?_
      refine r_aload_n (pc := 124) dX2_asks_124 rfl 1 rfl ?_
      refine r_getR (f := 11) (pc := 125) dX2_asks_125 q268 (Or.inl rfl) rfl (fun v49 => ?_)
      refine r_new (c := 29) (pc := 128) dX2_asks_128 q2406 (by decide) (by decide) (fun q50 g51 => ?_)
      refine r_dup (pc := 131) dX2_asks_131 rfl ?_
      refine r_iload (pc := 132) dX2_asks_132 0 rfl ?_
      refine r_iload_n (pc := 134) dX2_asks_134 rfl 2 rfl ?_
      refine r_aload_n (pc := 135) dX2_asks_135 rfl 1 rfl ?_
      refine r_iload (pc := 136) dX2_asks_136 0 rfl ?_
      refine r_cI (pc := 138) (rest := [.int x1, .int v48, .ref q50, .ref q50, .ref v49]) (RunOK_chk (fun h => run_V (n := 1) (c9 := 2) (As := [.int v48]) (rest := [.int x1, .int v48, .ref q50, .ref q50, .ref v49]) (t_X2_arrival γ l hl x0 v48 g51) dX2_asks_138 q2408 q2410 qs23 q109 q2411 (by decide +kernel) rfl h ⟨rfl, by decide, by decide⟩ (Nat.le_of_ble_eq_true rfl) (Nat.le_of_ble_eq_true rfl) rfl (Nat.le_of_ble_eq_true rfl))) (fun v53 g52 => ?_)
      refine r_cV (pc := 141) (rest := [.ref q50, .ref v49]) (RunOK_chk (fun h => run_IN (n := 3) (As := [.int v48, .int x1, .int v53]) (rest := [.ref q50, .ref v49]) (t_X13_init γ l hl q50 v48 x1 v53 g52) dX2_asks_141 mv2413 q2414 q169 q2415 rfl (by decide +kernel) rfl h (Nat.le_of_ble_eq_true rfl) (Nat.le_of_ble_eq_true rfl) rfl (Nat.le_of_ble_eq_true rfl))) (fun g54 => ?_)
      refine r_cI (pc := 144) (rest := []) (RunOK_chk (fun h => run_V (n := 1) (c9 := 5) (As := [.ref q50]) (rest := []) (t_J4_add γ l hl v49 q50 g54) dX2_asks_144 q2430 q1398 q3900 q116 q1400 (by decide +kernel) rfl h ⟨rfl, by decide, by decide⟩ (Nat.le_of_ble_eq_true rfl) (Nat.le_of_ble_eq_true rfl) rfl (Nat.le_of_ble_eq_true rfl))) (fun v56 g55 => ?_)
      refine r_pop (pc := 147) dX2_asks_147 rfl ?_
      refine r_goto (tgt := 101) (pc := 148) dX2_asks_148 (by decide) ?_
      refine AW_sub [1, 2, 3, 4] rfl ?_
      exact ih g55
theorem t_X2_asks (γ : GP) (l : Launch) (hl : l.stackTraces = false) (x0 : Nat) (x1 : Int32) (g : AH) : TrM (ρX ρI) γ l ⟨"BanquetVotes$Kitchen", "asks", "(I)I"⟩ (ws_ ⟨"BanquetVotes$Kitchen", "asks", "(I)I"⟩ prog_14_method_19_code 5 (some .int)) 9 [.ref x0, .int x1] g (f_X2_asks γ x0 x1 g) := by
  refine TrM_of (plainFor_of_name (by decide)) (Nat.le_of_ble_eq_true rfl) ?_
  unfold f_X2_asks
  change AW (ρX ρI) γ l ck_X2_asks g 0 [(0, .ref x0), (1, .int x1)] [] g _
  refine r_aload_n (pc := 0) dX2_asks_0 rfl 0 rfl ?_
  refine r_getR (f := 10) (pc := 1) dX2_asks_1 q267 (Or.inl rfl) rfl (fun v1 => ?_)
  refine r_cI (pc := 4) (rest := []) (RunOK_chk (fun h => run_U (n := 0) (c9 := 4) (As := []) (rest := []) (owner := "BanquetVotes$Somebody") (t_X3_hasFainted γ l hl v1 g) dX2_asks_4 q2359 q2360 q2361 q2058 q113 q2059 rfl ⟨by decide, by decide, by decide +kernel⟩ rfl h ⟨by decide, by decide⟩ (Nat.le_of_ble_eq_true rfl) (Nat.le_of_ble_eq_true rfl) rfl (Nat.le_of_ble_eq_true rfl))) (fun v3 g2 => ?_)
  refine AW_jn (P := fun (j : Int32 → AH → Option ((Int32 × AH) ⊕ (Nat × AH))) => ∀ (z4 : Int32) (g5 : AH), AW (ρX ρI) γ l ck_X2_asks g 15 [(0, .ref x0), (1, .int x1)] [.int z4] g5 (j z4 g5)) (fun z4 g5 => ?_) (fun j6 h_j6 => ?_)
  · skip
    refine r_bipush (v := (6 : Int32)) (pc := 15) dX2_asks_15 (by decide) ?_
    refine r_iconst (v := (-1 : Int32)) (pc := 17) dX2_asks_17 (by decide) ?_
    refine r_cXV (pc := 18) (rest := []) (run_SN (n := 3) (As := [.int z4, .int (6 : Int32), .int (-1 : Int32)]) (rest := []) (t_X1_meet γ l hl z4 (6 : Int32) (-1 : Int32) g5) dX2_asks_18 mv1897 q1898 q108 q1899 (by decide +kernel) rfl (Nat.le_of_ble_eq_true rfl) (Nat.le_of_ble_eq_true rfl) rfl (Nat.le_of_ble_eq_true rfl)) (fun e8 g9 => ?_) (fun g7 => ?_)
    · skip
      exact x_out (by decide)
    · skip
      refine r_aload_n (pc := 21) dX2_asks_21 rfl 0 rfl ?_
      refine r_iload_n (pc := 22) dX2_asks_22 rfl 1 rfl ?_
      refine r_cR (pc := 23) (rest := []) (RunOK_chk (fun h => run_V (n := 1) (c9 := 2) (As := [.int x1]) (rest := []) (t_X2_course γ l hl x0 x1 g7) dX2_asks_23 q2127 q2128 q2129 q109 q2130 (by decide +kernel) rfl h ⟨rfl, by decide, by decide⟩ (Nat.le_of_ble_eq_true rfl) (Nat.le_of_ble_eq_true rfl) rfl (Nat.le_of_ble_eq_true rfl))) (fun v11 g10 => ?_)
      refine r_astore_n (pc := 26) dX2_asks_26 rfl (Nat.le_of_ble_eq_true rfl) rfl ?_
      refine r_aload_n (pc := 27) dX2_asks_27 rfl 0 rfl ?_
      refine r_cI (pc := 28) (rest := []) (RunOK_chk (fun h => run_V (n := 0) (c9 := 20) (As := []) (rest := []) (t_X7_phase γ l hl v11 g10) dX2_asks_28 q2131 q2132 q2133 q150 q2134 (by decide +kernel) rfl h ⟨rfl, by decide, by decide⟩ (Nat.le_of_ble_eq_true rfl) (Nat.le_of_ble_eq_true rfl) rfl (Nat.le_of_ble_eq_true rfl))) (fun v13 g12 => ?_)
      refine AW_jn (P := fun (j : Int32 → AH → Option ((Int32 × AH) ⊕ (Nat × AH))) => ∀ (z14 : Int32) (g15 : AH), AW (ρX ρI) γ l ck_X2_asks g 39 [(0, .ref x0), (1, .int x1), (2, .ref v11)] [.int z14] g15 (j z14 g15)) (fun z14 g15 => ?_) (fun j16 h_j16 => ?_)
      · skip
        refine r_iconst (v := (3 : Int32)) (pc := 39) dX2_asks_39 (by decide) ?_
        refine r_aload_n (pc := 40) dX2_asks_40 rfl 2 rfl ?_
        refine r_cI (pc := 41) (rest := [.int (3 : Int32), .int z14]) (RunOK_chk (fun h => run_V (n := 0) (c9 := 20) (As := []) (rest := [.int (3 : Int32), .int z14]) (t_X7_phase γ l hl v11 g15) dX2_asks_41 q2131 q2132 q2133 q150 q2134 (by decide +kernel) rfl h ⟨rfl, by decide, by decide⟩ (Nat.le_of_ble_eq_true rfl) (Nat.le_of_ble_eq_true rfl) rfl (Nat.le_of_ble_eq_true rfl))) (fun v18 g17 => ?_)
        refine r_cXV (pc := 44) (rest := []) (run_SN (n := 3) (As := [.int z14, .int (3 : Int32), .int v18]) (rest := []) (t_X1_meet γ l hl z14 (3 : Int32) v18 g17) dX2_asks_44 mv1897 q1898 q108 q1899 (by decide +kernel) rfl (Nat.le_of_ble_eq_true rfl) (Nat.le_of_ble_eq_true rfl) rfl (Nat.le_of_ble_eq_true rfl)) (fun e20 g21 => ?_) (fun g19 => ?_)
        · skip
          exact x_out (by decide)
        · skip
          refine r_aload_n (pc := 47) dX2_asks_47 rfl 2 rfl ?_
          refine r_cR (pc := 48) (rest := []) (RunOK_chk (fun h => run_V (n := 0) (c9 := 20) (As := []) (rest := []) (t_X7_dishes γ l hl v11 g19) dX2_asks_48 q2139 q2140 q2141 q150 q2142 (by decide +kernel) rfl h ⟨rfl, by decide, by decide⟩ (Nat.le_of_ble_eq_true rfl) (Nat.le_of_ble_eq_true rfl) rfl (Nat.le_of_ble_eq_true rfl))) (fun v23 g22 => ?_)
          refine r_cI (pc := 51) (rest := []) (RunOK_chk (fun h => run_U (n := 0) (c9 := 15) (As := []) (rest := []) (owner := "java/util/AbstractMap") (t_J27_isEmpty γ l hl v23 g22) dX2_asks_51 q2362 q2363 q2365 q2366 q142 q2367 rfl ⟨by decide, by decide, by decide +kernel⟩ rfl h ⟨by decide, by decide⟩ (Nat.le_of_ble_eq_true rfl) (Nat.le_of_ble_eq_true rfl) rfl (Nat.le_of_ble_eq_true rfl))) (fun v25 g24 => ?_)
          refine AW_jn (P := fun (j : Int32 → AH → Option ((Int32 × AH) ⊕ (Nat × AH))) => ∀ (z26 : Int32) (g27 : AH), AW (ρX ρI) γ l ck_X2_asks g 62 [(0, .ref x0), (1, .int x1), (2, .ref v11)] [.int z26] g27 (j z26 g27)) (fun z26 g27 => ?_) (fun j28 h_j28 => ?_)
          · skip
            refine r_iconst (v := (5 : Int32)) (pc := 62) dX2_asks_62 (by decide) ?_
            refine r_iload_n (pc := 63) dX2_asks_63 rfl 1 rfl ?_
            refine r_cXV (pc := 64) (rest := []) (run_SN (n := 3) (As := [.int z26, .int (5 : Int32), .int x1]) (rest := []) (t_X1_meet γ l hl z26 (5 : Int32) x1 g27) dX2_asks_64 mv1897 q1898 q108 q1899 (by decide +kernel) rfl (Nat.le_of_ble_eq_true rfl) (Nat.le_of_ble_eq_true rfl) rfl (Nat.le_of_ble_eq_true rfl)) (fun e30 g31 => ?_) (fun g29 => ?_)
            · skip
              exact x_out (by decide)
            · skip
              refine r_aload_n (pc := 67) dX2_asks_67 rfl 2 rfl ?_
              refine r_aload_n (pc := 68) dX2_asks_68 rfl 0 rfl ?_
              refine r_getI (f := 12) (pc := 69) dX2_asks_69 q269 (Or.inl rfl) rfl (fun v32 => ?_)
              refine r_cV (pc := 72) (rest := []) (RunOK_chk (fun h => run_V (n := 1) (c9 := 20) (As := [.int v32]) (rest := []) (t_X7_isAskedIn γ l hl v11 v32 g29) dX2_asks_72 q2373 q2374 q2375 q150 q2376 (by decide +kernel) rfl h ⟨rfl, by decide, by decide⟩ (Nat.le_of_ble_eq_true rfl) (Nat.le_of_ble_eq_true rfl) rfl (Nat.le_of_ble_eq_true rfl))) (fun g33 => ?_)
              refine r_aload_n (pc := 75) dX2_asks_75 rfl 0 rfl ?_
              refine r_getR (f := 10) (pc := 76) dX2_asks_76 q267 (Or.inl rfl) rfl (fun v34 => ?_)
              refine r_iconst (v := (0 : Int32)) (pc := 79) dX2_asks_79 (by decide) ?_
              refine r_iload_n (pc := 80) dX2_asks_80 rfl 1 rfl ?_
              refine r_aload_n (pc := 81) dX2_asks_81 rfl 0 rfl ?_
              refine r_getI (f := 12) (pc := 82) dX2_asks_82 q269 (Or.inl rfl) rfl (fun v35 => ?_)
              refine r_cV (pc := 85) (rest := []) (RunOK_chk (fun h => run_U (n := 3) (c9 := 4) (As := [.int (0 : Int32), .int x1, .int v35]) (rest := []) (owner := "BanquetVotes$Somebody") (t_X3_writes γ l hl v34 (0 : Int32) x1 v35 g33) dX2_asks_85 q2377 q2378 q2380 q2381 q113 q2382 rfl ⟨by decide, by decide, by decide +kernel⟩ rfl h ⟨by decide, by decide⟩ (Nat.le_of_ble_eq_true rfl) (Nat.le_of_ble_eq_true rfl) rfl (Nat.le_of_ble_eq_true rfl))) (fun g36 => ?_)
              refine r_aload_n (pc := 88) dX2_asks_88 rfl 2 rfl ?_
              refine r_cR (pc := 89) (rest := []) (RunOK_chk (fun h => run_V (n := 0) (c9 := 20) (As := []) (rest := []) (t_X7_dishes γ l hl v11 g36) dX2_asks_89 q2139 q2140 q2141 q150 q2142 (by decide +kernel) rfl h ⟨rfl, by decide, by decide⟩ (Nat.le_of_ble_eq_true rfl) (Nat.le_of_ble_eq_true rfl) rfl (Nat.le_of_ble_eq_true rfl))) (fun v38 g37 => ?_)
              refine r_cR (pc := 92) (rest := []) (RunOK_chk (fun h => run_V (n := 0) (c9 := 15) (As := []) (rest := []) (t_J28_keySet γ l hl v38 g37) dX2_asks_92 q2401 q1469 q1470 q143 q1471 (by decide +kernel) rfl h ⟨rfl, by decide, by decide⟩ (Nat.le_of_ble_eq_true rfl) (Nat.le_of_ble_eq_true rfl) rfl (Nat.le_of_ble_eq_true rfl))) (fun v40 g39 => ?_)
              refine r_cR (pc := 95) (rest := []) (RunOK_chk (fun h => run_F (n := 0) (c9 := 21) (As := []) (rest := []) (t_J35_iterator γ l hl v40 g39) dX2_asks_95 q2403 q1496 q1131 q152 q1133 (by decide +kernel) (by decide +kernel) rfl h ⟨by decide, by decide⟩ (Nat.le_of_ble_eq_true rfl) (Nat.le_of_ble_eq_true rfl) rfl (Nat.le_of_ble_eq_true rfl))) (fun v42 g41 => ?_)
              refine r_astore_n (pc := 100) dX2_asks_100 rfl (Nat.le_of_ble_eq_true rfl) rfl ?_
              refine AW_sub [1, 2, 3, 0] rfl ?_
              refine f_X2_asks_L101_w γ l hl _ x0 x1 v11 v42 _ ?_ FU g41
              · intro g57
                refine r_aload_n (pc := 151) dX2_asks_151 rfl 0 rfl ?_
                refine r_cR (pc := 152) (rest := []) (RunOK_chk (fun h => run_V (n := 0) (c9 := 20) (As := []) (rest := []) (t_X7_dishes γ l hl v11 g57) dX2_asks_152 q2139 q2140 q2141 q150 q2142 (by decide +kernel) rfl h ⟨rfl, by decide, by decide⟩ (Nat.le_of_ble_eq_true rfl) (Nat.le_of_ble_eq_true rfl) rfl (Nat.le_of_ble_eq_true rfl))) (fun v59 g58 => ?_)
                refine r_cI (pc := 155) (rest := []) (RunOK_chk (fun h => run_V (n := 0) (c9 := 15) (As := []) (rest := []) (t_J28_size γ l hl v59 g58) dX2_asks_155 q2147 q1301 q1302 q143 q1303 (by decide +kernel) rfl h ⟨rfl, by decide, by decide⟩ (Nat.le_of_ble_eq_true rfl) (Nat.le_of_ble_eq_true rfl) rfl (Nat.le_of_ble_eq_true rfl))) (fun v61 g60 => ?_)
                exact r_inl (fun _ => rfl) (r_iret (pc := 158) dX2_asks_158 rfl)
          · skip
            refine r_if_ne (tgt := 61) (pc := 54) dX2_asks_54 (by decide) ?_ ?_
            · skip
              refine r_iconst (v := (1 : Int32)) (pc := 57) dX2_asks_57 (by decide) ?_
              refine r_goto (tgt := 62) (pc := 58) dX2_asks_58 (by decide) ?_
              exact h_j28 (1 : Int32) g24
            · skip
              refine r_iconst (v := (0 : Int32)) (pc := 61) dX2_asks_61 (by decide) ?_
              exact h_j28 (0 : Int32) g24
      · skip
        refine r_if_ne (tgt := 38) (pc := 31) dX2_asks_31 (by decide) ?_ ?_
        · skip
          refine r_iconst (v := (1 : Int32)) (pc := 34) dX2_asks_34 (by decide) ?_
          refine r_goto (tgt := 39) (pc := 35) dX2_asks_35 (by decide) ?_
          refine AW_sub [1, 2, 0] rfl ?_
          exact h_j16 (1 : Int32) g12
        · skip
          refine r_iconst (v := (0 : Int32)) (pc := 38) dX2_asks_38 (by decide) ?_
          refine AW_sub [1, 2, 0] rfl ?_
          exact h_j16 (0 : Int32) g12
  · skip
    refine r_if_ne (tgt := 14) (pc := 7) dX2_asks_7 (by decide) ?_ ?_
    · skip
      refine r_iconst (v := (1 : Int32)) (pc := 10) dX2_asks_10 (by decide) ?_
      refine r_goto (tgt := 15) (pc := 11) dX2_asks_11 (by decide) ?_
      exact h_j6 (1 : Int32) g2
    · skip
      refine r_iconst (v := (0 : Int32)) (pc := 14) dX2_asks_14 (by decide) ?_
      exact h_j6 (0 : Int32) g2
abbrev ck_X7_isDecided : CK := ("BanquetVotes$Course", prog_4_method_6_code, 1, (some .boolean), "isDecided", [], 1)
def f_X7_isDecided (γ : GP) (x0 : Nat) (g : AH) : Option (Int32 × AH) := gI g x0 88 fun v1 => (if v1 < (2 : Int32) then (rtN .boolean (0 : Int32) g) else (rtN .boolean (1 : Int32) g))
theorem t_X7_isDecided (γ : GP) (l : Launch) (hl : l.stackTraces = false) (x0 : Nat) (g : AH) : TrM ρI γ l ⟨"BanquetVotes$Course", "isDecided", "()Z"⟩ (ws_ ⟨"BanquetVotes$Course", "isDecided", "()Z"⟩ prog_4_method_6_code 1 (some .boolean)) 1 [.ref x0] g (f_X7_isDecided γ x0 g) := by
  refine TrM_of (plainFor_of_name (by decide)) (Nat.le_of_ble_eq_true rfl) ?_
  unfold f_X7_isDecided
  change AW ρI γ l ck_X7_isDecided g 0 [(0, .ref x0)] [] g _
  refine r_aload_n (pc := 0) dX7_isDecided_0 rfl 0 rfl ?_
  refine r_getI (f := 88) (pc := 1) dX7_isDecided_1 q1453 (Or.inl rfl) rfl (fun v1 => ?_)
  refine r_iconst (v := (2 : Int32)) (pc := 4) dX7_isDecided_4 (by decide) ?_
  refine r_icmp_lt (tgt := 12) (pc := 5) dX7_isDecided_5 (by decide) ?_ ?_
  · skip
    refine r_iconst (v := (0 : Int32)) (pc := 12) dX7_isDecided_12 (by decide) ?_
    exact r_zret (ty := .boolean) (pc := 13) dX7_isDecided_13 rfl
  · skip
    refine r_iconst (v := (1 : Int32)) (pc := 8) dX7_isDecided_8 (by decide) ?_
    refine r_goto (tgt := 13) (pc := 9) dX7_isDecided_9 (by decide) ?_
    exact r_zret (ty := .boolean) (pc := 13) dX7_isDecided_13 rfl
abbrev ck_X7_isDecidedAs : CK := ("BanquetVotes$Course", prog_4_method_10_code, 3, none, "isDecidedAs", [], 1)
def f_X7_isDecidedAs (γ : GP) (x0 : Nat) (x1 : Int32) (x2 : Int32) (g : AH) : Option (AH) := pI γ g x0 88 x1 fun g1 => pI γ g1 x0 90 x2 fun g2 => (some g2)
theorem t_X7_isDecidedAs (γ : GP) (l : Launch) (hl : l.stackTraces = false) (x0 : Nat) (x1 : Int32) (x2 : Int32) (g : AH) : TrM ρV γ l ⟨"BanquetVotes$Course", "isDecidedAs", "(II)V"⟩ (ws_ ⟨"BanquetVotes$Course", "isDecidedAs", "(II)V"⟩ prog_4_method_10_code 3 none) 1 [.ref x0, .int x1, .int x2] g (f_X7_isDecidedAs γ x0 x1 x2 g) := by
  refine TrM_of (plainFor_of_name (by decide)) (Nat.le_of_ble_eq_true rfl) ?_
  unfold f_X7_isDecidedAs
  change AW ρV γ l ck_X7_isDecidedAs g 0 [(0, .ref x0), (1, .int x1), (2, .int x2)] [] g _
  refine r_aload_n (pc := 0) dX7_isDecidedAs_0 rfl 0 rfl ?_
  refine r_iload_n (pc := 1) dX7_isDecidedAs_1 rfl 1 rfl ?_
  refine r_putI (f := 88) (pc := 2) dX7_isDecidedAs_2 q1453 (Or.inl rfl) (Or.inl rfl) rfl (fun g1 => ?_)
  refine r_aload_n (pc := 5) dX7_isDecidedAs_5 rfl 0 rfl ?_
  refine r_iload_n (pc := 6) dX7_isDecidedAs_6 rfl 2 rfl ?_
  refine r_putI (f := 90) (pc := 7) dX7_isDecidedAs_7 q1455 (Or.inl rfl) (Or.inl rfl) rfl (fun g2 => ?_)
  exact r_vret (pc := 10) dX7_isDecidedAs_10 rfl
abbrev ck_X2_settles : CK := ("BanquetVotes$Kitchen", prog_14_method_21_code, 3, none, "settles", [], 9)
def f_X2_settles (γ : GP) (x0 : Nat) (x1 : Int32) (x2 : Int32) (g : AH) : Option (AH) := bR ((if hK g x0 = 2 then f_X2_course γ x0 x1 g else none)) fun v2 g1 => gI g1 x0 12 fun v3 => bV ((if hK g1 v2 = 20 then f_X7_isDecidedAs γ v2 x2 v3 g1 else none)) fun g4 => gR g4 x0 10 fun v5 => jn (fun (z6 : Int32) (z7 : Nat) (g8 : AH) => gI g8 x0 12 fun v10 => bV ((if hK g8 z7 = 4 then f_X3_writes γ z7 z6 x1 v10 g8 else none)) fun g11 => (some g11)) (fun (j9 : Int32 → Nat → AH → Option (AH)) => (if x2 = (2 : Int32) then j9 (1 : Int32) v5 g4 else j9 (2 : Int32) v5 g4))
theorem t_X2_settles (γ : GP) (l : Launch) (hl : l.stackTraces = false) (x0 : Nat) (x1 : Int32) (x2 : Int32) (g : AH) : TrM ρV γ l ⟨"BanquetVotes$Kitchen", "settles", "(II)V"⟩ (ws_ ⟨"BanquetVotes$Kitchen", "settles", "(II)V"⟩ prog_14_method_21_code 3 none) 9 [.ref x0, .int x1, .int x2] g (f_X2_settles γ x0 x1 x2 g) := by
  refine TrM_of (plainFor_of_name (by decide)) (Nat.le_of_ble_eq_true rfl) ?_
  unfold f_X2_settles
  change AW ρV γ l ck_X2_settles g 0 [(0, .ref x0), (1, .int x1), (2, .int x2)] [] g _
  refine r_aload_n (pc := 0) dX2_settles_0 rfl 0 rfl ?_
  refine r_iload_n (pc := 1) dX2_settles_1 rfl 1 rfl ?_
  refine r_cR (pc := 2) (rest := []) (RunOK_chk (fun h => run_V (n := 1) (c9 := 2) (As := [.int x1]) (rest := []) (t_X2_course γ l hl x0 x1 g) dX2_settles_2 q2127 q2128 q2129 q109 q2130 (by decide +kernel) rfl h ⟨rfl, by decide, by decide⟩ (Nat.le_of_ble_eq_true rfl) (Nat.le_of_ble_eq_true rfl) rfl (Nat.le_of_ble_eq_true rfl))) (fun v2 g1 => ?_)
  refine r_iload_n (pc := 5) dX2_settles_5 rfl 2 rfl ?_
  refine r_aload_n (pc := 6) dX2_settles_6 rfl 0 rfl ?_
  refine r_getI (f := 12) (pc := 7) dX2_settles_7 q269 (Or.inl rfl) rfl (fun v3 => ?_)
  refine r_cV (pc := 10) (rest := []) (RunOK_chk (fun h => run_V (n := 2) (c9 := 20) (As := [.int x2, .int v3]) (rest := []) (t_X7_isDecidedAs γ l hl v2 x2 v3 g1) dX2_settles_10 q2443 q2444 q2445 q150 q2446 (by decide +kernel) rfl h ⟨rfl, by decide, by decide⟩ (Nat.le_of_ble_eq_true rfl) (Nat.le_of_ble_eq_true rfl) rfl (Nat.le_of_ble_eq_true rfl))) (fun g4 => ?_)
  refine r_aload_n (pc := 13) dX2_settles_13 rfl 0 rfl ?_
  refine r_getR (f := 10) (pc := 14) dX2_settles_14 q267 (Or.inl rfl) rfl (fun v5 => ?_)
  refine r_iload_n (pc := 17) dX2_settles_17 rfl 2 rfl ?_
  refine r_iconst (v := (2 : Int32)) (pc := 18) dX2_settles_18 (by decide) ?_
  refine AW_jn (P := fun (j : Int32 → Nat → AH → Option (AH)) => ∀ (z6 : Int32) (z7 : Nat) (g8 : AH), AW ρV γ l ck_X2_settles g 27 [(0, .ref x0), (1, .int x1)] [.int z6, .ref z7] g8 (j z6 z7 g8)) (fun z6 z7 g8 => ?_) (fun j9 h_j9 => ?_)
  · skip
    refine r_iload_n (pc := 27) dX2_settles_27 rfl 1 rfl ?_
    refine r_aload_n (pc := 28) dX2_settles_28 rfl 0 rfl ?_
    refine r_getI (f := 12) (pc := 29) dX2_settles_29 q269 (Or.inl rfl) rfl (fun v10 => ?_)
    refine r_cV (pc := 32) (rest := []) (RunOK_chk (fun h => run_U (n := 3) (c9 := 4) (As := [.int z6, .int x1, .int v10]) (rest := []) (owner := "BanquetVotes$Somebody") (t_X3_writes γ l hl z7 z6 x1 v10 g8) dX2_settles_32 q2377 q2378 q2380 q2381 q113 q2382 rfl ⟨by decide, by decide, by decide +kernel⟩ rfl h ⟨by decide, by decide⟩ (Nat.le_of_ble_eq_true rfl) (Nat.le_of_ble_eq_true rfl) rfl (Nat.le_of_ble_eq_true rfl))) (fun g11 => ?_)
    exact r_vret (pc := 35) dX2_settles_35 rfl
  · skip
    refine r_icmp_ne (tgt := 26) (pc := 19) dX2_settles_19 (by decide) ?_ ?_
    · skip
      refine r_iconst (v := (1 : Int32)) (pc := 22) dX2_settles_22 (by decide) ?_
      refine r_goto (tgt := 27) (pc := 23) dX2_settles_23 (by decide) ?_
      refine AW_sub [0, 1] rfl ?_
      exact h_j9 (1 : Int32) v5 g4
    · skip
      refine r_iconst (v := (2 : Int32)) (pc := 26) dX2_settles_26 (by decide) ?_
      refine AW_sub [0, 1] rfl ?_
      exact h_j9 (2 : Int32) v5 g4
abbrev ck_X14_init : CK := ("BanquetVotes$Verdict", prog_22_method_1_code, 5, none, "<init>", [], 3)
def f_X14_init (γ : GP) (x0 : Nat) (x1 : Int32) (x2 : Int32) (x3 : Int32) (x4 : Int32) (g : AH) : Option (AH) := bV ((if x0 ≠ 0 then f_J44_init γ x0 g else none)) fun g1 => pI γ g1 x0 116 x1 fun g2 => pI γ g2 x0 117 x2 fun g3 => pI γ g3 x0 118 x3 fun g4 => pI γ g4 x0 119 x4 fun g5 => (some g5)
theorem t_X14_init (γ : GP) (l : Launch) (hl : l.stackTraces = false) (x0 : Nat) (x1 : Int32) (x2 : Int32) (x3 : Int32) (x4 : Int32) (g : AH) : TrM ρV γ l ⟨"BanquetVotes$Verdict", "<init>", "(IIIZ)V"⟩ (ws_ ⟨"BanquetVotes$Verdict", "<init>", "(IIIZ)V"⟩ prog_22_method_1_code 5 none) 3 [.ref x0, .int x1, .int x2, .int x3, .int x4] g (f_X14_init γ x0 x1 x2 x3 x4 g) := by
  refine TrM_of (plainFor_of_name (by decide)) (Nat.le_of_ble_eq_true rfl) ?_
  unfold f_X14_init
  change AW ρV γ l ck_X14_init g 0 [(0, .ref x0), (1, .int x1), (2, .int x2), (3, .int x3), (4, .int x4)] [] g _
  refine r_aload_n (pc := 0) dX14_init_0 rfl 0 rfl ?_
  refine r_cV (pc := 1) (rest := []) (RunOK_chk (fun h => run_I (n := 0) (As := []) (rest := []) (t_J44_init γ l hl x0 g) dX14_init_1 q2456 q2417 q168 q2418 rfl (by decide +kernel) rfl h (Nat.le_of_ble_eq_true rfl) (Nat.le_of_ble_eq_true rfl) rfl (Nat.le_of_ble_eq_true rfl))) (fun g1 => ?_)
  refine r_aload_n (pc := 4) dX14_init_4 rfl 0 rfl ?_
  refine r_iload_n (pc := 5) dX14_init_5 rfl 1 rfl ?_
  refine r_putI (f := 116) (pc := 6) dX14_init_6 q2457 (Or.inl rfl) (Or.inr ⟨rfl, rfl⟩) rfl (fun g2 => ?_)
  refine r_aload_n (pc := 9) dX14_init_9 rfl 0 rfl ?_
  refine r_iload_n (pc := 10) dX14_init_10 rfl 2 rfl ?_
  refine r_putI (f := 117) (pc := 11) dX14_init_11 q2458 (Or.inl rfl) (Or.inr ⟨rfl, rfl⟩) rfl (fun g3 => ?_)
  refine r_aload_n (pc := 14) dX14_init_14 rfl 0 rfl ?_
  refine r_iload_n (pc := 15) dX14_init_15 rfl 3 rfl ?_
  refine r_putI (f := 118) (pc := 16) dX14_init_16 q2459 (Or.inl rfl) (Or.inr ⟨rfl, rfl⟩) rfl (fun g4 => ?_)
  refine r_aload_n (pc := 19) dX14_init_19 rfl 0 rfl ?_
  refine r_iload (pc := 20) dX14_init_20 4 rfl ?_
  refine r_putI (f := 119) (pc := 22) dX14_init_22 q2460 (Or.inl rfl) (Or.inr ⟨rfl, rfl⟩) rfl (fun g5 => ?_)
  exact r_vret (pc := 25) dX14_init_25 rfl
abbrev ck_X2_sendsAll : CK := ("BanquetVotes$Kitchen", prog_14_method_20_code, 5, (some .int), "sendsAll", [], 7)
def f_X2_sendsAll_L19 (γ : GP) (x0 : Nat) (x1 : Int32) (x2 : Nat) (x3 : Nat) (K82 : AH → Option (Int32 × AH)) : Nat → AH → Option (Int32 × AH)
  | 0, _ => none
  | n + 1, g => bI ((if hK g x3 = 10 then f_J13_hasNext γ x3 g else if hK g x3 = 13 then f_J24_hasNext γ x3 g else if hK g x3 = 17 then f_J29_hasNext γ x3 g else if hK g x3 = 18 then f_J29_hasNext γ x3 g else none)) fun v10 g9 => (if v10 = 0 then K82 g9 else bR ((if hK g9 x3 = 10 then f_J13_next γ x3 g9 else if hK g9 x3 = 13 then f_J24_next γ x3 g9 else if hK g9 x3 = 17 then f_J31_next γ x3 g9 else if hK g9 x3 = 18 then f_J32_next γ x3 g9 else none)) fun v12 g11 => gC g11 [12] v12 (bI ((if hK g11 v12 = 12 then f_J21_intValue γ v12 g11 else none)) fun v14 g13 => gR g13 x0 11 fun v15 => mO g13 30 fun q16 g17 => bI ((if hK g17 x0 = 2 then f_X2_arrival γ x0 v14 g17 else none)) fun v19 g18 => bI ((if hK g18 x2 = 20 then f_X7_phase γ x2 g18 else none)) fun v21 g20 => jn (fun (z22 : Int32) (z23 : Int32) (z24 : Int32) (z25 : Int32) (z26 : Nat) (z27 : Nat) (z28 : Nat) (g29 : AH) => bV ((if z26 ≠ 0 then f_X14_init γ z26 z25 z24 z23 z22 g29 else none)) fun g31 => bI ((if hK g31 z28 = 5 then f_J4_add γ z28 z27 g31 else none)) fun v33 g32 => f_X2_sendsAll_L19 γ x0 x1 x2 x3 K82 n g32) (fun (j30 : Int32 → Int32 → Int32 → Int32 → Nat → Nat → Nat → AH → Option (Int32 × AH)) => (if v21 = (2 : Int32) then j30 (1 : Int32) v19 x1 v14 q16 q16 v15 g20 else j30 (0 : Int32) v19 x1 v14 q16 q16 v15 g20))))
def f_X2_sendsAll (γ : GP) (x0 : Nat) (x1 : Int32) (g : AH) : Option (Int32 × AH) := bR ((if hK g x0 = 2 then f_X2_course γ x0 x1 g else none)) fun v2 g1 => bR ((if hK g1 v2 = 20 then f_X7_dishes γ v2 g1 else none)) fun v4 g3 => bR ((if hK g3 v4 = 15 then f_J28_keySet γ v4 g3 else none)) fun v6 g5 => bR ((if hK g5 v6 = 21 then f_J35_iterator γ v6 g5 else none)) fun v8 g7 => f_X2_sendsAll_L19 γ x0 x1 v2 v8 (fun (g34 : AH) => bR ((if hK g34 v2 = 20 then f_X7_dishes γ v2 g34 else none)) fun v36 g35 => bI ((if hK g35 v36 = 15 then f_J28_size γ v36 g35 else none)) fun v38 g37 => (some (v38, g37))) FU g7
theorem f_X2_sendsAll_L19_w (γ : GP) (l : Launch) (hl : l.stackTraces = false) (G0 : AH) (x0 : Nat) (x1 : Int32) (x2 : Nat) (x3 : Nat) (K82 : AH → Option (Int32 × AH)) (h_K82 : ∀ (g : AH), AW ρI γ l ck_X2_sendsAll G0 82 [(2, .ref x2)] [] g (K82 g)) : ∀ (n : Nat) (g : AH), AW ρI γ l ck_X2_sendsAll G0 19 [(0, .ref x0), (1, .int x1), (2, .ref x2), (3, .ref x3)] [] g (f_X2_sendsAll_L19 γ x0 x1 x2 x3 K82 n g) := by
  intro n
  induction n with
  | zero => intro g; exact AW_none
  | succ n ih =>
    intro g
    unfold f_X2_sendsAll_L19
    refine r_aload_n (pc := 19) dX2_sendsAll_19 rfl 3 rfl ?_
    refine r_cI (pc := 20) (rest := []) (RunOK_if (fun h => run_F (n := 0) (c9 := 10) (As := []) (rest := []) (t_J13_hasNext γ l hl x3 g) dX2_sendsAll_20 q781 q800 q802 q126 q804 (by decide +kernel) (by decide +kernel) rfl h ⟨by decide, by decide⟩ (Nat.le_of_ble_eq_true rfl) (Nat.le_of_ble_eq_true rfl) rfl (Nat.le_of_ble_eq_true rfl)) (RunOK_if (fun h => run_F (n := 0) (c9 := 13) (As := []) (rest := []) (t_J24_hasNext γ l hl x3 g) dX2_sendsAll_20 q781 q809 q811 q139 q813 (by decide +kernel) (by decide +kernel) rfl h ⟨by decide, by decide⟩ (Nat.le_of_ble_eq_true rfl) (Nat.le_of_ble_eq_true rfl) rfl (Nat.le_of_ble_eq_true rfl)) (RunOK_if (fun h => run_F (n := 0) (c9 := 17) (As := []) (rest := []) (t_J29_hasNext γ l hl x3 g) dX2_sendsAll_20 q781 q821 q817 q145 q819 (by decide +kernel) (by decide +kernel) rfl h ⟨by decide, by decide⟩ (Nat.le_of_ble_eq_true rfl) (Nat.le_of_ble_eq_true rfl) rfl (Nat.le_of_ble_eq_true rfl)) (RunOK_chk (fun h => run_F (n := 0) (c9 := 18) (As := []) (rest := []) (t_J29_hasNext γ l hl x3 g) dX2_sendsAll_20 q781 q824 q817 q145 q819 (by decide +kernel) (by decide +kernel) rfl h ⟨by decide, by decide⟩ (Nat.le_of_ble_eq_true rfl) (Nat.le_of_ble_eq_true rfl) rfl (Nat.le_of_ble_eq_true rfl)))))) (fun v10 g9 => ?_)
    refine r_if_eq (tgt := 82) (pc := 25) dX2_sendsAll_25 (by decide) ?_ ?_
    · skip
      refine AW_sub [2] rfl ?_
      exact h_K82 g9
    · skip
      refine r_aload_n (pc := 28) dX2_sendsAll_28 rfl 3 rfl ?_
      refine r_cR (pc := 29) (rest := []) (RunOK_if (fun h => run_F (n := 0) (c9 := 10) (As := []) (rest := []) (t_J13_next γ l hl x3 g9) dX2_sendsAll_29 q827 q991 q993 q126 q995 (by decide +kernel) (by decide +kernel) rfl h ⟨by decide, by decide⟩ (Nat.le_of_ble_eq_true rfl) (Nat.le_of_ble_eq_true rfl) rfl (Nat.le_of_ble_eq_true rfl)) (RunOK_if (fun h => run_F (n := 0) (c9 := 13) (As := []) (rest := []) (t_J24_next γ l hl x3 g9) dX2_sendsAll_29 q827 q1015 q1017 q139 q1019 (by decide +kernel) (by decide +kernel) rfl h ⟨by decide, by decide⟩ (Nat.le_of_ble_eq_true rfl) (Nat.le_of_ble_eq_true rfl) rfl (Nat.le_of_ble_eq_true rfl)) (RunOK_if (fun h => run_F (n := 0) (c9 := 17) (As := []) (rest := []) (t_J31_next γ l hl x3 g9) dX2_sendsAll_29 q827 q1047 q1049 q147 q1051 (by decide +kernel) (by decide +kernel) rfl h ⟨by decide, by decide⟩ (Nat.le_of_ble_eq_true rfl) (Nat.le_of_ble_eq_true rfl) rfl (Nat.le_of_ble_eq_true rfl)) (RunOK_chk (fun h => run_F (n := 0) (c9 := 18) (As := []) (rest := []) (t_J32_next γ l hl x3 g9) dX2_sendsAll_29 q827 q1055 q1057 q148 q1059 (by decide +kernel) (by decide +kernel) rfl h ⟨by decide, by decide⟩ (Nat.le_of_ble_eq_true rfl) (Nat.le_of_ble_eq_true rfl) rfl (Nat.le_of_ble_eq_true rfl)))))) (fun v12 g11 => ?_)
      refine r_cast_ (L := [12]) (pc := 34) dX2_sendsAll_34 q2404 (List.forall_mem_cons.mpr ⟨⟨by decide, by decide, Or.inl rfl⟩, (fun _ h => absurd h List.not_mem_nil)⟩) ?_
      refine r_cI (pc := 37) (rest := []) (RunOK_chk (fun h => run_V (n := 0) (c9 := 12) (As := []) (rest := []) (t_J21_intValue γ l hl v12 g11) dX2_sendsAll_37 q2405 q1499 q1500 q135 q1501 (by decide +kernel) rfl h ⟨rfl, by decide, by decide⟩ (Nat.le_of_ble_eq_true rfl) (Nat.le_of_ble_eq_true rfl) rfl (Nat.le_of_ble_eq_true rfl))) (fun v14 g13 => ?_)
      refine r_istore (pc := 40) dX2_sendsAll_40 (Nat.le_of_ble_eq_true rfl) rfl ?_
      refine r_aload_n (pc := 42) dX2_sendsAll_42 rfl 1 rfl ?_
      refine r_getR (f := 11) (pc := 43) dX2_sendsAll_43 q268 (Or.inl rfl) rfl (fun v15 => ?_)
      refine r_new (c := 30) (pc := 46) dX2_sendsAll_46 q2451 (by decide) (by decide) (fun q16 g17 => ?_)
      refine r_dup (pc := 49) dX2_sendsAll_49 rfl ?_
      refine r_iload (pc := 50) dX2_sendsAll_50 0 rfl ?_
      refine r_iload_n (pc := 52) dX2_sendsAll_52 rfl 2 rfl ?_
      refine r_aload_n (pc := 53) dX2_sendsAll_53 rfl 1 rfl ?_
      refine r_iload (pc := 54) dX2_sendsAll_54 0 rfl ?_
      refine r_cI (pc := 56) (rest := [.int x1, .int v14, .ref q16, .ref q16, .ref v15]) (RunOK_chk (fun h => run_V (n := 1) (c9 := 2) (As := [.int v14]) (rest := [.int x1, .int v14, .ref q16, .ref q16, .ref v15]) (t_X2_arrival γ l hl x0 v14 g17) dX2_sendsAll_56 q2408 q2410 qs23 q109 q2411 (by decide +kernel) rfl h ⟨rfl, by decide, by decide⟩ (Nat.le_of_ble_eq_true rfl) (Nat.le_of_ble_eq_true rfl) rfl (Nat.le_of_ble_eq_true rfl))) (fun v19 g18 => ?_)
      refine r_aload_n (pc := 59) dX2_sendsAll_59 rfl 3 rfl ?_
      refine r_cI (pc := 60) (rest := [.int v19, .int x1, .int v14, .ref q16, .ref q16, .ref v15]) (RunOK_chk (fun h => run_V (n := 0) (c9 := 20) (As := []) (rest := [.int v19, .int x1, .int v14, .ref q16, .ref q16, .ref v15]) (t_X7_phase γ l hl x2 g18) dX2_sendsAll_60 q2131 q2132 q2133 q150 q2134 (by decide +kernel) rfl h ⟨rfl, by decide, by decide⟩ (Nat.le_of_ble_eq_true rfl) (Nat.le_of_ble_eq_true rfl) rfl (Nat.le_of_ble_eq_true rfl))) (fun v21 g20 => ?_)
      refine r_iconst (v := (2 : Int32)) (pc := 63) dX2_sendsAll_63 (by decide) ?_
      refine AW_jn (P := fun (j : Int32 → Int32 → Int32 → Int32 → Nat → Nat → Nat → AH → Option (Int32 × AH)) => ∀ (z22 : Int32) (z23 : Int32) (z24 : Int32) (z25 : Int32) (z26 : Nat) (z27 : Nat) (z28 : Nat) (g29 : AH), AW ρI γ l ck_X2_sendsAll G0 72 [(0, .ref x0), (1, .int x1), (2, .ref x2), (3, .ref x3)] [.int z22, .int z23, .int z24, .int z25, .ref z26, .ref z27, .ref z28] g29 (j z22 z23 z24 z25 z26 z27 z28 g29)) (fun z22 z23 z24 z25 z26 z27 z28 g29 => ?_) (fun j30 h_j30 => ?_)
      · skip
        refine r_cV (pc := 72) (rest := [.ref z27, .ref z28]) (RunOK_chk (fun h => run_IN (n := 4) (As := [.int z25, .int z24, .int z23, .int z22]) (rest := [.ref z27, .ref z28]) (t_X14_init γ l hl z26 z25 z24 z23 z22 g29) dX2_sendsAll_72 mv2453 q2454 q170 q2455 rfl (by decide +kernel) rfl h (Nat.le_of_ble_eq_true rfl) (Nat.le_of_ble_eq_true rfl) rfl (Nat.le_of_ble_eq_true rfl))) (fun g31 => ?_)
        refine r_cI (pc := 75) (rest := []) (RunOK_chk (fun h => run_V (n := 1) (c9 := 5) (As := [.ref z27]) (rest := []) (t_J4_add γ l hl z28 z27 g31) dX2_sendsAll_75 q2430 q1398 q3900 q116 q1400 (by decide +kernel) rfl h ⟨rfl, by decide, by decide⟩ (Nat.le_of_ble_eq_true rfl) (Nat.le_of_ble_eq_true rfl) rfl (Nat.le_of_ble_eq_true rfl))) (fun v33 g32 => ?_)
        refine r_pop (pc := 78) dX2_sendsAll_78 rfl ?_
        refine r_goto (tgt := 19) (pc := 79) dX2_sendsAll_79 (by decide) ?_
        exact ih g32
      · skip
        refine r_icmp_ne (tgt := 71) (pc := 64) dX2_sendsAll_64 (by decide) ?_ ?_
        · skip
          refine r_iconst (v := (1 : Int32)) (pc := 67) dX2_sendsAll_67 (by decide) ?_
          refine r_goto (tgt := 72) (pc := 68) dX2_sendsAll_68 (by decide) ?_
          refine AW_sub [1, 2, 3, 4] rfl ?_
          exact h_j30 (1 : Int32) v19 x1 v14 q16 q16 v15 g20
        · skip
          refine r_iconst (v := (0 : Int32)) (pc := 71) dX2_sendsAll_71 (by decide) ?_
          refine AW_sub [1, 2, 3, 4] rfl ?_
          exact h_j30 (0 : Int32) v19 x1 v14 q16 q16 v15 g20
theorem t_X2_sendsAll (γ : GP) (l : Launch) (hl : l.stackTraces = false) (x0 : Nat) (x1 : Int32) (g : AH) : TrM ρI γ l ⟨"BanquetVotes$Kitchen", "sendsAll", "(I)I"⟩ (ws_ ⟨"BanquetVotes$Kitchen", "sendsAll", "(I)I"⟩ prog_14_method_20_code 5 (some .int)) 7 [.ref x0, .int x1] g (f_X2_sendsAll γ x0 x1 g) := by
  refine TrM_of (plainFor_of_name (by decide)) (Nat.le_of_ble_eq_true rfl) ?_
  unfold f_X2_sendsAll
  change AW ρI γ l ck_X2_sendsAll g 0 [(0, .ref x0), (1, .int x1)] [] g _
  refine r_aload_n (pc := 0) dX2_sendsAll_0 rfl 0 rfl ?_
  refine r_iload_n (pc := 1) dX2_sendsAll_1 rfl 1 rfl ?_
  refine r_cR (pc := 2) (rest := []) (RunOK_chk (fun h => run_V (n := 1) (c9 := 2) (As := [.int x1]) (rest := []) (t_X2_course γ l hl x0 x1 g) dX2_sendsAll_2 q2127 q2128 q2129 q109 q2130 (by decide +kernel) rfl h ⟨rfl, by decide, by decide⟩ (Nat.le_of_ble_eq_true rfl) (Nat.le_of_ble_eq_true rfl) rfl (Nat.le_of_ble_eq_true rfl))) (fun v2 g1 => ?_)
  refine r_astore_n (pc := 5) dX2_sendsAll_5 rfl (Nat.le_of_ble_eq_true rfl) rfl ?_
  refine r_aload_n (pc := 6) dX2_sendsAll_6 rfl 0 rfl ?_
  refine r_cR (pc := 7) (rest := []) (RunOK_chk (fun h => run_V (n := 0) (c9 := 20) (As := []) (rest := []) (t_X7_dishes γ l hl v2 g1) dX2_sendsAll_7 q2139 q2140 q2141 q150 q2142 (by decide +kernel) rfl h ⟨rfl, by decide, by decide⟩ (Nat.le_of_ble_eq_true rfl) (Nat.le_of_ble_eq_true rfl) rfl (Nat.le_of_ble_eq_true rfl))) (fun v4 g3 => ?_)
  refine r_cR (pc := 10) (rest := []) (RunOK_chk (fun h => run_V (n := 0) (c9 := 15) (As := []) (rest := []) (t_J28_keySet γ l hl v4 g3) dX2_sendsAll_10 q2401 q1469 q1470 q143 q1471 (by decide +kernel) rfl h ⟨rfl, by decide, by decide⟩ (Nat.le_of_ble_eq_true rfl) (Nat.le_of_ble_eq_true rfl) rfl (Nat.le_of_ble_eq_true rfl))) (fun v6 g5 => ?_)
  refine r_cR (pc := 13) (rest := []) (RunOK_chk (fun h => run_F (n := 0) (c9 := 21) (As := []) (rest := []) (t_J35_iterator γ l hl v6 g5) dX2_sendsAll_13 q2403 q1496 q1131 q152 q1133 (by decide +kernel) (by decide +kernel) rfl h ⟨by decide, by decide⟩ (Nat.le_of_ble_eq_true rfl) (Nat.le_of_ble_eq_true rfl) rfl (Nat.le_of_ble_eq_true rfl))) (fun v8 g7 => ?_)
  refine r_astore_n (pc := 18) dX2_sendsAll_18 rfl (Nat.le_of_ble_eq_true rfl) rfl ?_
  refine AW_sub [2, 3, 1, 0] rfl ?_
  refine f_X2_sendsAll_L19_w γ l hl _ x0 x1 v2 v8 _ ?_ FU g7
  · intro g34
    refine r_aload_n (pc := 82) dX2_sendsAll_82 rfl 0 rfl ?_
    refine r_cR (pc := 83) (rest := []) (RunOK_chk (fun h => run_V (n := 0) (c9 := 20) (As := []) (rest := []) (t_X7_dishes γ l hl v2 g34) dX2_sendsAll_83 q2139 q2140 q2141 q150 q2142 (by decide +kernel) rfl h ⟨rfl, by decide, by decide⟩ (Nat.le_of_ble_eq_true rfl) (Nat.le_of_ble_eq_true rfl) rfl (Nat.le_of_ble_eq_true rfl))) (fun v36 g35 => ?_)
    refine r_cI (pc := 86) (rest := []) (RunOK_chk (fun h => run_V (n := 0) (c9 := 15) (As := []) (rest := []) (t_J28_size γ l hl v36 g35) dX2_sendsAll_86 q2147 q1301 q1302 q143 q1303 (by decide +kernel) rfl h ⟨rfl, by decide, by decide⟩ (Nat.le_of_ble_eq_true rfl) (Nat.le_of_ble_eq_true rfl) rfl (Nat.le_of_ble_eq_true rfl))) (fun v38 g37 => ?_)
    exact r_iret (pc := 89) dX2_sendsAll_89 rfl
abbrev ck_X2_cancels : CK := ("BanquetVotes$Kitchen", prog_14_method_22_code, 3, (some .int), "cancels", [], 10)
def f_X2_cancels (γ : GP) (x0 : Nat) (x1 : Int32) (g : AH) : Option ((Int32 × AH) ⊕ (Nat × AH)) := gR g x0 10 fun v1 => bI ((if hK g v1 = 4 then f_X3_hasFainted γ v1 g else none)) fun v3 g2 => jn (fun (z4 : Int32) (g5 : AH) => bXV (f_X1_meet γ z4 (6 : Int32) (-1 : Int32) g5) (fun e8 g9 => (thr e8 g9)) fun g7 => bR ((if hK g7 x0 = 2 then f_X2_course γ x0 x1 g7 else none)) fun v11 g10 => bI ((if hK g10 v11 = 20 then f_X7_isDecided γ v11 g10 else none)) fun v13 g12 => jn (fun (z14 : Int32) (g15 : AH) => bI ((if hK g15 v11 = 20 then f_X7_phase γ v11 g15 else none)) fun v18 g17 => bXV (f_X1_meet γ z14 (7 : Int32) v18 g17) (fun e20 g21 => (thr e20 g21)) fun g19 => bV ((if hK g19 x0 = 2 then f_X2_settles γ x0 x1 (3 : Int32) g19 else none)) fun g22 => bI ((if hK g22 x0 = 2 then f_X2_sendsAll γ x0 x1 g22 else none)) fun v24 g23 => (some (.inl (v24, g23)))) (fun (j16 : Int32 → AH → Option ((Int32 × AH) ⊕ (Nat × AH))) => (if v13 = 0 then j16 (1 : Int32) g12 else j16 (0 : Int32) g12))) (fun (j6 : Int32 → AH → Option ((Int32 × AH) ⊕ (Nat × AH))) => (if v3 = 0 then j6 (1 : Int32) g2 else j6 (0 : Int32) g2))
theorem t_X2_cancels (γ : GP) (l : Launch) (hl : l.stackTraces = false) (x0 : Nat) (x1 : Int32) (g : AH) : TrM (ρX ρI) γ l ⟨"BanquetVotes$Kitchen", "cancels", "(I)I"⟩ (ws_ ⟨"BanquetVotes$Kitchen", "cancels", "(I)I"⟩ prog_14_method_22_code 3 (some .int)) 10 [.ref x0, .int x1] g (f_X2_cancels γ x0 x1 g) := by
  refine TrM_of (plainFor_of_name (by decide)) (Nat.le_of_ble_eq_true rfl) ?_
  unfold f_X2_cancels
  change AW (ρX ρI) γ l ck_X2_cancels g 0 [(0, .ref x0), (1, .int x1)] [] g _
  refine r_aload_n (pc := 0) dX2_cancels_0 rfl 0 rfl ?_
  refine r_getR (f := 10) (pc := 1) dX2_cancels_1 q267 (Or.inl rfl) rfl (fun v1 => ?_)
  refine r_cI (pc := 4) (rest := []) (RunOK_chk (fun h => run_U (n := 0) (c9 := 4) (As := []) (rest := []) (owner := "BanquetVotes$Somebody") (t_X3_hasFainted γ l hl v1 g) dX2_cancels_4 q2359 q2360 q2361 q2058 q113 q2059 rfl ⟨by decide, by decide, by decide +kernel⟩ rfl h ⟨by decide, by decide⟩ (Nat.le_of_ble_eq_true rfl) (Nat.le_of_ble_eq_true rfl) rfl (Nat.le_of_ble_eq_true rfl))) (fun v3 g2 => ?_)
  refine AW_jn (P := fun (j : Int32 → AH → Option ((Int32 × AH) ⊕ (Nat × AH))) => ∀ (z4 : Int32) (g5 : AH), AW (ρX ρI) γ l ck_X2_cancels g 15 [(0, .ref x0), (1, .int x1)] [.int z4] g5 (j z4 g5)) (fun z4 g5 => ?_) (fun j6 h_j6 => ?_)
  · skip
    refine r_bipush (v := (6 : Int32)) (pc := 15) dX2_cancels_15 (by decide) ?_
    refine r_iconst (v := (-1 : Int32)) (pc := 17) dX2_cancels_17 (by decide) ?_
    refine r_cXV (pc := 18) (rest := []) (run_SN (n := 3) (As := [.int z4, .int (6 : Int32), .int (-1 : Int32)]) (rest := []) (t_X1_meet γ l hl z4 (6 : Int32) (-1 : Int32) g5) dX2_cancels_18 mv1897 q1898 q108 q1899 (by decide +kernel) rfl (Nat.le_of_ble_eq_true rfl) (Nat.le_of_ble_eq_true rfl) rfl (Nat.le_of_ble_eq_true rfl)) (fun e8 g9 => ?_) (fun g7 => ?_)
    · skip
      exact x_out (by decide)
    · skip
      refine r_aload_n (pc := 21) dX2_cancels_21 rfl 0 rfl ?_
      refine r_iload_n (pc := 22) dX2_cancels_22 rfl 1 rfl ?_
      refine r_cR (pc := 23) (rest := []) (RunOK_chk (fun h => run_V (n := 1) (c9 := 2) (As := [.int x1]) (rest := []) (t_X2_course γ l hl x0 x1 g7) dX2_cancels_23 q2127 q2128 q2129 q109 q2130 (by decide +kernel) rfl h ⟨rfl, by decide, by decide⟩ (Nat.le_of_ble_eq_true rfl) (Nat.le_of_ble_eq_true rfl) rfl (Nat.le_of_ble_eq_true rfl))) (fun v11 g10 => ?_)
      refine r_astore_n (pc := 26) dX2_cancels_26 rfl (Nat.le_of_ble_eq_true rfl) rfl ?_
      refine r_aload_n (pc := 27) dX2_cancels_27 rfl 0 rfl ?_
      refine r_cI (pc := 28) (rest := []) (RunOK_chk (fun h => run_V (n := 0) (c9 := 20) (As := []) (rest := []) (t_X7_isDecided γ l hl v11 g10) dX2_cancels_28 q2435 q2436 q2437 q150 q2438 (by decide +kernel) rfl h ⟨rfl, by decide, by decide⟩ (Nat.le_of_ble_eq_true rfl) (Nat.le_of_ble_eq_true rfl) rfl (Nat.le_of_ble_eq_true rfl))) (fun v13 g12 => ?_)
      refine AW_jn (P := fun (j : Int32 → AH → Option ((Int32 × AH) ⊕ (Nat × AH))) => ∀ (z14 : Int32) (g15 : AH), AW (ρX ρI) γ l ck_X2_cancels g 39 [(0, .ref x0), (1, .int x1), (2, .ref v11)] [.int z14] g15 (j z14 g15)) (fun z14 g15 => ?_) (fun j16 h_j16 => ?_)
      · skip
        refine r_bipush (v := (7 : Int32)) (pc := 39) dX2_cancels_39 (by decide) ?_
        refine r_aload_n (pc := 41) dX2_cancels_41 rfl 2 rfl ?_
        refine r_cI (pc := 42) (rest := [.int (7 : Int32), .int z14]) (RunOK_chk (fun h => run_V (n := 0) (c9 := 20) (As := []) (rest := [.int (7 : Int32), .int z14]) (t_X7_phase γ l hl v11 g15) dX2_cancels_42 q2131 q2132 q2133 q150 q2134 (by decide +kernel) rfl h ⟨rfl, by decide, by decide⟩ (Nat.le_of_ble_eq_true rfl) (Nat.le_of_ble_eq_true rfl) rfl (Nat.le_of_ble_eq_true rfl))) (fun v18 g17 => ?_)
        refine r_cXV (pc := 45) (rest := []) (run_SN (n := 3) (As := [.int z14, .int (7 : Int32), .int v18]) (rest := []) (t_X1_meet γ l hl z14 (7 : Int32) v18 g17) dX2_cancels_45 mv1897 q1898 q108 q1899 (by decide +kernel) rfl (Nat.le_of_ble_eq_true rfl) (Nat.le_of_ble_eq_true rfl) rfl (Nat.le_of_ble_eq_true rfl)) (fun e20 g21 => ?_) (fun g19 => ?_)
        · skip
          exact x_out (by decide)
        · skip
          refine r_aload_n (pc := 48) dX2_cancels_48 rfl 0 rfl ?_
          refine r_iload_n (pc := 49) dX2_cancels_49 rfl 1 rfl ?_
          refine r_iconst (v := (3 : Int32)) (pc := 50) dX2_cancels_50 (by decide) ?_
          refine r_cV (pc := 51) (rest := []) (RunOK_chk (fun h => run_V (n := 2) (c9 := 2) (As := [.int x1, .int (3 : Int32)]) (rest := []) (t_X2_settles γ l hl x0 x1 (3 : Int32) g19) dX2_cancels_51 q2439 q2441 qs24 q109 q2442 (by decide +kernel) rfl h ⟨rfl, by decide, by decide⟩ (Nat.le_of_ble_eq_true rfl) (Nat.le_of_ble_eq_true rfl) rfl (Nat.le_of_ble_eq_true rfl))) (fun g22 => ?_)
          refine r_aload_n (pc := 54) dX2_cancels_54 rfl 0 rfl ?_
          refine r_iload_n (pc := 55) dX2_cancels_55 rfl 1 rfl ?_
          refine r_cI (pc := 56) (rest := []) (RunOK_chk (fun h => run_V (n := 1) (c9 := 2) (As := [.int x1]) (rest := []) (t_X2_sendsAll γ l hl x0 x1 g22) dX2_cancels_56 q2447 q2449 qs25 q109 q2450 (by decide +kernel) rfl h ⟨rfl, by decide, by decide⟩ (Nat.le_of_ble_eq_true rfl) (Nat.le_of_ble_eq_true rfl) rfl (Nat.le_of_ble_eq_true rfl))) (fun v24 g23 => ?_)
          exact r_inl (fun _ => rfl) (r_iret (pc := 59) dX2_cancels_59 rfl)
      · skip
        refine r_if_ne (tgt := 38) (pc := 31) dX2_cancels_31 (by decide) ?_ ?_
        · skip
          refine r_iconst (v := (1 : Int32)) (pc := 34) dX2_cancels_34 (by decide) ?_
          refine r_goto (tgt := 39) (pc := 35) dX2_cancels_35 (by decide) ?_
          refine AW_sub [1, 2, 0] rfl ?_
          exact h_j16 (1 : Int32) g12
        · skip
          refine r_iconst (v := (0 : Int32)) (pc := 38) dX2_cancels_38 (by decide) ?_
          refine AW_sub [1, 2, 0] rfl ?_
          exact h_j16 (0 : Int32) g12
  · skip
    refine r_if_ne (tgt := 14) (pc := 7) dX2_cancels_7 (by decide) ?_ ?_
    · skip
      refine r_iconst (v := (1 : Int32)) (pc := 10) dX2_cancels_10 (by decide) ?_
      refine r_goto (tgt := 15) (pc := 11) dX2_cancels_11 (by decide) ?_
      exact h_j6 (1 : Int32) g2
    · skip
      refine r_iconst (v := (0 : Int32)) (pc := 14) dX2_cancels_14 (by decide) ?_
      exact h_j6 (0 : Int32) g2
abbrev ck_X2_who : CK := ("BanquetVotes$Kitchen", prog_14_method_7_code, 2, (some (.object "BanquetVotes$Somebody")), "who", [], 5)
def f_X2_who (γ : GP) (x0 : Nat) (x1 : Int32) (g : AH) : Option (Nat × AH) := (if x1 = (-1 : Int32) then gR g x0 10 fun v1 => (some (v1, g)) else bR ((if hK g x0 = 2 then f_X2_cook γ x0 x1 g else none)) fun v3 g2 => (some (v3, g2)))
theorem t_X2_who (γ : GP) (l : Launch) (hl : l.stackTraces = false) (x0 : Nat) (x1 : Int32) (g : AH) : TrM ρR γ l ⟨"BanquetVotes$Kitchen", "who", "(I)LBanquetVotes$Somebody;"⟩ (ws_ ⟨"BanquetVotes$Kitchen", "who", "(I)LBanquetVotes$Somebody;"⟩ prog_14_method_7_code 2 (some (.object "BanquetVotes$Somebody"))) 5 [.ref x0, .int x1] g (f_X2_who γ x0 x1 g) := by
  refine TrM_of (plainFor_of_name (by decide)) (Nat.le_of_ble_eq_true rfl) ?_
  unfold f_X2_who
  change AW ρR γ l ck_X2_who g 0 [(0, .ref x0), (1, .int x1)] [] g _
  refine r_iload_n (pc := 0) dX2_who_0 rfl 1 rfl ?_
  refine r_iconst (v := (-1 : Int32)) (pc := 1) dX2_who_1 (by decide) ?_
  refine r_icmp_ne (tgt := 12) (pc := 2) dX2_who_2 (by decide) ?_ ?_
  · skip
    refine r_aload_n (pc := 5) dX2_who_5 rfl 0 rfl ?_
    refine r_getR (f := 10) (pc := 6) dX2_who_6 q267 (Or.inl rfl) rfl (fun v1 => ?_)
    refine r_goto (tgt := 17) (pc := 9) dX2_who_9 (by decide) ?_
    exact r_aret (pc := 17) dX2_who_17 rfl (by first | exact Or.inl ⟨_, rfl⟩ | exact Or.inr ⟨_, rfl⟩)
  · skip
    refine r_aload_n (pc := 12) dX2_who_12 rfl 0 rfl ?_
    refine r_iload_n (pc := 13) dX2_who_13 rfl 1 rfl ?_
    refine r_cR (pc := 14) (rest := []) (RunOK_chk (fun h => run_V (n := 1) (c9 := 2) (As := [.int x1]) (rest := []) (t_X2_cook γ l hl x0 x1 g) dX2_who_14 q2020 q2021 q2022 q109 q2023 (by decide +kernel) rfl h ⟨rfl, by decide, by decide⟩ (Nat.le_of_ble_eq_true rfl) (Nat.le_of_ble_eq_true rfl) rfl (Nat.le_of_ble_eq_true rfl))) (fun v3 g2 => ?_)
    exact r_aret (pc := 17) dX2_who_17 rfl (by first | exact Or.inl ⟨_, rfl⟩ | exact Or.inr ⟨_, rfl⟩)
abbrev ck_X3_faints : CK := ("BanquetVotes$Somebody", prog_20_method_3_code, 2, none, "faints", [], 1)
def f_X3_faints (γ : GP) (x0 : Nat) (x1 : Int32) (g : AH) : Option (AH) := pI γ g x0 17 x1 fun g1 => (some g1)
theorem t_X3_faints (γ : GP) (l : Launch) (hl : l.stackTraces = false) (x0 : Nat) (x1 : Int32) (g : AH) : TrM ρV γ l ⟨"BanquetVotes$Somebody", "faints", "(Z)V"⟩ (ws_ ⟨"BanquetVotes$Somebody", "faints", "(Z)V"⟩ prog_20_method_3_code 2 none) 1 [.ref x0, .int x1] g (f_X3_faints γ x0 x1 g) := by
  refine TrM_of (plainFor_of_name (by decide)) (Nat.le_of_ble_eq_true rfl) ?_
  unfold f_X3_faints
  change AW ρV γ l ck_X3_faints g 0 [(0, .ref x0), (1, .int x1)] [] g _
  refine r_aload_n (pc := 0) dX3_faints_0 rfl 0 rfl ?_
  refine r_iload_n (pc := 1) dX3_faints_1 rfl 1 rfl ?_
  refine r_putI (f := 17) (pc := 2) dX3_faints_2 q237 (Or.inl rfl) (Or.inl rfl) rfl (fun g1 => ?_)
  exact r_vret (pc := 5) dX3_faints_5 rfl
abbrev ck_X2_fainted : CK := ("BanquetVotes$Kitchen", prog_14_method_23_code, 4, (some .int), "fainted", [], 4)
def f_X2_fainted_L26 (γ : GP) (x2 : Nat) : Nat → Int32 → AH → Option (Int32 × AH)
  | 0, _, _ => none
  | n + 1, x1, g => bI ((if hK g x2 = 10 then f_J13_hasNext γ x2 g else if hK g x2 = 13 then f_J24_hasNext γ x2 g else if hK g x2 = 17 then f_J29_hasNext γ x2 g else if hK g x2 = 18 then f_J29_hasNext γ x2 g else none)) fun v11 g10 => (if v11 = 0 then (some (x1, g10)) else bR ((if hK g10 x2 = 10 then f_J13_next γ x2 g10 else if hK g10 x2 = 13 then f_J24_next γ x2 g10 else if hK g10 x2 = 17 then f_J31_next γ x2 g10 else if hK g10 x2 = 18 then f_J32_next γ x2 g10 else none)) fun v13 g12 => gC g12 [16] v13 (bI ((if hK g12 v13 = 16 then f_X3_hasFainted γ v13 g12 else none)) fun v15 g14 => (if v15 = 0 then f_X2_fainted_L26 γ x2 n (x1 + (0 : Int32)) g14 else f_X2_fainted_L26 γ x2 n (x1 + (1 : Int32)) g14)))
def f_X2_fainted (γ : GP) (x0 : Nat) (g : AH) : Option (Int32 × AH) := gR g x0 10 fun v1 => bI ((if hK g v1 = 4 then f_X3_hasFainted γ v1 g else none)) fun v3 g2 => jn (fun (z4 : Int32) (g5 : AH) => gR g5 x0 8 fun v7 => bR ((if hK g5 v7 = 3 then f_J2_iterator γ v7 g5 else none)) fun v9 g8 => f_X2_fainted_L26 γ v9 FU z4 g8) (fun (j6 : Int32 → AH → Option (Int32 × AH)) => (if v3 = 0 then j6 (0 : Int32) g2 else j6 (1 : Int32) g2))
theorem f_X2_fainted_L26_w (γ : GP) (l : Launch) (hl : l.stackTraces = false) (G0 : AH) (x2 : Nat) : ∀ (n : Nat) (x1 : Int32) (g : AH), AW ρI γ l ck_X2_fainted G0 26 [(1, .int x1), (2, .ref x2)] [] g (f_X2_fainted_L26 γ x2 n x1 g) := by
  intro n
  induction n with
  | zero => intro x1 g; exact AW_none
  | succ n ih =>
    intro x1 g
    unfold f_X2_fainted_L26
    refine r_aload_n (pc := 26) dX2_fainted_26 rfl 1 rfl ?_
    refine r_cI (pc := 27) (rest := []) (RunOK_if (fun h => run_F (n := 0) (c9 := 10) (As := []) (rest := []) (t_J13_hasNext γ l hl x2 g) dX2_fainted_27 q781 q800 q802 q126 q804 (by decide +kernel) (by decide +kernel) rfl h ⟨by decide, by decide⟩ (Nat.le_of_ble_eq_true rfl) (Nat.le_of_ble_eq_true rfl) rfl (Nat.le_of_ble_eq_true rfl)) (RunOK_if (fun h => run_F (n := 0) (c9 := 13) (As := []) (rest := []) (t_J24_hasNext γ l hl x2 g) dX2_fainted_27 q781 q809 q811 q139 q813 (by decide +kernel) (by decide +kernel) rfl h ⟨by decide, by decide⟩ (Nat.le_of_ble_eq_true rfl) (Nat.le_of_ble_eq_true rfl) rfl (Nat.le_of_ble_eq_true rfl)) (RunOK_if (fun h => run_F (n := 0) (c9 := 17) (As := []) (rest := []) (t_J29_hasNext γ l hl x2 g) dX2_fainted_27 q781 q821 q817 q145 q819 (by decide +kernel) (by decide +kernel) rfl h ⟨by decide, by decide⟩ (Nat.le_of_ble_eq_true rfl) (Nat.le_of_ble_eq_true rfl) rfl (Nat.le_of_ble_eq_true rfl)) (RunOK_chk (fun h => run_F (n := 0) (c9 := 18) (As := []) (rest := []) (t_J29_hasNext γ l hl x2 g) dX2_fainted_27 q781 q824 q817 q145 q819 (by decide +kernel) (by decide +kernel) rfl h ⟨by decide, by decide⟩ (Nat.le_of_ble_eq_true rfl) (Nat.le_of_ble_eq_true rfl) rfl (Nat.le_of_ble_eq_true rfl)))))) (fun v11 g10 => ?_)
    refine r_if_eq (tgt := 63) (pc := 32) dX2_fainted_32 (by decide) ?_ ?_
    · skip
      refine r_iload_n (pc := 63) dX2_fainted_63 rfl 0 rfl ?_
      exact r_iret (pc := 64) dX2_fainted_64 rfl
    · skip
      refine r_aload_n (pc := 35) dX2_fainted_35 rfl 1 rfl ?_
      refine r_cR (pc := 36) (rest := []) (RunOK_if (fun h => run_F (n := 0) (c9 := 10) (As := []) (rest := []) (t_J13_next γ l hl x2 g10) dX2_fainted_36 q827 q991 q993 q126 q995 (by decide +kernel) (by decide +kernel) rfl h ⟨by decide, by decide⟩ (Nat.le_of_ble_eq_true rfl) (Nat.le_of_ble_eq_true rfl) rfl (Nat.le_of_ble_eq_true rfl)) (RunOK_if (fun h => run_F (n := 0) (c9 := 13) (As := []) (rest := []) (t_J24_next γ l hl x2 g10) dX2_fainted_36 q827 q1015 q1017 q139 q1019 (by decide +kernel) (by decide +kernel) rfl h ⟨by decide, by decide⟩ (Nat.le_of_ble_eq_true rfl) (Nat.le_of_ble_eq_true rfl) rfl (Nat.le_of_ble_eq_true rfl)) (RunOK_if (fun h => run_F (n := 0) (c9 := 17) (As := []) (rest := []) (t_J31_next γ l hl x2 g10) dX2_fainted_36 q827 q1047 q1049 q147 q1051 (by decide +kernel) (by decide +kernel) rfl h ⟨by decide, by decide⟩ (Nat.le_of_ble_eq_true rfl) (Nat.le_of_ble_eq_true rfl) rfl (Nat.le_of_ble_eq_true rfl)) (RunOK_chk (fun h => run_F (n := 0) (c9 := 18) (As := []) (rest := []) (t_J32_next γ l hl x2 g10) dX2_fainted_36 q827 q1055 q1057 q148 q1059 (by decide +kernel) (by decide +kernel) rfl h ⟨by decide, by decide⟩ (Nat.le_of_ble_eq_true rfl) (Nat.le_of_ble_eq_true rfl) rfl (Nat.le_of_ble_eq_true rfl)))))) (fun v13 g12 => ?_)
      refine r_cast_ (L := [16]) (pc := 41) dX2_fainted_41 q1225 (List.forall_mem_cons.mpr ⟨⟨by decide, by decide, Or.inl rfl⟩, (fun _ h => absurd h List.not_mem_nil)⟩) ?_
      refine r_astore_n (pc := 44) dX2_fainted_44 rfl (Nat.le_of_ble_eq_true rfl) rfl ?_
      refine r_iload_n (pc := 45) dX2_fainted_45 rfl 1 rfl ?_
      refine r_aload_n (pc := 46) dX2_fainted_46 rfl 0 rfl ?_
      refine r_cI (pc := 47) (rest := [.int x1]) (RunOK_chk (fun h => run_U (n := 0) (c9 := 16) (As := []) (rest := [.int x1]) (owner := "BanquetVotes$Somebody") (t_X3_hasFainted γ l hl v13 g12) dX2_fainted_47 q2489 q2055 q2057 q2058 q113 q2059 rfl ⟨by decide, by decide, by decide +kernel⟩ rfl h ⟨by decide, by decide⟩ (Nat.le_of_ble_eq_true rfl) (Nat.le_of_ble_eq_true rfl) rfl (Nat.le_of_ble_eq_true rfl))) (fun v15 g14 => ?_)
      refine r_if_eq (tgt := 57) (pc := 50) dX2_fainted_50 (by decide) ?_ ?_
      · skip
        refine r_iconst (v := (0 : Int32)) (pc := 57) dX2_fainted_57 (by decide) ?_
        refine r_iadd (pc := 58) dX2_fainted_58 ?_
        refine r_istore_n (pc := 59) dX2_fainted_59 rfl (Nat.le_of_ble_eq_true rfl) rfl ?_
        refine r_goto (tgt := 26) (pc := 60) dX2_fainted_60 (by decide) ?_
        refine AW_sub [0, 2] rfl ?_
        exact ih (x1 + (0 : Int32)) g14
      · skip
        refine r_iconst (v := (1 : Int32)) (pc := 53) dX2_fainted_53 (by decide) ?_
        refine r_goto (tgt := 58) (pc := 54) dX2_fainted_54 (by decide) ?_
        refine r_iadd (pc := 58) dX2_fainted_58 ?_
        refine r_istore_n (pc := 59) dX2_fainted_59 rfl (Nat.le_of_ble_eq_true rfl) rfl ?_
        refine r_goto (tgt := 26) (pc := 60) dX2_fainted_60 (by decide) ?_
        refine AW_sub [0, 2] rfl ?_
        exact ih (x1 + (1 : Int32)) g14
theorem t_X2_fainted (γ : GP) (l : Launch) (hl : l.stackTraces = false) (x0 : Nat) (g : AH) : TrM ρI γ l ⟨"BanquetVotes$Kitchen", "fainted", "()I"⟩ (ws_ ⟨"BanquetVotes$Kitchen", "fainted", "()I"⟩ prog_14_method_23_code 4 (some .int)) 4 [.ref x0] g (f_X2_fainted γ x0 g) := by
  refine TrM_of (plainFor_of_name (by decide)) (Nat.le_of_ble_eq_true rfl) ?_
  unfold f_X2_fainted
  change AW ρI γ l ck_X2_fainted g 0 [(0, .ref x0)] [] g _
  refine r_aload_n (pc := 0) dX2_fainted_0 rfl 0 rfl ?_
  refine r_getR (f := 10) (pc := 1) dX2_fainted_1 q267 (Or.inl rfl) rfl (fun v1 => ?_)
  refine r_cI (pc := 4) (rest := []) (RunOK_chk (fun h => run_U (n := 0) (c9 := 4) (As := []) (rest := []) (owner := "BanquetVotes$Somebody") (t_X3_hasFainted γ l hl v1 g) dX2_fainted_4 q2359 q2360 q2361 q2058 q113 q2059 rfl ⟨by decide, by decide, by decide +kernel⟩ rfl h ⟨by decide, by decide⟩ (Nat.le_of_ble_eq_true rfl) (Nat.le_of_ble_eq_true rfl) rfl (Nat.le_of_ble_eq_true rfl))) (fun v3 g2 => ?_)
  refine AW_jn (P := fun (j : Int32 → AH → Option (Int32 × AH)) => ∀ (z4 : Int32) (g5 : AH), AW ρI γ l ck_X2_fainted g 15 [(0, .ref x0)] [.int z4] g5 (j z4 g5)) (fun z4 g5 => ?_) (fun j6 h_j6 => ?_)
  · skip
    refine r_istore_n (pc := 15) dX2_fainted_15 rfl (Nat.le_of_ble_eq_true rfl) rfl ?_
    refine r_aload_n (pc := 16) dX2_fainted_16 rfl 1 rfl ?_
    refine r_getR (f := 8) (pc := 17) dX2_fainted_17 q265 (Or.inl rfl) rfl (fun v7 => ?_)
    refine r_cR (pc := 20) (rest := []) (RunOK_chk (fun h => run_F (n := 0) (c9 := 3) (As := []) (rest := []) (t_J2_iterator γ l hl v7 g5) dX2_fainted_20 q354 q358 q360 q112 q362 (by decide +kernel) (by decide +kernel) rfl h ⟨by decide, by decide⟩ (Nat.le_of_ble_eq_true rfl) (Nat.le_of_ble_eq_true rfl) rfl (Nat.le_of_ble_eq_true rfl))) (fun v9 g8 => ?_)
    refine r_astore_n (pc := 25) dX2_fainted_25 rfl (Nat.le_of_ble_eq_true rfl) rfl ?_
    refine AW_sub [1, 0] rfl ?_
    refine f_X2_fainted_L26_w γ l hl _ v9 FU z4 g8
  · skip
    refine r_if_eq (tgt := 14) (pc := 7) dX2_fainted_7 (by decide) ?_ ?_
    · skip
      refine r_iconst (v := (0 : Int32)) (pc := 14) dX2_fainted_14 (by decide) ?_
      exact h_j6 (0 : Int32) g2
    · skip
      refine r_iconst (v := (1 : Int32)) (pc := 10) dX2_fainted_10 (by decide) ?_
      refine r_goto (tgt := 15) (pc := 11) dX2_fainted_11 (by decide) ?_
      exact h_j6 (1 : Int32) g2
abbrev ck_X2_faints : CK := ("BanquetVotes$Kitchen", prog_14_method_24_code, 2, (some .int), "faints", [], 8)
def f_X2_faints (γ : GP) (x0 : Nat) (x1 : Int32) (g : AH) : Option ((Int32 × AH) ⊕ (Nat × AH)) := bR ((if hK g x0 = 2 then f_X2_who γ x0 x1 g else none)) fun v2 g1 => bI ((if hK g1 v2 = 16 then f_X3_hasFainted γ v2 g1 else if hK g1 v2 = 4 then f_X3_hasFainted γ v2 g1 else none)) fun v4 g3 => jn (fun (z5 : Int32) (g6 : AH) => bXV (f_X1_meet γ z5 (8 : Int32) x1 g6) (fun e9 g10 => (thr e9 g10)) fun g8 => bR ((if hK g8 x0 = 2 then f_X2_who γ x0 x1 g8 else none)) fun v12 g11 => bV ((if hK g11 v12 = 16 then f_X3_faints γ v12 (1 : Int32) g11 else if hK g11 v12 = 4 then f_X3_faints γ v12 (1 : Int32) g11 else none)) fun g13 => bI ((if hK g13 x0 = 2 then f_X2_fainted γ x0 g13 else none)) fun v15 g14 => (some (.inl (v15, g14)))) (fun (j7 : Int32 → AH → Option ((Int32 × AH) ⊕ (Nat × AH))) => (if v4 = 0 then j7 (1 : Int32) g3 else j7 (0 : Int32) g3))
theorem t_X2_faints (γ : GP) (l : Launch) (hl : l.stackTraces = false) (x0 : Nat) (x1 : Int32) (g : AH) : TrM (ρX ρI) γ l ⟨"BanquetVotes$Kitchen", "faints", "(I)I"⟩ (ws_ ⟨"BanquetVotes$Kitchen", "faints", "(I)I"⟩ prog_14_method_24_code 2 (some .int)) 8 [.ref x0, .int x1] g (f_X2_faints γ x0 x1 g) := by
  refine TrM_of (plainFor_of_name (by decide)) (Nat.le_of_ble_eq_true rfl) ?_
  unfold f_X2_faints
  change AW (ρX ρI) γ l ck_X2_faints g 0 [(0, .ref x0), (1, .int x1)] [] g _
  refine r_aload_n (pc := 0) dX2_faints_0 rfl 0 rfl ?_
  refine r_iload_n (pc := 1) dX2_faints_1 rfl 1 rfl ?_
  refine r_cR (pc := 2) (rest := []) (RunOK_chk (fun h => run_V (n := 1) (c9 := 2) (As := [.int x1]) (rest := []) (t_X2_who γ l hl x0 x1 g) dX2_faints_2 q2474 q2475 q2476 q109 q2477 (by decide +kernel) rfl h ⟨rfl, by decide, by decide⟩ (Nat.le_of_ble_eq_true rfl) (Nat.le_of_ble_eq_true rfl) rfl (Nat.le_of_ble_eq_true rfl))) (fun v2 g1 => ?_)
  refine r_cI (pc := 5) (rest := []) (RunOK_if (fun h => run_U (n := 0) (c9 := 16) (As := []) (rest := []) (owner := "BanquetVotes$Somebody") (t_X3_hasFainted γ l hl v2 g1) dX2_faints_5 q2478 q3901 q3902 q2058 q113 q2059 rfl ⟨by decide, by decide, by decide +kernel⟩ rfl h ⟨by decide, by decide⟩ (Nat.le_of_ble_eq_true rfl) (Nat.le_of_ble_eq_true rfl) rfl (Nat.le_of_ble_eq_true rfl)) (RunOK_chk (fun h => run_U (n := 0) (c9 := 4) (As := []) (rest := []) (owner := "BanquetVotes$Somebody") (t_X3_hasFainted γ l hl v2 g1) dX2_faints_5 q2478 q3901 q3903 q2058 q113 q2059 rfl ⟨by decide, by decide, by decide +kernel⟩ rfl h ⟨by decide, by decide⟩ (Nat.le_of_ble_eq_true rfl) (Nat.le_of_ble_eq_true rfl) rfl (Nat.le_of_ble_eq_true rfl)))) (fun v4 g3 => ?_)
  refine AW_jn (P := fun (j : Int32 → AH → Option ((Int32 × AH) ⊕ (Nat × AH))) => ∀ (z5 : Int32) (g6 : AH), AW (ρX ρI) γ l ck_X2_faints g 16 [(0, .ref x0), (1, .int x1)] [.int z5] g6 (j z5 g6)) (fun z5 g6 => ?_) (fun j7 h_j7 => ?_)
  · skip
    refine r_bipush (v := (8 : Int32)) (pc := 16) dX2_faints_16 (by decide) ?_
    refine r_iload_n (pc := 18) dX2_faints_18 rfl 1 rfl ?_
    refine r_cXV (pc := 19) (rest := []) (run_SN (n := 3) (As := [.int z5, .int (8 : Int32), .int x1]) (rest := []) (t_X1_meet γ l hl z5 (8 : Int32) x1 g6) dX2_faints_19 mv1897 q1898 q108 q1899 (by decide +kernel) rfl (Nat.le_of_ble_eq_true rfl) (Nat.le_of_ble_eq_true rfl) rfl (Nat.le_of_ble_eq_true rfl)) (fun e9 g10 => ?_) (fun g8 => ?_)
    · skip
      exact x_out (by decide)
    · skip
      refine r_aload_n (pc := 22) dX2_faints_22 rfl 0 rfl ?_
      refine r_iload_n (pc := 23) dX2_faints_23 rfl 1 rfl ?_
      refine r_cR (pc := 24) (rest := []) (RunOK_chk (fun h => run_V (n := 1) (c9 := 2) (As := [.int x1]) (rest := []) (t_X2_who γ l hl x0 x1 g8) dX2_faints_24 q2474 q2475 q2476 q109 q2477 (by decide +kernel) rfl h ⟨rfl, by decide, by decide⟩ (Nat.le_of_ble_eq_true rfl) (Nat.le_of_ble_eq_true rfl) rfl (Nat.le_of_ble_eq_true rfl))) (fun v12 g11 => ?_)
      refine r_iconst (v := (1 : Int32)) (pc := 27) dX2_faints_27 (by decide) ?_
      refine r_cV (pc := 28) (rest := []) (RunOK_if (fun h => run_U (n := 1) (c9 := 16) (As := [.int (1 : Int32)]) (rest := []) (owner := "BanquetVotes$Somebody") (t_X3_faints γ l hl v12 (1 : Int32) g11) dX2_faints_28 q2479 q2481 q2482 q2480 q113 q2484 rfl ⟨by decide, by decide, by decide +kernel⟩ rfl h ⟨by decide, by decide⟩ (Nat.le_of_ble_eq_true rfl) (Nat.le_of_ble_eq_true rfl) rfl (Nat.le_of_ble_eq_true rfl)) (RunOK_chk (fun h => run_U (n := 1) (c9 := 4) (As := [.int (1 : Int32)]) (rest := []) (owner := "BanquetVotes$Somebody") (t_X3_faints γ l hl v12 (1 : Int32) g11) dX2_faints_28 q2479 q2481 q2483 q2480 q113 q2484 rfl ⟨by decide, by decide, by decide +kernel⟩ rfl h ⟨by decide, by decide⟩ (Nat.le_of_ble_eq_true rfl) (Nat.le_of_ble_eq_true rfl) rfl (Nat.le_of_ble_eq_true rfl)))) (fun g13 => ?_)
      refine r_aload_n (pc := 31) dX2_faints_31 rfl 0 rfl ?_
      refine r_cI (pc := 32) (rest := []) (RunOK_chk (fun h => run_V (n := 0) (c9 := 2) (As := []) (rest := []) (t_X2_fainted γ l hl x0 g13) dX2_faints_32 q2485 q2486 q2487 q109 q2488 (by decide +kernel) rfl h ⟨rfl, by decide, by decide⟩ (Nat.le_of_ble_eq_true rfl) (Nat.le_of_ble_eq_true rfl) rfl (Nat.le_of_ble_eq_true rfl))) (fun v15 g14 => ?_)
      exact r_inl (fun _ => rfl) (r_iret (pc := 35) dX2_faints_35 rfl)
  · skip
    refine r_if_ne (tgt := 15) (pc := 8) dX2_faints_8 (by decide) ?_ ?_
    · skip
      refine r_iconst (v := (1 : Int32)) (pc := 11) dX2_faints_11 (by decide) ?_
      refine r_goto (tgt := 16) (pc := 12) dX2_faints_12 (by decide) ?_
      exact h_j7 (1 : Int32) g3
    · skip
      refine r_iconst (v := (0 : Int32)) (pc := 15) dX2_faints_15 (by decide) ?_
      exact h_j7 (0 : Int32) g3
abbrev ck_X2_hostWakes : CK := ("BanquetVotes$Kitchen", prog_14_method_25_code, 3, (some .int), "hostWakes", [], 10)
def f_X2_hostWakes_L43 (γ : GP) (x0 : Nat) : Nat → Int32 → Int32 → AH → Option (Int32 × AH)
  | 0, _, _, _ => none
  | n + 1, x1, x2, g => gR g x0 9 fun v4 => bI ((if hK g v4 = 3 then f_J2_size γ v4 g else if hK g v4 = 5 then f_J4_size γ v4 g else none)) fun v6 g5 => (if v6 ≤ x2 then (some (x1, g5)) else bR ((if hK g5 x0 = 2 then f_X2_course γ x0 x2 g5 else none)) fun v8 g7 => bI ((if hK g7 v8 = 20 then f_X7_isDecided γ v8 g7 else none)) fun v10 g9 => (if v10 = 0 then f_X2_hostWakes_L43 γ x0 n (x1 + (0 : Int32)) (x2 + (1 : Int32)) g9 else bI ((if hK g9 x0 = 2 then f_X2_sendsAll γ x0 x2 g9 else none)) fun v12 g11 => f_X2_hostWakes_L43 γ x0 n (x1 + v12) (x2 + (1 : Int32)) g11))
def f_X2_hostWakes_L2 (γ : GP) (x0 : Nat) : Nat → Int32 → AH → Option (Int32 × AH)
  | 0, _, _ => none
  | n + 1, x1, g => gR g x0 9 fun v1 => bI ((if hK g v1 = 3 then f_J2_size γ v1 g else if hK g v1 = 5 then f_J4_size γ v1 g else none)) fun v3 g2 => (if v3 ≤ x1 then f_X2_hostWakes_L43 γ x0 FU (0 : Int32) (0 : Int32) g2 else bR ((if hK g2 x0 = 2 then f_X2_course γ x0 x1 g2 else none)) fun v14 g13 => bI ((if hK g13 v14 = 20 then f_X7_phase γ v14 g13 else none)) fun v16 g15 => (if v16 = (1 : Int32) then bV ((if hK g15 x0 = 2 then f_X2_settles γ x0 x1 (3 : Int32) g15 else none)) fun g17 => f_X2_hostWakes_L2 γ x0 n (x1 + (1 : Int32)) g17 else f_X2_hostWakes_L2 γ x0 n (x1 + (1 : Int32)) g15))
def f_X2_hostWakes (γ : GP) (x0 : Nat) (g : AH) : Option (Int32 × AH) := f_X2_hostWakes_L2 γ x0 FU (0 : Int32) g
theorem f_X2_hostWakes_L43_w (γ : GP) (l : Launch) (hl : l.stackTraces = false) (G0 : AH) (x0 : Nat) : ∀ (n : Nat) (x1 : Int32) (x2 : Int32) (g : AH), AW ρI γ l ck_X2_hostWakes G0 43 [(0, .ref x0), (1, .int x1), (2, .int x2)] [] g (f_X2_hostWakes_L43 γ x0 n x1 x2 g) := by
  intro n
  induction n with
  | zero => intro x1 x2 g; exact AW_none
  | succ n ih =>
    intro x1 x2 g
    unfold f_X2_hostWakes_L43
    refine r_iload_n (pc := 43) dX2_hostWakes_43 rfl 2 rfl ?_
    refine r_aload_n (pc := 44) dX2_hostWakes_44 rfl 0 rfl ?_
    refine r_getR (f := 9) (pc := 45) dX2_hostWakes_45 q266 (Or.inl rfl) rfl (fun v4 => ?_)
    refine r_cI (pc := 48) (rest := [.int x2]) (RunOK_if (fun h => run_F (n := 0) (c9 := 3) (As := []) (rest := [.int x2]) (t_J2_size γ l hl v4 g) dX2_hostWakes_48 q1888 q1891 q794 q112 q795 (by decide +kernel) (by decide +kernel) rfl h ⟨by decide, by decide⟩ (Nat.le_of_ble_eq_true rfl) (Nat.le_of_ble_eq_true rfl) rfl (Nat.le_of_ble_eq_true rfl)) (RunOK_chk (fun h => run_F (n := 0) (c9 := 5) (As := []) (rest := [.int x2]) (t_J4_size γ l hl v4 g) dX2_hostWakes_48 q1888 q1894 q797 q116 q798 (by decide +kernel) (by decide +kernel) rfl h ⟨by decide, by decide⟩ (Nat.le_of_ble_eq_true rfl) (Nat.le_of_ble_eq_true rfl) rfl (Nat.le_of_ble_eq_true rfl)))) (fun v6 g5 => ?_)
    refine r_icmp_ge (tgt := 85) (pc := 53) dX2_hostWakes_53 (by decide) ?_ ?_
    · skip
      refine r_iload_n (pc := 85) dX2_hostWakes_85 rfl 1 rfl ?_
      exact r_iret (pc := 86) dX2_hostWakes_86 rfl
    · skip
      refine r_iload_n (pc := 56) dX2_hostWakes_56 rfl 1 rfl ?_
      refine r_aload_n (pc := 57) dX2_hostWakes_57 rfl 0 rfl ?_
      refine r_iload_n (pc := 58) dX2_hostWakes_58 rfl 2 rfl ?_
      refine r_cR (pc := 59) (rest := [.int x1]) (RunOK_chk (fun h => run_V (n := 1) (c9 := 2) (As := [.int x2]) (rest := [.int x1]) (t_X2_course γ l hl x0 x2 g5) dX2_hostWakes_59 q2127 q2128 q2129 q109 q2130 (by decide +kernel) rfl h ⟨rfl, by decide, by decide⟩ (Nat.le_of_ble_eq_true rfl) (Nat.le_of_ble_eq_true rfl) rfl (Nat.le_of_ble_eq_true rfl))) (fun v8 g7 => ?_)
      refine r_cI (pc := 62) (rest := [.int x1]) (RunOK_chk (fun h => run_V (n := 0) (c9 := 20) (As := []) (rest := [.int x1]) (t_X7_isDecided γ l hl v8 g7) dX2_hostWakes_62 q2435 q2436 q2437 q150 q2438 (by decide +kernel) rfl h ⟨rfl, by decide, by decide⟩ (Nat.le_of_ble_eq_true rfl) (Nat.le_of_ble_eq_true rfl) rfl (Nat.le_of_ble_eq_true rfl))) (fun v10 g9 => ?_)
      refine r_if_eq (tgt := 76) (pc := 65) dX2_hostWakes_65 (by decide) ?_ ?_
      · skip
        refine r_iconst (v := (0 : Int32)) (pc := 76) dX2_hostWakes_76 (by decide) ?_
        refine r_iadd (pc := 77) dX2_hostWakes_77 ?_
        refine r_istore_n (pc := 78) dX2_hostWakes_78 rfl (Nat.le_of_ble_eq_true rfl) rfl ?_
        refine r_iinc (j := 2) (v := (x2 + (1 : Int32))) (pc := 79) dX2_hostWakes_79 rfl rfl (Nat.le_of_ble_eq_true rfl) rfl ?_
        refine r_goto (tgt := 43) (pc := 82) dX2_hostWakes_82 (by decide) ?_
        refine AW_sub [2, 1, 0] rfl ?_
        exact ih (x1 + (0 : Int32)) (x2 + (1 : Int32)) g9
      · skip
        refine r_aload_n (pc := 68) dX2_hostWakes_68 rfl 0 rfl ?_
        refine r_iload_n (pc := 69) dX2_hostWakes_69 rfl 2 rfl ?_
        refine r_cI (pc := 70) (rest := [.int x1]) (RunOK_chk (fun h => run_V (n := 1) (c9 := 2) (As := [.int x2]) (rest := [.int x1]) (t_X2_sendsAll γ l hl x0 x2 g9) dX2_hostWakes_70 q2447 q2449 qs25 q109 q2450 (by decide +kernel) rfl h ⟨rfl, by decide, by decide⟩ (Nat.le_of_ble_eq_true rfl) (Nat.le_of_ble_eq_true rfl) rfl (Nat.le_of_ble_eq_true rfl))) (fun v12 g11 => ?_)
        refine r_goto (tgt := 77) (pc := 73) dX2_hostWakes_73 (by decide) ?_
        refine r_iadd (pc := 77) dX2_hostWakes_77 ?_
        refine r_istore_n (pc := 78) dX2_hostWakes_78 rfl (Nat.le_of_ble_eq_true rfl) rfl ?_
        refine r_iinc (j := 2) (v := (x2 + (1 : Int32))) (pc := 79) dX2_hostWakes_79 rfl rfl (Nat.le_of_ble_eq_true rfl) rfl ?_
        refine r_goto (tgt := 43) (pc := 82) dX2_hostWakes_82 (by decide) ?_
        refine AW_sub [2, 1, 0] rfl ?_
        exact ih (x1 + v12) (x2 + (1 : Int32)) g11
theorem f_X2_hostWakes_L2_w (γ : GP) (l : Launch) (hl : l.stackTraces = false) (G0 : AH) (x0 : Nat) : ∀ (n : Nat) (x1 : Int32) (g : AH), AW ρI γ l ck_X2_hostWakes G0 2 [(0, .ref x0), (1, .int x1)] [] g (f_X2_hostWakes_L2 γ x0 n x1 g) := by
  intro n
  induction n with
  | zero => intro x1 g; exact AW_none
  | succ n ih =>
    intro x1 g
    unfold f_X2_hostWakes_L2
    refine r_iload_n (pc := 2) dX2_hostWakes_2 rfl 1 rfl ?_
    refine r_aload_n (pc := 3) dX2_hostWakes_3 rfl 0 rfl ?_
    refine r_getR (f := 9) (pc := 4) dX2_hostWakes_4 q266 (Or.inl rfl) rfl (fun v1 => ?_)
    refine r_cI (pc := 7) (rest := [.int x1]) (RunOK_if (fun h => run_F (n := 0) (c9 := 3) (As := []) (rest := [.int x1]) (t_J2_size γ l hl v1 g) dX2_hostWakes_7 q1888 q1891 q794 q112 q795 (by decide +kernel) (by decide +kernel) rfl h ⟨by decide, by decide⟩ (Nat.le_of_ble_eq_true rfl) (Nat.le_of_ble_eq_true rfl) rfl (Nat.le_of_ble_eq_true rfl)) (RunOK_chk (fun h => run_F (n := 0) (c9 := 5) (As := []) (rest := [.int x1]) (t_J4_size γ l hl v1 g) dX2_hostWakes_7 q1888 q1894 q797 q116 q798 (by decide +kernel) (by decide +kernel) rfl h ⟨by decide, by decide⟩ (Nat.le_of_ble_eq_true rfl) (Nat.le_of_ble_eq_true rfl) rfl (Nat.le_of_ble_eq_true rfl)))) (fun v3 g2 => ?_)
    refine r_icmp_ge (tgt := 39) (pc := 12) dX2_hostWakes_12 (by decide) ?_ ?_
    · skip
      refine r_iconst (v := (0 : Int32)) (pc := 39) dX2_hostWakes_39 (by decide) ?_
      refine r_istore_n (pc := 40) dX2_hostWakes_40 rfl (Nat.le_of_ble_eq_true rfl) rfl ?_
      refine r_iconst (v := (0 : Int32)) (pc := 41) dX2_hostWakes_41 (by decide) ?_
      refine r_istore_n (pc := 42) dX2_hostWakes_42 rfl (Nat.le_of_ble_eq_true rfl) rfl ?_
      refine AW_sub [2, 1, 0] rfl ?_
      refine f_X2_hostWakes_L43_w γ l hl _ x0 FU (0 : Int32) (0 : Int32) g2
    · skip
      refine r_aload_n (pc := 15) dX2_hostWakes_15 rfl 0 rfl ?_
      refine r_iload_n (pc := 16) dX2_hostWakes_16 rfl 1 rfl ?_
      refine r_cR (pc := 17) (rest := []) (RunOK_chk (fun h => run_V (n := 1) (c9 := 2) (As := [.int x1]) (rest := []) (t_X2_course γ l hl x0 x1 g2) dX2_hostWakes_17 q2127 q2128 q2129 q109 q2130 (by decide +kernel) rfl h ⟨rfl, by decide, by decide⟩ (Nat.le_of_ble_eq_true rfl) (Nat.le_of_ble_eq_true rfl) rfl (Nat.le_of_ble_eq_true rfl))) (fun v14 g13 => ?_)
      refine r_cI (pc := 20) (rest := []) (RunOK_chk (fun h => run_V (n := 0) (c9 := 20) (As := []) (rest := []) (t_X7_phase γ l hl v14 g13) dX2_hostWakes_20 q2131 q2132 q2133 q150 q2134 (by decide +kernel) rfl h ⟨rfl, by decide, by decide⟩ (Nat.le_of_ble_eq_true rfl) (Nat.le_of_ble_eq_true rfl) rfl (Nat.le_of_ble_eq_true rfl))) (fun v16 g15 => ?_)
      refine r_iconst (v := (1 : Int32)) (pc := 23) dX2_hostWakes_23 (by decide) ?_
      refine r_icmp_ne (tgt := 33) (pc := 24) dX2_hostWakes_24 (by decide) ?_ ?_
      · skip
        refine r_aload_n (pc := 27) dX2_hostWakes_27 rfl 0 rfl ?_
        refine r_iload_n (pc := 28) dX2_hostWakes_28 rfl 1 rfl ?_
        refine r_iconst (v := (3 : Int32)) (pc := 29) dX2_hostWakes_29 (by decide) ?_
        refine r_cV (pc := 30) (rest := []) (RunOK_chk (fun h => run_V (n := 2) (c9 := 2) (As := [.int x1, .int (3 : Int32)]) (rest := []) (t_X2_settles γ l hl x0 x1 (3 : Int32) g15) dX2_hostWakes_30 q2439 q2441 qs24 q109 q2442 (by decide +kernel) rfl h ⟨rfl, by decide, by decide⟩ (Nat.le_of_ble_eq_true rfl) (Nat.le_of_ble_eq_true rfl) rfl (Nat.le_of_ble_eq_true rfl))) (fun g17 => ?_)
        refine r_iinc (j := 1) (v := (x1 + (1 : Int32))) (pc := 33) dX2_hostWakes_33 rfl rfl (Nat.le_of_ble_eq_true rfl) rfl ?_
        refine r_goto (tgt := 2) (pc := 36) dX2_hostWakes_36 (by decide) ?_
        refine AW_sub [1, 0] rfl ?_
        exact ih (x1 + (1 : Int32)) g17
      · skip
        refine r_iinc (j := 1) (v := (x1 + (1 : Int32))) (pc := 33) dX2_hostWakes_33 rfl rfl (Nat.le_of_ble_eq_true rfl) rfl ?_
        refine r_goto (tgt := 2) (pc := 36) dX2_hostWakes_36 (by decide) ?_
        refine AW_sub [1, 0] rfl ?_
        exact ih (x1 + (1 : Int32)) g15
theorem t_X2_hostWakes (γ : GP) (l : Launch) (hl : l.stackTraces = false) (x0 : Nat) (g : AH) : TrM ρI γ l ⟨"BanquetVotes$Kitchen", "hostWakes", "()I"⟩ (ws_ ⟨"BanquetVotes$Kitchen", "hostWakes", "()I"⟩ prog_14_method_25_code 3 (some .int)) 10 [.ref x0] g (f_X2_hostWakes γ x0 g) := by
  refine TrM_of (plainFor_of_name (by decide)) (Nat.le_of_ble_eq_true rfl) ?_
  unfold f_X2_hostWakes
  change AW ρI γ l ck_X2_hostWakes g 0 [(0, .ref x0)] [] g _
  refine r_iconst (v := (0 : Int32)) (pc := 0) dX2_hostWakes_0 (by decide) ?_
  refine r_istore_n (pc := 1) dX2_hostWakes_1 rfl (Nat.le_of_ble_eq_true rfl) rfl ?_
  refine AW_sub [1, 0] rfl ?_
  refine f_X2_hostWakes_L2_w γ l hl _ x0 FU (0 : Int32) g
abbrev ck_X15_init : CK := ("BanquetVotes$Question", prog_17_method_1_code, 4, none, "<init>", [], 3)
def f_X15_init (γ : GP) (x0 : Nat) (x1 : Int32) (x2 : Int32) (x3 : Int32) (g : AH) : Option (AH) := bV ((if x0 ≠ 0 then f_J44_init γ x0 g else none)) fun g1 => pI γ g1 x0 120 x1 fun g2 => pI γ g2 x0 121 x2 fun g3 => pI γ g3 x0 122 x3 fun g4 => (some g4)
theorem t_X15_init (γ : GP) (l : Launch) (hl : l.stackTraces = false) (x0 : Nat) (x1 : Int32) (x2 : Int32) (x3 : Int32) (g : AH) : TrM ρV γ l ⟨"BanquetVotes$Question", "<init>", "(III)V"⟩ (ws_ ⟨"BanquetVotes$Question", "<init>", "(III)V"⟩ prog_17_method_1_code 4 none) 3 [.ref x0, .int x1, .int x2, .int x3] g (f_X15_init γ x0 x1 x2 x3 g) := by
  refine TrM_of (plainFor_of_name (by decide)) (Nat.le_of_ble_eq_true rfl) ?_
  unfold f_X15_init
  change AW ρV γ l ck_X15_init g 0 [(0, .ref x0), (1, .int x1), (2, .int x2), (3, .int x3)] [] g _
  refine r_aload_n (pc := 0) dX15_init_0 rfl 0 rfl ?_
  refine r_cV (pc := 1) (rest := []) (RunOK_chk (fun h => run_I (n := 0) (As := []) (rest := []) (t_J44_init γ l hl x0 g) dX15_init_1 q2511 q2417 q168 q2418 rfl (by decide +kernel) rfl h (Nat.le_of_ble_eq_true rfl) (Nat.le_of_ble_eq_true rfl) rfl (Nat.le_of_ble_eq_true rfl))) (fun g1 => ?_)
  refine r_aload_n (pc := 4) dX15_init_4 rfl 0 rfl ?_
  refine r_iload_n (pc := 5) dX15_init_5 rfl 1 rfl ?_
  refine r_putI (f := 120) (pc := 6) dX15_init_6 q2512 (Or.inl rfl) (Or.inr ⟨rfl, rfl⟩) rfl (fun g2 => ?_)
  refine r_aload_n (pc := 9) dX15_init_9 rfl 0 rfl ?_
  refine r_iload_n (pc := 10) dX15_init_10 rfl 2 rfl ?_
  refine r_putI (f := 121) (pc := 11) dX15_init_11 q2513 (Or.inl rfl) (Or.inr ⟨rfl, rfl⟩) rfl (fun g3 => ?_)
  refine r_aload_n (pc := 14) dX15_init_14 rfl 0 rfl ?_
  refine r_iload_n (pc := 15) dX15_init_15 rfl 3 rfl ?_
  refine r_putI (f := 122) (pc := 16) dX15_init_16 q2514 (Or.inl rfl) (Or.inr ⟨rfl, rfl⟩) rfl (fun g4 => ?_)
  exact r_vret (pc := 19) dX15_init_19 rfl
abbrev ck_X2_asksHost : CK := ("BanquetVotes$Kitchen", prog_14_method_26_code, 3, none, "asksHost", [], 6)
def f_X2_asksHost (γ : GP) (x0 : Nat) (x1 : Int32) (x2 : Int32) (g : AH) : Option (AH) := gR g x0 11 fun v1 => mO g 31 fun q2 g3 => bI ((if hK g3 x0 = 2 then f_X2_arrival γ x0 x1 g3 else none)) fun v5 g4 => bV ((if q2 ≠ 0 then f_X15_init γ q2 x1 x2 v5 g4 else none)) fun g6 => bI ((if hK g6 v1 = 5 then f_J4_add γ v1 q2 g6 else none)) fun v8 g7 => (some g7)
theorem t_X2_asksHost (γ : GP) (l : Launch) (hl : l.stackTraces = false) (x0 : Nat) (x1 : Int32) (x2 : Int32) (g : AH) : TrM ρV γ l ⟨"BanquetVotes$Kitchen", "asksHost", "(II)V"⟩ (ws_ ⟨"BanquetVotes$Kitchen", "asksHost", "(II)V"⟩ prog_14_method_26_code 3 none) 6 [.ref x0, .int x1, .int x2] g (f_X2_asksHost γ x0 x1 x2 g) := by
  refine TrM_of (plainFor_of_name (by decide)) (Nat.le_of_ble_eq_true rfl) ?_
  unfold f_X2_asksHost
  change AW ρV γ l ck_X2_asksHost g 0 [(0, .ref x0), (1, .int x1), (2, .int x2)] [] g _
  refine r_aload_n (pc := 0) dX2_asksHost_0 rfl 0 rfl ?_
  refine r_getR (f := 11) (pc := 1) dX2_asksHost_1 q268 (Or.inl rfl) rfl (fun v1 => ?_)
  refine r_new (c := 31) (pc := 4) dX2_asksHost_4 q2506 (by decide) (by decide) (fun q2 g3 => ?_)
  refine r_dup (pc := 7) dX2_asksHost_7 rfl ?_
  refine r_iload_n (pc := 8) dX2_asksHost_8 rfl 1 rfl ?_
  refine r_iload_n (pc := 9) dX2_asksHost_9 rfl 2 rfl ?_
  refine r_aload_n (pc := 10) dX2_asksHost_10 rfl 0 rfl ?_
  refine r_iload_n (pc := 11) dX2_asksHost_11 rfl 1 rfl ?_
  refine r_cI (pc := 12) (rest := [.int x2, .int x1, .ref q2, .ref q2, .ref v1]) (RunOK_chk (fun h => run_V (n := 1) (c9 := 2) (As := [.int x1]) (rest := [.int x2, .int x1, .ref q2, .ref q2, .ref v1]) (t_X2_arrival γ l hl x0 x1 g3) dX2_asksHost_12 q2408 q2410 qs23 q109 q2411 (by decide +kernel) rfl h ⟨rfl, by decide, by decide⟩ (Nat.le_of_ble_eq_true rfl) (Nat.le_of_ble_eq_true rfl) rfl (Nat.le_of_ble_eq_true rfl))) (fun v5 g4 => ?_)
  refine r_cV (pc := 15) (rest := [.ref q2, .ref v1]) (RunOK_chk (fun h => run_IN (n := 3) (As := [.int x1, .int x2, .int v5]) (rest := [.ref q2, .ref v1]) (t_X15_init γ l hl q2 x1 x2 v5 g4) dX2_asksHost_15 mv2508 q2509 q171 q2510 rfl (by decide +kernel) rfl h (Nat.le_of_ble_eq_true rfl) (Nat.le_of_ble_eq_true rfl) rfl (Nat.le_of_ble_eq_true rfl))) (fun g6 => ?_)
  refine r_cI (pc := 18) (rest := []) (RunOK_chk (fun h => run_V (n := 1) (c9 := 5) (As := [.ref q2]) (rest := []) (t_J4_add γ l hl v1 q2 g6) dX2_asksHost_18 q2430 q1398 q3900 q116 q1400 (by decide +kernel) rfl h ⟨rfl, by decide, by decide⟩ (Nat.le_of_ble_eq_true rfl) (Nat.le_of_ble_eq_true rfl) rfl (Nat.le_of_ble_eq_true rfl))) (fun v8 g7 => ?_)
  refine r_pop (pc := 21) dX2_asksHost_21 rfl ?_
  exact r_vret (pc := 22) dX2_asksHost_22 rfl
abbrev ck_X2_cookWakes : CK := ("BanquetVotes$Kitchen", prog_14_method_27_code, 5, (some .int), "cookWakes", [], 7)
def f_X2_cookWakes_L4 (γ : GP) (x0 : Nat) (x1 : Int32) : Nat → Int32 → Int32 → AH → Option (Int32 × AH)
  | 0, _, _, _ => none
  | n + 1, x2, x3, g => gR g x0 9 fun v1 => bI ((if hK g v1 = 3 then f_J2_size γ v1 g else if hK g v1 = 5 then f_J4_size γ v1 g else none)) fun v3 g2 => (if v3 ≤ x3 then (some (x2, g2)) else bR ((if hK g2 x0 = 2 then f_X2_course γ x0 x3 g2 else none)) fun v5 g4 => bR ((if hK g4 v5 = 20 then f_X7_of γ v5 x1 g4 else none)) fun v7 g6 => (if v7 = 0 then f_X2_cookWakes_L4 γ x0 x1 n x2 (x3 + (1 : Int32)) g6 else bI ((if hK g6 v7 = 22 then f_X8_isReady γ v7 g6 else none)) fun v9 g8 => (if v9 = 0 then f_X2_cookWakes_L4 γ x0 x1 n x2 (x3 + (1 : Int32)) g8 else bV ((if hK g8 x0 = 2 then f_X2_asksHost γ x0 x1 x3 g8 else none)) fun g10 => f_X2_cookWakes_L4 γ x0 x1 n (x2 + (1 : Int32)) (x3 + (1 : Int32)) g10)))
def f_X2_cookWakes (γ : GP) (x0 : Nat) (x1 : Int32) (g : AH) : Option (Int32 × AH) := f_X2_cookWakes_L4 γ x0 x1 FU (0 : Int32) (0 : Int32) g
theorem f_X2_cookWakes_L4_w (γ : GP) (l : Launch) (hl : l.stackTraces = false) (G0 : AH) (x0 : Nat) (x1 : Int32) : ∀ (n : Nat) (x2 : Int32) (x3 : Int32) (g : AH), AW ρI γ l ck_X2_cookWakes G0 4 [(0, .ref x0), (1, .int x1), (2, .int x2), (3, .int x3)] [] g (f_X2_cookWakes_L4 γ x0 x1 n x2 x3 g) := by
  intro n
  induction n with
  | zero => intro x2 x3 g; exact AW_none
  | succ n ih =>
    intro x2 x3 g
    unfold f_X2_cookWakes_L4
    refine r_iload_n (pc := 4) dX2_cookWakes_4 rfl 3 rfl ?_
    refine r_aload_n (pc := 5) dX2_cookWakes_5 rfl 0 rfl ?_
    refine r_getR (f := 9) (pc := 6) dX2_cookWakes_6 q266 (Or.inl rfl) rfl (fun v1 => ?_)
    refine r_cI (pc := 9) (rest := [.int x3]) (RunOK_if (fun h => run_F (n := 0) (c9 := 3) (As := []) (rest := [.int x3]) (t_J2_size γ l hl v1 g) dX2_cookWakes_9 q1888 q1891 q794 q112 q795 (by decide +kernel) (by decide +kernel) rfl h ⟨by decide, by decide⟩ (Nat.le_of_ble_eq_true rfl) (Nat.le_of_ble_eq_true rfl) rfl (Nat.le_of_ble_eq_true rfl)) (RunOK_chk (fun h => run_F (n := 0) (c9 := 5) (As := []) (rest := [.int x3]) (t_J4_size γ l hl v1 g) dX2_cookWakes_9 q1888 q1894 q797 q116 q798 (by decide +kernel) (by decide +kernel) rfl h ⟨by decide, by decide⟩ (Nat.le_of_ble_eq_true rfl) (Nat.le_of_ble_eq_true rfl) rfl (Nat.le_of_ble_eq_true rfl)))) (fun v3 g2 => ?_)
    refine r_icmp_ge (tgt := 56) (pc := 14) dX2_cookWakes_14 (by decide) ?_ ?_
    · skip
      refine r_iload_n (pc := 56) dX2_cookWakes_56 rfl 2 rfl ?_
      exact r_iret (pc := 57) dX2_cookWakes_57 rfl
    · skip
      refine r_aload_n (pc := 17) dX2_cookWakes_17 rfl 0 rfl ?_
      refine r_iload_n (pc := 18) dX2_cookWakes_18 rfl 3 rfl ?_
      refine r_cR (pc := 19) (rest := []) (RunOK_chk (fun h => run_V (n := 1) (c9 := 2) (As := [.int x3]) (rest := []) (t_X2_course γ l hl x0 x3 g2) dX2_cookWakes_19 q2127 q2128 q2129 q109 q2130 (by decide +kernel) rfl h ⟨rfl, by decide, by decide⟩ (Nat.le_of_ble_eq_true rfl) (Nat.le_of_ble_eq_true rfl) rfl (Nat.le_of_ble_eq_true rfl))) (fun v5 g4 => ?_)
      refine r_iload_n (pc := 22) dX2_cookWakes_22 rfl 1 rfl ?_
      refine r_cR (pc := 23) (rest := []) (RunOK_chk (fun h => run_V (n := 1) (c9 := 20) (As := [.int x1]) (rest := []) (t_X7_of γ l hl v5 x1 g4) dX2_cookWakes_23 q2066 q2067 q2068 q150 q2069 (by decide +kernel) rfl h ⟨rfl, by decide, by decide⟩ (Nat.le_of_ble_eq_true rfl) (Nat.le_of_ble_eq_true rfl) rfl (Nat.le_of_ble_eq_true rfl))) (fun v7 g6 => ?_)
      refine r_astore (pc := 26) dX2_cookWakes_26 (Nat.le_of_ble_eq_true rfl) rfl ?_
      refine r_aload (pc := 28) dX2_cookWakes_28 0 rfl ?_
      refine r_ifnull (tgt := 50) (pc := 30) dX2_cookWakes_30 (by decide) ?_ ?_
      · skip
        refine r_iinc (j := 4) (v := (x3 + (1 : Int32))) (pc := 50) dX2_cookWakes_50 rfl rfl (Nat.le_of_ble_eq_true rfl) rfl ?_
        refine r_goto (tgt := 4) (pc := 53) dX2_cookWakes_53 (by decide) ?_
        refine AW_sub [2, 3, 4, 0] rfl ?_
        exact ih x2 (x3 + (1 : Int32)) g6
      · skip
        refine r_aload (pc := 33) dX2_cookWakes_33 0 rfl ?_
        refine r_cI (pc := 35) (rest := []) (RunOK_chk (fun h => run_V (n := 0) (c9 := 22) (As := []) (rest := []) (t_X8_isReady γ l hl v7 g6) dX2_cookWakes_35 q2225 q2226 q2227 q157 q2228 (by decide +kernel) rfl h ⟨rfl, by decide, by decide⟩ (Nat.le_of_ble_eq_true rfl) (Nat.le_of_ble_eq_true rfl) rfl (Nat.le_of_ble_eq_true rfl))) (fun v9 g8 => ?_)
        refine r_if_eq (tgt := 50) (pc := 38) dX2_cookWakes_38 (by decide) ?_ ?_
        · skip
          refine r_iinc (j := 4) (v := (x3 + (1 : Int32))) (pc := 50) dX2_cookWakes_50 rfl rfl (Nat.le_of_ble_eq_true rfl) rfl ?_
          refine r_goto (tgt := 4) (pc := 53) dX2_cookWakes_53 (by decide) ?_
          refine AW_sub [2, 3, 4, 0] rfl ?_
          exact ih x2 (x3 + (1 : Int32)) g8
        · skip
          refine r_aload_n (pc := 41) dX2_cookWakes_41 rfl 1 rfl ?_
          refine r_iload_n (pc := 42) dX2_cookWakes_42 rfl 2 rfl ?_
          refine r_iload_n (pc := 43) dX2_cookWakes_43 rfl 4 rfl ?_
          refine r_cV (pc := 44) (rest := []) (RunOK_chk (fun h => run_V (n := 2) (c9 := 2) (As := [.int x1, .int x3]) (rest := []) (t_X2_asksHost γ l hl x0 x1 x3 g8) dX2_cookWakes_44 q2502 q2504 qs28 q109 q2505 (by decide +kernel) rfl h ⟨rfl, by decide, by decide⟩ (Nat.le_of_ble_eq_true rfl) (Nat.le_of_ble_eq_true rfl) rfl (Nat.le_of_ble_eq_true rfl))) (fun g10 => ?_)
          refine r_iinc (j := 3) (v := (x2 + (1 : Int32))) (pc := 47) dX2_cookWakes_47 rfl rfl (Nat.le_of_ble_eq_true rfl) rfl ?_
          refine r_iinc (j := 4) (v := (x3 + (1 : Int32))) (pc := 50) dX2_cookWakes_50 rfl rfl (Nat.le_of_ble_eq_true rfl) rfl ?_
          refine r_goto (tgt := 4) (pc := 53) dX2_cookWakes_53 (by decide) ?_
          refine AW_sub [3, 4, 1, 0] rfl ?_
          exact ih (x2 + (1 : Int32)) (x3 + (1 : Int32)) g10
theorem t_X2_cookWakes (γ : GP) (l : Launch) (hl : l.stackTraces = false) (x0 : Nat) (x1 : Int32) (g : AH) : TrM ρI γ l ⟨"BanquetVotes$Kitchen", "cookWakes", "(I)I"⟩ (ws_ ⟨"BanquetVotes$Kitchen", "cookWakes", "(I)I"⟩ prog_14_method_27_code 5 (some .int)) 7 [.ref x0, .int x1] g (f_X2_cookWakes γ x0 x1 g) := by
  refine TrM_of (plainFor_of_name (by decide)) (Nat.le_of_ble_eq_true rfl) ?_
  unfold f_X2_cookWakes
  change AW ρI γ l ck_X2_cookWakes g 0 [(0, .ref x0), (1, .int x1)] [] g _
  refine r_iconst (v := (0 : Int32)) (pc := 0) dX2_cookWakes_0 (by decide) ?_
  refine r_istore_n (pc := 1) dX2_cookWakes_1 rfl (Nat.le_of_ble_eq_true rfl) rfl ?_
  refine r_iconst (v := (0 : Int32)) (pc := 2) dX2_cookWakes_2 (by decide) ?_
  refine r_istore_n (pc := 3) dX2_cookWakes_3 rfl (Nat.le_of_ble_eq_true rfl) rfl ?_
  refine AW_sub [2, 3, 1, 0] rfl ?_
  refine f_X2_cookWakes_L4_w γ l hl _ x0 x1 FU (0 : Int32) (0 : Int32) g
abbrev ck_X2_wakes : CK := ("BanquetVotes$Kitchen", prog_14_method_28_code, 2, (some .int), "wakes", [], 11)
def f_X2_wakes (γ : GP) (x0 : Nat) (x1 : Int32) (g : AH) : Option ((Int32 × AH) ⊕ (Nat × AH)) := bR ((if hK g x0 = 2 then f_X2_who γ x0 x1 g else none)) fun v2 g1 => bI ((if hK g1 v2 = 16 then f_X3_hasFainted γ v2 g1 else if hK g1 v2 = 4 then f_X3_hasFainted γ v2 g1 else none)) fun v4 g3 => bXV (f_X1_meet γ v4 (8 : Int32) x1 g3) (fun e6 g7 => (thr e6 g7)) fun g5 => bR ((if hK g5 x0 = 2 then f_X2_who γ x0 x1 g5 else none)) fun v9 g8 => bV ((if hK g8 v9 = 16 then f_X3_faints γ v9 (0 : Int32) g8 else if hK g8 v9 = 4 then f_X3_faints γ v9 (0 : Int32) g8 else none)) fun g10 => (if x1 = (-1 : Int32) then bI ((if hK g10 x0 = 2 then f_X2_hostWakes γ x0 g10 else none)) fun v12 g11 => (some (.inl (v12, g11))) else bI ((if hK g10 x0 = 2 then f_X2_cookWakes γ x0 x1 g10 else none)) fun v14 g13 => (some (.inl (v14, g13))))
theorem t_X2_wakes (γ : GP) (l : Launch) (hl : l.stackTraces = false) (x0 : Nat) (x1 : Int32) (g : AH) : TrM (ρX ρI) γ l ⟨"BanquetVotes$Kitchen", "wakes", "(I)I"⟩ (ws_ ⟨"BanquetVotes$Kitchen", "wakes", "(I)I"⟩ prog_14_method_28_code 2 (some .int)) 11 [.ref x0, .int x1] g (f_X2_wakes γ x0 x1 g) := by
  refine TrM_of (plainFor_of_name (by decide)) (Nat.le_of_ble_eq_true rfl) ?_
  unfold f_X2_wakes
  change AW (ρX ρI) γ l ck_X2_wakes g 0 [(0, .ref x0), (1, .int x1)] [] g _
  refine r_aload_n (pc := 0) dX2_wakes_0 rfl 0 rfl ?_
  refine r_iload_n (pc := 1) dX2_wakes_1 rfl 1 rfl ?_
  refine r_cR (pc := 2) (rest := []) (RunOK_chk (fun h => run_V (n := 1) (c9 := 2) (As := [.int x1]) (rest := []) (t_X2_who γ l hl x0 x1 g) dX2_wakes_2 q2474 q2475 q2476 q109 q2477 (by decide +kernel) rfl h ⟨rfl, by decide, by decide⟩ (Nat.le_of_ble_eq_true rfl) (Nat.le_of_ble_eq_true rfl) rfl (Nat.le_of_ble_eq_true rfl))) (fun v2 g1 => ?_)
  refine r_cI (pc := 5) (rest := []) (RunOK_if (fun h => run_U (n := 0) (c9 := 16) (As := []) (rest := []) (owner := "BanquetVotes$Somebody") (t_X3_hasFainted γ l hl v2 g1) dX2_wakes_5 q2478 q3901 q3902 q2058 q113 q2059 rfl ⟨by decide, by decide, by decide +kernel⟩ rfl h ⟨by decide, by decide⟩ (Nat.le_of_ble_eq_true rfl) (Nat.le_of_ble_eq_true rfl) rfl (Nat.le_of_ble_eq_true rfl)) (RunOK_chk (fun h => run_U (n := 0) (c9 := 4) (As := []) (rest := []) (owner := "BanquetVotes$Somebody") (t_X3_hasFainted γ l hl v2 g1) dX2_wakes_5 q2478 q3901 q3903 q2058 q113 q2059 rfl ⟨by decide, by decide, by decide +kernel⟩ rfl h ⟨by decide, by decide⟩ (Nat.le_of_ble_eq_true rfl) (Nat.le_of_ble_eq_true rfl) rfl (Nat.le_of_ble_eq_true rfl)))) (fun v4 g3 => ?_)
  refine r_bipush (v := (8 : Int32)) (pc := 8) dX2_wakes_8 (by decide) ?_
  refine r_iload_n (pc := 10) dX2_wakes_10 rfl 1 rfl ?_
  refine r_cXV (pc := 11) (rest := []) (run_SN (n := 3) (As := [.int v4, .int (8 : Int32), .int x1]) (rest := []) (t_X1_meet γ l hl v4 (8 : Int32) x1 g3) dX2_wakes_11 mv1897 q1898 q108 q1899 (by decide +kernel) rfl (Nat.le_of_ble_eq_true rfl) (Nat.le_of_ble_eq_true rfl) rfl (Nat.le_of_ble_eq_true rfl)) (fun e6 g7 => ?_) (fun g5 => ?_)
  · skip
    exact x_out (by decide)
  · skip
    refine r_aload_n (pc := 14) dX2_wakes_14 rfl 0 rfl ?_
    refine r_iload_n (pc := 15) dX2_wakes_15 rfl 1 rfl ?_
    refine r_cR (pc := 16) (rest := []) (RunOK_chk (fun h => run_V (n := 1) (c9 := 2) (As := [.int x1]) (rest := []) (t_X2_who γ l hl x0 x1 g5) dX2_wakes_16 q2474 q2475 q2476 q109 q2477 (by decide +kernel) rfl h ⟨rfl, by decide, by decide⟩ (Nat.le_of_ble_eq_true rfl) (Nat.le_of_ble_eq_true rfl) rfl (Nat.le_of_ble_eq_true rfl))) (fun v9 g8 => ?_)
    refine r_iconst (v := (0 : Int32)) (pc := 19) dX2_wakes_19 (by decide) ?_
    refine r_cV (pc := 20) (rest := []) (RunOK_if (fun h => run_U (n := 1) (c9 := 16) (As := [.int (0 : Int32)]) (rest := []) (owner := "BanquetVotes$Somebody") (t_X3_faints γ l hl v9 (0 : Int32) g8) dX2_wakes_20 q2479 q2481 q2482 q2480 q113 q2484 rfl ⟨by decide, by decide, by decide +kernel⟩ rfl h ⟨by decide, by decide⟩ (Nat.le_of_ble_eq_true rfl) (Nat.le_of_ble_eq_true rfl) rfl (Nat.le_of_ble_eq_true rfl)) (RunOK_chk (fun h => run_U (n := 1) (c9 := 4) (As := [.int (0 : Int32)]) (rest := []) (owner := "BanquetVotes$Somebody") (t_X3_faints γ l hl v9 (0 : Int32) g8) dX2_wakes_20 q2479 q2481 q2483 q2480 q113 q2484 rfl ⟨by decide, by decide, by decide +kernel⟩ rfl h ⟨by decide, by decide⟩ (Nat.le_of_ble_eq_true rfl) (Nat.le_of_ble_eq_true rfl) rfl (Nat.le_of_ble_eq_true rfl)))) (fun g10 => ?_)
    refine r_iload_n (pc := 23) dX2_wakes_23 rfl 1 rfl ?_
    refine r_iconst (v := (-1 : Int32)) (pc := 24) dX2_wakes_24 (by decide) ?_
    refine r_icmp_ne (tgt := 35) (pc := 25) dX2_wakes_25 (by decide) ?_ ?_
    · skip
      refine r_aload_n (pc := 28) dX2_wakes_28 rfl 0 rfl ?_
      refine r_cI (pc := 29) (rest := []) (RunOK_chk (fun h => run_V (n := 0) (c9 := 2) (As := []) (rest := []) (t_X2_hostWakes γ l hl x0 g10) dX2_wakes_29 q2494 q2496 qs26 q109 q2497 (by decide +kernel) rfl h ⟨rfl, by decide, by decide⟩ (Nat.le_of_ble_eq_true rfl) (Nat.le_of_ble_eq_true rfl) rfl (Nat.le_of_ble_eq_true rfl))) (fun v12 g11 => ?_)
      refine r_goto (tgt := 40) (pc := 32) dX2_wakes_32 (by decide) ?_
      exact r_inl (fun _ => rfl) (r_iret (pc := 40) dX2_wakes_40 rfl)
    · skip
      refine r_aload_n (pc := 35) dX2_wakes_35 rfl 0 rfl ?_
      refine r_iload_n (pc := 36) dX2_wakes_36 rfl 1 rfl ?_
      refine r_cI (pc := 37) (rest := []) (RunOK_chk (fun h => run_V (n := 1) (c9 := 2) (As := [.int x1]) (rest := []) (t_X2_cookWakes γ l hl x0 x1 g10) dX2_wakes_37 q2498 q2500 qs27 q109 q2501 (by decide +kernel) rfl h ⟨rfl, by decide, by decide⟩ (Nat.le_of_ble_eq_true rfl) (Nat.le_of_ble_eq_true rfl) rfl (Nat.le_of_ble_eq_true rfl))) (fun v14 g13 => ?_)
      exact r_inl (fun _ => rfl) (r_iret (pc := 40) dX2_wakes_40 rfl)
abbrev ck_X2_checkDish : CK := ("BanquetVotes$Kitchen", prog_14_method_32_code, 3, none, "checkDish", [], 8)
def f_X2_checkDish (γ : GP) (x0 : Nat) (x1 : Int32) (x2 : Int32) (g : AH) : Option ((AH) ⊕ (Nat × AH)) := bR ((if hK g x0 = 2 then f_X2_course γ x0 x2 g else none)) fun v2 g1 => bR ((if hK g1 v2 = 20 then f_X7_of γ v2 x1 g1 else none)) fun v4 g3 => jn (fun (z5 : Int32) (g6 : AH) => bXV (f_X1_meet γ z5 (9 : Int32) x1 g6) (fun e9 g10 => (thr e9 g10)) fun g8 => (some (.inl g8))) (fun (j7 : Int32 → AH → Option ((AH) ⊕ (Nat × AH))) => (if v4 = 0 then j7 (0 : Int32) g3 else j7 (1 : Int32) g3))
theorem t_X2_checkDish (γ : GP) (l : Launch) (hl : l.stackTraces = false) (x0 : Nat) (x1 : Int32) (x2 : Int32) (g : AH) : TrM (ρX ρV) γ l ⟨"BanquetVotes$Kitchen", "checkDish", "(II)V"⟩ (ws_ ⟨"BanquetVotes$Kitchen", "checkDish", "(II)V"⟩ prog_14_method_32_code 3 none) 8 [.ref x0, .int x1, .int x2] g (f_X2_checkDish γ x0 x1 x2 g) := by
  refine TrM_of (plainFor_of_name (by decide)) (Nat.le_of_ble_eq_true rfl) ?_
  unfold f_X2_checkDish
  change AW (ρX ρV) γ l ck_X2_checkDish g 0 [(0, .ref x0), (1, .int x1), (2, .int x2)] [] g _
  refine r_aload_n (pc := 0) dX2_checkDish_0 rfl 0 rfl ?_
  refine r_iload_n (pc := 1) dX2_checkDish_1 rfl 2 rfl ?_
  refine r_cR (pc := 2) (rest := []) (RunOK_chk (fun h => run_V (n := 1) (c9 := 2) (As := [.int x2]) (rest := []) (t_X2_course γ l hl x0 x2 g) dX2_checkDish_2 q2127 q2128 q2129 q109 q2130 (by decide +kernel) rfl h ⟨rfl, by decide, by decide⟩ (Nat.le_of_ble_eq_true rfl) (Nat.le_of_ble_eq_true rfl) rfl (Nat.le_of_ble_eq_true rfl))) (fun v2 g1 => ?_)
  refine r_iload_n (pc := 5) dX2_checkDish_5 rfl 1 rfl ?_
  refine r_cR (pc := 6) (rest := []) (RunOK_chk (fun h => run_V (n := 1) (c9 := 20) (As := [.int x1]) (rest := []) (t_X7_of γ l hl v2 x1 g1) dX2_checkDish_6 q2066 q2067 q2068 q150 q2069 (by decide +kernel) rfl h ⟨rfl, by decide, by decide⟩ (Nat.le_of_ble_eq_true rfl) (Nat.le_of_ble_eq_true rfl) rfl (Nat.le_of_ble_eq_true rfl))) (fun v4 g3 => ?_)
  refine AW_jn (P := fun (j : Int32 → AH → Option ((AH) ⊕ (Nat × AH))) => ∀ (z5 : Int32) (g6 : AH), AW (ρX ρV) γ l ck_X2_checkDish g 17 [(1, .int x1)] [.int z5] g6 (j z5 g6)) (fun z5 g6 => ?_) (fun j7 h_j7 => ?_)
  · skip
    refine r_bipush (v := (9 : Int32)) (pc := 17) dX2_checkDish_17 (by decide) ?_
    refine r_iload_n (pc := 19) dX2_checkDish_19 rfl 0 rfl ?_
    refine r_cXV (pc := 20) (rest := []) (run_SN (n := 3) (As := [.int z5, .int (9 : Int32), .int x1]) (rest := []) (t_X1_meet γ l hl z5 (9 : Int32) x1 g6) dX2_checkDish_20 mv1897 q1898 q108 q1899 (by decide +kernel) rfl (Nat.le_of_ble_eq_true rfl) (Nat.le_of_ble_eq_true rfl) rfl (Nat.le_of_ble_eq_true rfl)) (fun e9 g10 => ?_) (fun g8 => ?_)
    · skip
      exact x_out (by decide)
    · skip
      exact r_inl (fun _ => rfl) (r_vret (pc := 23) dX2_checkDish_23 rfl)
  · skip
    refine r_ifnull (tgt := 16) (pc := 9) dX2_checkDish_9 (by decide) ?_ ?_
    · skip
      refine r_iconst (v := (0 : Int32)) (pc := 16) dX2_checkDish_16 (by decide) ?_
      refine AW_sub [1] rfl ?_
      exact h_j7 (0 : Int32) g3
    · skip
      refine r_iconst (v := (1 : Int32)) (pc := 12) dX2_checkDish_12 (by decide) ?_
      refine r_goto (tgt := 17) (pc := 13) dX2_checkDish_13 (by decide) ?_
      refine AW_sub [1] rfl ?_
      exact h_j7 (1 : Int32) g3
abbrev ck_X8_becomes : CK := ("BanquetVotes$Dish", prog_5_method_9_code, 3, none, "becomes", [], 1)
def f_X8_becomes (γ : GP) (x0 : Nat) (x1 : Nat) (x2 : Int32) (g : AH) : Option (AH) := pR γ g x0 95 x1 fun g1 => pI γ g1 x0 96 x2 fun g2 => (some g2)
theorem t_X8_becomes (γ : GP) (l : Launch) (hl : l.stackTraces = false) (x0 : Nat) (x1 : Nat) (x2 : Int32) (g : AH) : TrM ρV γ l ⟨"BanquetVotes$Dish", "becomes", "(LBanquetVotes$How;I)V"⟩ (ws_ ⟨"BanquetVotes$Dish", "becomes", "(LBanquetVotes$How;I)V"⟩ prog_5_method_9_code 3 none) 1 [.ref x0, .ref x1, .int x2] g (f_X8_becomes γ x0 x1 x2 g) := by
  refine TrM_of (plainFor_of_name (by decide)) (Nat.le_of_ble_eq_true rfl) ?_
  unfold f_X8_becomes
  change AW ρV γ l ck_X8_becomes g 0 [(0, .ref x0), (1, .ref x1), (2, .int x2)] [] g _
  refine r_aload_n (pc := 0) dX8_becomes_0 rfl 0 rfl ?_
  refine r_aload_n (pc := 1) dX8_becomes_1 rfl 1 rfl ?_
  refine r_putR (f := 95) (pc := 2) dX8_becomes_2 q1790 (Or.inl rfl) (Or.inl rfl) rfl (fun g1 => ?_)
  refine r_aload_n (pc := 5) dX8_becomes_5 rfl 0 rfl ?_
  refine r_iload_n (pc := 6) dX8_becomes_6 rfl 2 rfl ?_
  refine r_putI (f := 96) (pc := 7) dX8_becomes_7 q1791 (Or.inl rfl) (Or.inl rfl) rfl (fun g2 => ?_)
  exact r_vret (pc := 10) dX8_becomes_10 rfl
